/-! the model's machines: begin take machine -/
set_option maxRecDepth 100000
def wMa (d : Nat) (a j : Nat) : Prop := wSc a j ∨ 124 ≤ a ∧ a ≤ 130 ∧ j = d ∨ a = 131 ∧ 8 * d ≤ j ∧ j < 8 * d + 8 ∨ 132 ≤ a ∧ a ≤ 134 ∧ j = d ∨ a = 135 ∧ 1200 * d ≤ j ∧ j < 1200 * d + 1200
theorem wMa_M (d a j : Nat) (w : wMa d a j) : wvM a j := by unfold wMa wSc at w; unfold wvM wSc; omega
theorem wMa_all (d a j : Nat) (w : wMa d a j) : wAll a j := wvM_all a j (wMa_M d a j w)
def mSm (m : gM) : Prop := m.1 0 ≤ 1 ∧ m.2.1.length ≤ 7 ∧ m.2.2.length ≤ 1200
def maSm (v : Nat → gM) : Prop := ∀ d, d < 4 → mSm (v d)
theorem mMa_frd {h h' : zH} {d e : Nat} {m : gM} (f : fr (wMa d) h h') (hde : e ≠ d) (h1 : m.2.1.length ≤ 7) (h2 : m.2.2.length ≤ 1200) (mm : mMa h e m) : mMa h' e m := by
  refine ⟨(f.I (by unfold wMa wSc; omega)).trans mm.1, fun hb => ?_⟩
  obtain ⟨a1, a2, a3, a4, a5, a6, a7⟩ := mm.2 hb
  exact ⟨fun c hc => (f.I (by unfold wMa wSc; omega)).trans (a1 c hc), (f.I (by unfold wMa wSc; omega)).trans a2, fun i hi => (f.I (by unfold wMa wSc; omega)).trans (a3 i hi), (f.I (by unfold wMa wSc; omega)).trans a4, (f.I (by unfold wMa wSc; omega)).trans a5, (f.I (by unfold wMa wSc; omega)).trans a6, fun i hi => (f.I (by unfold wMa wSc; omega)).trans (a7 i hi)⟩
def gMt (v : Nat → gM) (d : Nat) (m : gM) : Nat → gM := fun e => if e = d then m else v e
theorem MR.upD {h h' : zH} {z : gZ} {d : Nat} {mm : gM} (m : MR h z) (w : maSm z.ma) (f : fr (wMa d) h h') (hg : mMa h' d mm) : MR h' (qM z (gMt z.ma d mm)) := by
  refine m.upM (f.mono (wMa_M d)) fun e he => ?_
  unfold gMt
  split
  · rename_i q
    subst q
    exact hg
  · rename_i q
    exact mMa_frd f q (w e he).2.1 (w e he).2.2 (m.ma e he)
def gMn (p wr r : Nat) : gM := (fun c => if c = 0 then 1 else if c = 1 then p else if c = 2 then wr else if c = 3 then r else if c = 5 then 4 else 0, [], [])
noncomputable def sp_begin (z : gZ) (d p wr rule : Int32) : Int32 × gZ := match vR d 0 3, vI p z.pg.1 with
  | some d, some p => if z.pg.2 p 1 0 = 0 then qT z (-5) else match vR rule 0 (if wr = 0 then 3 else 4) with
    | none => qT z (-1)
    | some r => (0, qM z (gMt z.ma d (gMn p (if wr = 0 then 0 else 1) r)))
  | _, _ => qT z (-1)
theorem m_begin {h : zH} {z : gZ} {x y wr rule : Int32} (m : MR h z) (w : pgWf z.pg) (wm : maSm z.ma) (hf : zB wr) : zw (fX9_begin h 92 x y wr rule) (mQ h (sp_begin z x y wr rule)) := by
  have hn := w.1
  have c0 := m.pg.1
  unfold fX9_begin sp_begin
  rcases vR_cases x 0 3 (by omega) (by omega) with ⟨t1, t9, -⟩ | ⟨d, -, hd, rfl, t1, t9, -⟩
  · rw [t1, show fX9_in x 0 3 = some 0 from t9]
    simp only [zw_b1, zw_some, if_true]
    exact m_tell' m (fr.refl _ _) neg1
  rw [t1, show fX9_in (nI d) 0 3 = some 1 from t9]
  rcases vI_cases y z.pg.1 (by omega) with ⟨e, hx⟩ | ⟨p, hp, rfl, e⟩
  · rw [e, m_isPage0 c0 (by omega) hx]
    simp only [zw_b1, zw_some, i10, if_false, if_true]
    exact m_tell' m (fr.refl _ _) neg1
  rw [e, m_isPage1 c0 (by omega) hp]
  have g := m.pg.2 p hp
  have s1 := (w.2 p hp).2.1
  simp (disch := omega) only [zw_b1, zw_some, i10, if_false, zw_ck, zw_ite, vin, nI_clamp, Nat.reduceAdd, Nat.reduceMul, Nat.reduceSub, Nat.reduceEqDiff, Nat.reduceLT, Nat.reduceLeDiff, reduceIte, true_and, and_true, false_and, and_false, ite_true, ite_false, if_true, if_false, not_true_eq_false, not_false_eq_true, g.c1, n_0]
  by_cases h1 : z.pg.2 p 1 0 = 0
  · simp only [h1, if_true]
    exact m_tell' m (fr.refl _ _) neg5
  simp only [h1, if_false]
  have hf' : zB wr = True := eq_true hf
  have fin : ∀ q : Nat, q ≤ 4 → (q = if wr = 0 then 3 else 4) → zw (fX9_begin_J51 h 92 (nI d) (nI p) wr rule (nI q) 0 rule) (mQ h (match vR rule 0 q with
    | none => qT z (-1)
    | some r => (0, qM z (gMt z.ma d (gMn p (if wr = 0 then 0 else 1) r))))) := by
    intro q hq _
    unfold fX9_begin_J51
    rcases vR_cases rule 0 q (by omega) (by omega) with ⟨t1, t9, -⟩ | ⟨r, -, hr, rfl, t1, t9, -⟩
    · rw [t1, show fX9_in rule 0 (nI q) = some 0 from t9]
      simp only [zw_b1, zw_some, if_true]
      exact m_tell' m (fr.refl _ _) neg1
    rw [t1, show fX9_in (nI r) 0 (nI q) = some 1 from t9]
    simp (disch := omega) only [zw_b1, zw_b2, zw_ck, zw_let, zw_ite, zw_some, i10, vin, nI_clamp, Nat.reduceAdd, Nat.reduceMul, Nat.reduceSub, Nat.reduceEqDiff, Nat.reduceLT, Nat.reduceLeDiff, reduceIte, true_and, and_true, false_and, and_false, ite_true, ite_false, if_true, if_false, not_true_eq_false, not_false_eq_true, hf']
    have f : fr (wMa d) h (zsI (zsI (zsI (zsI (zsI (zsI (zsI (zsI (zsI (zsI h 124 d 1) 125 d (nI p)) 126 d wr) 127 d (nI r)) 128 d 0) 129 d 4) 130 d 0) 132 d 0) 133 d 0) 134 d 0) := ((((((((((fr.refl _ h).sI (by unfold wMa wSc; omega) _).sI (by unfold wMa wSc; omega) _).sI (by unfold wMa wSc; omega) _).sI (by unfold wMa wSc; omega) _).sI (by unfold wMa wSc; omega) _).sI (by unfold wMa wSc; omega) _).sI (by unfold wMa wSc; omega) _).sI (by unfold wMa wSc; omega) _).sI (by unfold wMa wSc; omega) _).sI (by unfold wMa wSc; omega) _
    have ef : wr = nI (if wr = 0 then 0 else 1) := by rcases hf with rfl | rfl <;> rfl
    refine ⟨rfl, m.upD wm f ⟨?_, fun _ => ⟨fun c hc => ?_, ?_, fun i hi => absurd hi (Nat.not_lt_zero _), ?_, ?_, ?_, fun i hi => absurd hi (Nat.not_lt_zero _)⟩⟩, f.mono (wMa_all _)⟩
    · simp only [eI, Nat.reduceAdd, Nat.reduceMul, Nat.reduceSub, Nat.reduceEqDiff, Nat.reduceLT, Nat.reduceLeDiff, reduceIte, true_and, and_true, false_and, and_false, ite_true, ite_false, if_true, if_false, not_true_eq_false, not_false_eq_true, gMn]; rfl
    · have e6 : c = 0 ∨ c = 1 ∨ c = 2 ∨ c = 3 ∨ c = 4 ∨ c = 5 := by omega
      rcases e6 with rfl | rfl | rfl | rfl | rfl | rfl <;> simp only [eI, Nat.reduceAdd, Nat.reduceMul, Nat.reduceSub, Nat.reduceEqDiff, Nat.reduceLT, Nat.reduceLeDiff, reduceIte, true_and, and_true, false_and, and_false, ite_true, ite_false, if_true, if_false, not_true_eq_false, not_false_eq_true, gMn]
      · rfl
      · exact ef
      · rfl
      · rfl
    all_goals simp only [eI, Nat.reduceAdd, Nat.reduceMul, Nat.reduceSub, Nat.reduceEqDiff, Nat.reduceLT, Nat.reduceLeDiff, reduceIte, true_and, and_true, false_and, and_false, ite_true, ite_false, if_true, if_false, not_true_eq_false, not_false_eq_true, gMn]; rfl
  by_cases hw : wr = 0
  · simp only [hw, if_true]
    have := fin 3 (by omega) (by rw [if_pos hw])
    simp only [hw, if_true] at this
    exact this
  · simp only [hw, if_false]
    have := fin 4 (by omega) (by rw [if_neg hw])
    simp only [hw, if_false] at this
    exact this
noncomputable def sp_take (z : gZ) (d : Int32) : Int32 × gZ := match vR d 0 3 with
  | none => qT z (-1)
  | some d => if (z.ma d).1 0 = 0 ∨ (z.ma d).2.2 = [] then qT z (-2) else (nI ((z.ma d).2.2.getD 0 0), qM z (gMt z.ma d ((z.ma d).1, (z.ma d).2.1, (z.ma d).2.2.tail)))
theorem gD_tl (l : List Nat) (k : Nat) : l.tail.getD k 0 = l.getD (k + 1) 0 := by
  cases l <;> simp
theorem m_take {h : zH} {z : gZ} {x : Int32} (m : MR h z) (wm : maSm z.ma) : zw (fX9_take h 92 x) (mQ h (sp_take z x)) := by
  unfold fX9_take sp_take
  rcases vR_cases x 0 3 (by omega) (by omega) with ⟨t1, t9, -⟩ | ⟨d, -, hd, rfl, t1, t9, -⟩
  · rw [t1, show fX9_in x 0 3 = some 0 from t9]
    simp only [zw_b1, zw_some, if_true]
    exact m_tell' m (fr.refl _ _) neg1
  rw [t1, show fX9_in (nI d) 0 3 = some 1 from t9]
  obtain ⟨w0, w1, w2⟩ := wm d (by omega)
  obtain ⟨b0, bb⟩ := m.ma d (by omega)
  simp (disch := omega) only [zw_b1, zw_some, i10, if_false, zw_ck, zw_ite, vin, nI_clamp, Nat.reduceAdd, Nat.reduceMul, Nat.reduceSub, Nat.reduceEqDiff, Nat.reduceLT, Nat.reduceLeDiff, reduceIte, true_and, and_true, false_and, and_false, ite_true, ite_false, if_true, if_false, not_true_eq_false, not_false_eq_true, b0, n_0]
  by_cases h0 : (z.ma d).1 0 = 0
  · simp only [h0, true_or, if_true]
    exact m_tell' m (fr.refl _ _) neg2
  obtain ⟨a1, a2, a3, a4, a5, a6, a7⟩ := bb (by omega)
  simp (disch := omega) only [h0, false_or, if_false, a6, n_0, List.length_eq_zero_iff]
  by_cases h1 : (z.ma d).2.2 = []
  · simp only [h1, if_true]
    exact m_tell' m (fr.refl _ _) neg2
  have hl : 0 < (z.ma d).2.2.length := List.length_pos_iff.mpr h1
  simp (disch := omega) only [h1, if_false, zw_let, li, pk_mul, nI_clamp, vin, Nat.reduceAdd, Nat.reduceMul, Nat.reduceSub, Nat.reduceEqDiff, Nat.reduceLT, Nat.reduceLeDiff, reduceIte, true_and, and_true, false_and, and_false, ite_true, ite_false, if_true, if_false, not_true_eq_false, not_false_eq_true, pk_sub]
  have hz := a7 0 hl
  refine zw_for (fun i s => s.2 = nI i ∧ fr (wMa d) h s.1 ∧ (∀ c, c < 7 → zI s.1 (124 + c) d = zI h (124 + c) d) ∧ (∀ i, zI s.1 131 i = zI h 131 i) ∧ (∀ c, c < 2 → zI s.1 (132 + c) d = zI h (132 + c) d) ∧ zI s.1 134 d = nI ((z.ma d).2.2.length - 1) ∧ ∀ j, j < (z.ma d).2.2.length → zI s.1 135 (1200 * d + j) = nI (if j < i then (z.ma d).2.2.getD (j + 1) 0 else (z.ma d).2.2.getD j 0)) ((z.ma d).2.2.length - 1) ?_ ⟨rfl, (fr.refl _ h).sI (by unfold wMa wSc; omega) _, fun c hc => by rw [eI, if_neg (by omega)], fun i => by rw [eI, if_neg (by omega)], fun c hc => by rw [eI, if_neg (by omega)], by rw [eI, if_pos ⟨rfl, rfl⟩], fun j hj => by rw [eI, if_neg (by omega), if_neg (by omega)]; exact a7 j hj⟩
  rintro i ⟨h1, x⟩ hi ⟨rfl, f, e1, e2, e3, e4, e5⟩
  dsimp only at f e1 e2 e3 e4 e5 ⊢
  unfold fX9_take_L63
  simp (disch := omega) only [zw_b1, zw_b2, zw_ck, zw_let, zw_ite, zw_some, vin, nI_clamp, e4, Nat.reduceAdd, Nat.reduceMul, Nat.reduceSub, Nat.reduceEqDiff, Nat.reduceLT, Nat.reduceLeDiff, reduceIte, true_and, and_true, false_and, and_false, ite_true, ite_false, if_true, if_false, not_true_eq_false, not_false_eq_true, nI_leI, li, pk_mul, nI_add]
  split
  · have hi' : i = (z.ma d).2.2.length - 1 := by omega
    refine ⟨?_, m.upD wm f ⟨(e1 0 (by omega)).trans b0, fun _ => ⟨fun c hc => (e1 c (by omega)).trans (a1 c hc), (e1 6 (by omega)).trans a2, fun i hi => (e2 _).trans (a3 i hi), (e3 0 (by omega)).trans a4, (e3 1 (by omega)).trans a5, ?_, fun j hj => ?_⟩⟩, f.mono (wMa_all _)⟩
    · exact hz
    · rw [e4, List.length_tail]
    · rw [List.length_tail] at hj
      rw [e5 j (by omega), if_pos (by omega), gD_tl]
  · refine ⟨by omega, f.sI (by unfold wMa wSc; omega) _, fun c hc => ?_, fun k => ?_, fun c hc => ?_, ?_, fun j hj => ?_⟩
    · rw [eI, if_neg (by omega)]; exact e1 c hc
    · rw [eI, if_neg (by omega)]; exact e2 k
    · rw [eI, if_neg (by omega)]; exact e3 c hc
    · rw [eI, if_neg (by omega)]; exact e4
    · rw [eI]
      by_cases q : j = i
      · subst q
        rw [if_pos ⟨rfl, rfl⟩, show 1200 * d + j + 1 = 1200 * d + (j + 1) by omega, e5 (j + 1) (by omega), if_neg (by omega), if_pos (by omega)]
      · rw [if_neg (by omega), e5 j hj]
        by_cases q2 : j < i
        · rw [if_pos q2, if_pos (by omega)]
        · rw [if_neg q2, if_neg (by omega)]
noncomputable def sp_machine (z : gZ) (d y : Int32) : Int32 × gZ := match vR d 0 3 with
  | none => qT z (-1)
  | some d => if (z.ma d).1 0 = 0 then qT z (-2) else if y = 0 then (nI (z.ma d).2.2.length, z) else if y = 1 then (nI ((z.ma d).1 4), z) else if y = 2 then (nI ((z.ma d).1 5), z) else if y = 3 then (nI (z.ma d).2.1.length, z) else if y = 4 then (nI ((z.ma d).1 7), z) else qT z (-1)
theorem m_machine {h : zH} {z : gZ} {x y : Int32} (m : MR h z) (wm : maSm z.ma) : zw (fX9_machine h 92 x y) (mQ h (sp_machine z x y)) := by
  unfold fX9_machine sp_machine
  rcases vR_cases x 0 3 (by omega) (by omega) with ⟨t1, t9, -⟩ | ⟨d, -, hd, rfl, t1, t9, -⟩
  · rw [t1, show fX9_in x 0 3 = some 0 from t9]
    simp only [zw_b1, zw_some, if_true]
    exact m_tell' m (fr.refl _ _) neg1
  rw [t1, show fX9_in (nI d) 0 3 = some 1 from t9]
  obtain ⟨w0, w1, w2⟩ := wm d (by omega)
  obtain ⟨b0, bb⟩ := m.ma d (by omega)
  simp only [zw_b1, zw_some, i10, if_false]
  rw [zw_ck, nI_clamp (by omega)]
  refine ⟨vin (by omega) (by omega), ?_⟩
  by_cases h0 : (z.ma d).1 0 = 0
  · rw [if_pos (show zI h (92 + 32) d = 0 from by rw [show 92 + 32 = 124 from rfl, b0, h0]; rfl), if_pos h0]
    exact m_tell' m (fr.refl _ _) neg2
  obtain ⟨a1, a2, a3, a4, a5, a6, a7⟩ := bb (by omega)
  rw [if_neg (show ¬ zI h (92 + 32) d = 0 from by rw [show 92 + 32 = 124 from rfl, b0, n_0 (by omega)]; exact h0), if_neg h0]
  have fin : ∀ v w : Int32, v = w → zw (zck (vp_in (nI d) 4) (some (v, h))) (mQ h (w, z)) := fun v w hv => by
    rw [zw_ck, zw_some]
    exact ⟨vin (by omega) (by omega), hv, m, fr.refl _ _⟩
  by_cases y0 : y = 0
  · rw [if_pos y0, if_pos y0]; exact fin _ _ a6
  rw [if_neg y0, if_neg y0]
  by_cases y1 : y = 1
  · rw [if_pos y1, if_pos y1]; exact fin _ _ (a1 4 (by omega))
  rw [if_neg y1, if_neg y1]
  by_cases y2 : y = 2
  · rw [if_pos y2, if_pos y2]; exact fin _ _ (a1 5 (by omega))
  rw [if_neg y2, if_neg y2]
  by_cases y3 : y = 3
  · rw [if_pos y3, if_pos y3]; exact fin _ _ a2
  rw [if_neg y3, if_neg y3]
  by_cases y4 : y = 4
  · rw [if_pos y4, if_pos y4]; exact fin _ _ a5
  rw [if_neg y4, if_neg y4]
  exact m_tell' m (fr.refl _ _) neg1
