/-! the model reads all: decode, faults, misread, detect -/
set_option maxRecDepth 100000
theorem bt_drop (l : List Nat) (k i : Nat) : bt (l.drop k) i = bt l (k + i) := by
  unfold bt
  rw [List.getD_eq_getElem?_getD, List.getD_eq_getElem?_getD, List.getElem?_drop]
theorem rAt_drop {h : zH} {r k N : Nat} {l : List Nat} (ht : zT h r = (100, N)) (hN : N < 2 ^ 30) (hl : l.length ≤ N) (hw : rw h r l) (hB : isB l) (hk : k ≤ l.length) : rAt h r k (l.drop k) := by
  refine ⟨by rw [ht], by rw [ht, List.length_drop]; show _ ≤ N; omega, by rw [ht]; exact hN, fun i hi => ?_, hB.drop k⟩
  rw [List.length_drop] at hi
  rw [bt_drop]
  exact hw (k + i) (by omega)
theorem units_len (v : Nat) : (units v).length ≤ 2 := by unfold units; split <;> simp
theorem gR1_wf {g : gP} {rule sg st pd : Nat} {l : List Nat} (sm : gSm g) (hst : st < 4) (hpd : pd ≤ 4) : (gR1 g rule sg st pd l).2.2.1 < 4 ∧ (gR1 g rule sg st pd l).2.2.2.1 ≤ 4 ∧ (gR1 g rule sg st pd l).2.1.length ≤ 2 ∧ (gR1 g rule sg st pd l).2.2.2.2 ≤ 1 := by
  unfold gR1
  split
  · exact ⟨hst, Nat.le_refl _, units_len _, Nat.zero_le _⟩
  · split
    · rename_i h3
      have ws := sm.2.2.2.2.2 _ (gLk_sh h3).2.2.1
      split
      · exact ⟨hst, by have := ws.2.2.1; show g 11 _ ≤ 4; omega, Nat.zero_le _, Nat.zero_le _⟩
      · exact ⟨ws.2.2.1, hpd, Nat.zero_le _, Nat.zero_le _⟩
    · refine ⟨hst, Nat.le_refl _, ?_, Nat.le_refl _⟩
      show (if rule = 1 then units sg else if rule = 3 then [56320 + bt l 0] else []).length ≤ 2
      split
      · exact units_len _
      · split <;> simp
def wRd (ob a j : Nat) : Prop := a = ob ∨ a = 92 ∧ 34 ≤ j ∧ j ≤ 42
theorem wRd_Sc {ob a j : Nat} (ho : ob = 117 ∨ ob = 118 ∨ ob = 119 ∨ ob = 137) (w : wRd ob a j) : wSc a j := by unfold wRd at w; unfold wSc; omega
/-- the bytes are sound -/
def byWf (z : gZ) : Prop := z.by.length ≤ 1000 ∧ isB z.by ∧ z.sg.1 ≤ 1114111 ∧ z.sg.2 ≤ 1114111
theorem m_readAll {h : zH} {z : gZ} {p rule ob : Nat} (m : MR h z) (w : pgWf z.pg) (wb : byWf z) (hp : p < z.pg.1) (hr : rule ≤ 3) (ho : ob = 117 ∨ ob = 118) : zw (fX9_readAll h 92 (nI p) (nI rule) ob) (fun y => ((gRead (z.pg.2 p) rule z.sg.1 true 0 4 z.by [] 0).1 = 1 → y.1 = -9 ∧ zI y.2 92 22 = nI (z.by.length - (gRead (z.pg.2 p) rule z.sg.1 true 0 4 z.by [] 0).2.2.2.1.length) ∧ fr (fun a j => wRd ob a j ∨ a = 92 ∧ j = 22) h y.2) ∧ ((gRead (z.pg.2 p) rule z.sg.1 true 0 4 z.by [] 0).1 ≠ 1 → y.1 = nI (gRead (z.pg.2 p) rule z.sg.1 true 0 4 z.by [] 0).2.2.2.2.1.length ∧ (gRead (z.pg.2 p) rule z.sg.1 true 0 4 z.by [] 0).2.2.2.2.1.length ≤ 2000 ∧ rw y.2 ob (gRead (z.pg.2 p) rule z.sg.1 true 0 4 z.by [] 0).2.2.2.2.1 ∧ zI y.2 92 39 = nI (gRead (z.pg.2 p) rule z.sg.1 true 0 4 z.by [] 0).2.2.2.2.2 ∧ fr (wRd ob) h y.2)) := by
  have hn := w.1
  obtain ⟨wb1, wb2, wb3, wb4⟩ := wb
  obtain ⟨b1, b2⟩ := m.by
  have sm := w.2 p hp
  have g := m.pg.2 p hp
  have tby : zT h 106 = (100, 1000) := m.st.T 14 rfl
  have tob : zT h ob = (100, 4000) := by rcases ho with rfl | rfl; exact m.st.T 25 rfl; exact m.st.T 26 rfl
  have hsg := m.sg.1
  unfold fX9_readAll
  rw [zw_let, zw_let, zw_let, zw_let, zw_let]
  generalize hG : z.pg.2 p = G at *
  generalize hFin : gRead G rule z.sg.1 true 0 4 z.by [] 0 = FIN at *
  have t92 : zT h 92 = (8, 0) := m.st.T 0 rfl
  have f0 : fr (wRd ob) h (zsI (zsI (zsP (zsI (zsI h 92 34 0) 92 35 4) 92 36 (some ob)) 92 37 0) 92 39 0) := ((((((fr.refl _ h).sI (by unfold wRd; omega) _).sI (by unfold wRd; omega) _).sP (by unfold wRd; omega) (by rw [t92]; rfl) _).sI (by unfold wRd; omega) _).sI (by unfold wRd; omega) _)
  have R0 : RD (zsI (zsI (zsP (zsI (zsI h 92 34 0) 92 35 4) 92 36 (some ob)) 92 37 0) 92 39 0) ob 0 4 [] 0 := by
    refine ⟨?_, ?_, ?_, ?_, fun k hk => absurd hk (Nat.not_lt_zero _), ?_⟩ <;> simp only [eI, eIT, eIP, eIL, ePI, ePT, ePP, ePL, eLI, eLT, eLP, eLL, eIn, ePn, eLn, Nat.reduceAdd, Nat.reduceMul, Nat.reduceSub, Nat.reduceEqDiff, Nat.reduceLT, Nat.reduceLeDiff, reduceIte, true_and, and_true, false_and, and_false, ite_true, ite_false, if_true, if_false, not_true_eq_false, not_false_eq_true] <;> rfl
  refine zw_for (fun i s => ∃ st pd o f at', s.2 = nI at' ∧ i ≤ at' ∧ at' ≤ z.by.length ∧ RD s.1 ob st pd o f ∧ st < 4 ∧ pd ≤ 4 ∧ o.length ≤ 2 * at' ∧ fr (wRd ob) h s.1 ∧ FIN = gRead G rule z.sg.1 true st pd (z.by.drop at') o f) z.by.length ?_ ⟨0, 4, [], 0, 0, rfl, Nat.le_refl _, Nat.zero_le _, R0, by omega, by omega, Nat.le_refl _, f0, hFin.symm⟩
  rintro i ⟨h1, x⟩ hi ⟨st, pd, o, f, at', rfl, hia, hal, R, hst, hpd, hol, fq, hE⟩
  dsimp only at R fq ⊢
  unfold fX9_readAll_L28
  rw [show zI h1 92 14 = nI z.by.length from (fq.I (by unfold wRd; omega)).trans b1]
  by_cases he : at' = z.by.length
  · subst he
    rw [if_pos (Int32.le_refl _), zw_some, R.2.2.2.1]
    rw [List.drop_length, gRead_nil] at hE
    rw [hE]
    exact ⟨fun q => absurd q (by show ¬ (0 : Nat) = 1; omega), fun _ => ⟨rfl, by show o.length ≤ 2000; omega, R.2.2.2.2.1, R.2.2.2.2.2, fq⟩⟩
  rw [if_neg (by rw [nI_leI (by omega) (by omega)]; omega), zw_b2]
  have hne : z.by.drop at' ≠ [] := by
    intro q
    have := congrArg List.length q
    rw [List.length_drop] at this
    have : z.by.length - at' = 0 := this
    omega
  have rat : rAt h1 106 at' (z.by.drop at') := rAt_drop (by rw [fq.T]; exact tby) (by omega) wb1 (fun k hk => (fq.I (by unfold wRd; omega)).trans (b2 k hk)) wb2 hal
  have e1 : nI z.by.length = nI (at' + (z.by.drop at').length) := by rw [List.length_drop]; congr 1; omega
  rw [e1]
  have ok1 : obOk h1 ob := ⟨by omega, by rw [fq.T, tob, if_neg (by omega), if_neg (by omega)]⟩
  refine (m_readOne (x6 := 1) (sg := z.sg.1) (rule := rule) rat hne (by omega) (g.fr fq (fun a j q1 q2 => by unfold wRd; omega)) sm R ok1 hst hpd (by rw [fq.T, tob]; show o.length + 1 < 4000; omega) hr ((fq.I (by unfold wRd; omega)).trans hsg) wb3 (by omega)).mono ?_
  rintro ⟨v, h2⟩ ⟨-, k2, k3, f2⟩
  dsimp only at k2 k3 f2 ⊢
  have nw : ¬ ((gLk G st pd (z.by.drop at')).1 = 1 ∧ (1 : Int32) = 0) := fun q => absurd q.2 (by decide)
  by_cases rf : (gLk G st pd (z.by.drop at')).1 ≤ 1 ∧ rule = 0
  · obtain ⟨rfl, R2⟩ := k2 nw rf
    rw [if_neg (by rw [neg_nn neg9]; exact id), zw_let, zw_some]
    have := rf.2
    subst this
    rw [gRead_ref hne rf.1 (fun q => absurd q.2 (by decide))] at hE
    rw [hE]
    refine ⟨fun _ => ⟨rfl, ?_, ?_⟩, fun q => absurd rfl q⟩
    · show zI (zsI h2 92 22 (nI at')) 92 22 = nI (z.by.length - (z.by.drop at').length)
      rw [eIs, List.length_drop]
      congr 1; omega
    · exact ((fq.trans (f2.mono fun a j hw => by unfold wRd; omega)).mono fun a j hw => Or.inl hw).sI (Or.inr ⟨rfl, rfl⟩) _
  · obtain ⟨rfl, R2⟩ := k3 nw rf
    have n1 := gR1_n (rule := rule) (sg := z.sg.1) (st := st) (pd := pd) sm (wb2.drop at') hne
    have wf1 := gR1_wf (rule := rule) (sg := z.sg.1) (l := z.by.drop at') sm hst hpd
    rw [List.length_drop] at n1
    rw [if_pos (nI_pos' (by omega)), zw_some]
    refine ⟨by omega, _, _, _, _, at' + (gR1 G rule z.sg.1 st pd (z.by.drop at')).1, nI_add _ _, by omega, by omega, R2, wf1.1, wf1.2.1, ?_, fq.trans (f2.mono fun a j hw => by unfold wRd; omega), ?_⟩
    · rw [List.length_append]; have := wf1.2.2.1; omega
    · rw [hE, gRead_step sm (wb2.drop at') hne rf (fun q => absurd q.2 (by decide)), List.drop_drop]
/-- a row becomes the result -/
theorem m_resultOf {h h1 : zH} {z : gZ} {ob kind : Nat} {l : List Nat} (m : MR h1 z) (f : fr wAll h h1) (hob : ob = 117 ∨ ob = 119) (hr : rw h1 ob l) (hl : l.length ≤ 6000 ∧ (ob = 117 → l.length ≤ 4000)) : zw (fX9_resultOf h1 92 ob (nI l.length) (nI kind)) (mQ h (nI l.length, qR z (kind, l))) := by
  have tob : (zT h1 ob).1 = 100 ∧ l.length ≤ (zT h1 ob).2 ∧ (zT h1 ob).2 ≤ 6400 := by
    rcases hob with rfl | rfl
    · rw [show zT h1 117 = (100, 4000) from m.st.T 25 rfl]; exact ⟨rfl, hl.2 rfl, by show 4000 ≤ 6400; omega⟩
    · rw [show zT h1 119 = (100, 6400) from m.st.T 27 rfl]; exact ⟨rfl, by show l.length ≤ 6400; omega, by show 6400 ≤ 6400; omega⟩
  unfold fX9_resultOf
  refine zw_for (fun i s => s.2 = nI i ∧ fr (fun a _ => a = 108) h1 s.1 ∧ ∀ j, j < i → zI s.1 108 j = nI (l.getD j 0)) l.length ?_ ⟨rfl, fr.refl _ _, fun j hj => absurd hj (Nat.not_lt_zero _)⟩
  rintro i ⟨h2, x⟩ hi ⟨rfl, f2, he⟩
  dsimp only at f2 he ⊢
  unfold fX9_resultOf_L3
  by_cases hil : i = l.length
  · subst hil
    rw [if_pos (Int32.le_refl _), zw_let, zw_let, zw_some]
    have f3 : fr (fun a j => a = 92 ∧ (j = 18 ∨ j = 19) ∨ a = 108) h1 (zsI (zsI h2 92 18 (nI l.length)) 92 19 (nI kind)) := ((f2.mono fun a j hw => Or.inr hw).sI (by omega) _).sI (by omega) _
    refine ⟨rfl, m.upR (f3.mono fun a j hw => by unfold wvR; omega) ⟨by rw [eIs], by rw [eI, if_neg (by omega), eIs], fun j hj => ?_⟩, f.trans (f3.mono fun a j hw => by unfold wAll; omega)⟩
    rw [eI, if_neg (by omega), eI, if_neg (by omega)]
    exact he j hj
  · rw [if_neg (by rw [nI_leI (by omega) (by omega)]; omega), zw_ck, zw_ck, zw_let, zw_some, nI_clamp (by omega), f2.I (a := ob) (by omega), hr i (by omega)]
    refine ⟨⟨by rw [f2.T]; exact tob.1, by rw [f2.T]; exact vin (by omega) (by omega)⟩, vin (by omega) (by omega), by omega, by rw [nI_1], f2.sI rfl _, fun j hj => ?_⟩
    by_cases e : j = i
    · subst e; rw [show 92 + 16 = 108 from rfl, eIs]
    · rw [eI, if_neg (by omega)]; exact he j (by omega)
/-- a closed page, or a finding -/
theorem m_cl {h : zH} {z : gZ} {x : Int32} (m : MR h z) (w : pgWf z.pg) (K : Option (Int32 × zH)) (k : Nat → Int32 × gZ) (hk : ∀ p, p < z.pg.1 → x = nI p → z.pg.2 p 1 0 = 1 → zw K (mQ h (k p))) : zw (zb1 (fX9_isPage h 92 x) (fun v_2 => if v_2 = 0 then (zb2 (fX9_tell h 92 ((-1))) (fun v_22 h_23 => some ((v_22, h_23)))) else (zck (vp_in x 11) (if (zI h (92 + 2) x.toNatClampNeg) = 0 then (zb2 (fX9_tell h 92 ((-5))) (fun v_19 h_20 => some ((v_19, h_20)))) else K)))) (mQ h (sp_cl z x k)) := by
  have hn := w.1
  have c0 := m.pg.1
  unfold sp_cl
  rcases vI_cases x z.pg.1 (by omega) with ⟨e, hx⟩ | ⟨p, hp, rfl, e⟩
  · rw [e, m_isPage0 c0 (by omega) hx, zb1_s, if_pos rfl]
    exact m_tell' m (fr.refl _ _) neg1
  rw [e, m_isPage1 c0 (by omega) hp, zb1_s, if_neg (by decide), zw_ck, nI_clamp (by omega), show zI h (92 + 2) p = nI (z.pg.2 p 1 0) from (m.pg.2 p hp).c1]
  have s1 := (w.2 p hp).2.1
  refine ⟨vin (by omega) (by omega), ?_⟩
  by_cases h1 : z.pg.2 p 1 0 = 0
  · rw [if_pos (by rw [h1]; rfl)]
    simp only [h1, if_true]
    exact m_tell' m (fr.refl _ _) neg5
  · rw [if_neg (by rw [n_0 (by omega)]; exact h1)]
    simp only [h1, if_false]
    exact hk p hp rfl (by omega)
noncomputable def sp_decode (z : gZ) (x y : Int32) : Int32 × gZ := sp_cl z x (fun p => match vR y 0 3 with
  | none => qT z (-1)
  | some r => if (gRead (z.pg.2 p) r z.sg.1 true 0 4 z.by [] 0).1 = 1 then qT (qA z (z.by.length - (gRead (z.pg.2 p) r z.sg.1 true 0 4 z.by [] 0).2.2.2.1.length)) (-9)
    else (nI (gRead (z.pg.2 p) r z.sg.1 true 0 4 z.by [] 0).2.2.2.2.1.length, qR z (1, (gRead (z.pg.2 p) r z.sg.1 true 0 4 z.by [] 0).2.2.2.2.1)))
theorem m_decode {h : zH} {z : gZ} {x y : Int32} (m : MR h z) (w : pgWf z.pg) (wb : byWf z) : zw (fX9_decode h 92 x y) (mQ h (sp_decode z x y)) := by
  unfold fX9_decode sp_decode
  refine m_cl m w _ _ ?_
  rintro p hp rfl k1
  rcases vR_cases y 0 3 (by omega) (by omega) with ⟨t1, t9, -⟩ | ⟨r, -, hr, rfl, t1, t9, -⟩
  · rw [t1, show fX9_in y 0 3 = some 0 from t9, zb1_s, if_pos rfl]
    exact m_tell' m (fr.refl _ _) neg1
  rw [t1, show fX9_in (nI r) 0 3 = some 1 from t9, zb1_s, if_neg (by decide), zw_b2]
  refine (m_readAll (ob := 92 + 25) m w wb hp hr (by omega)).mono ?_
  rintro ⟨v, h1⟩ ⟨k1, k2⟩
  dsimp only at k1 k2 ⊢
  generalize gRead (z.pg.2 p) r z.sg.1 true 0 4 z.by [] 0 = R at *
  by_cases r1 : R.1 = 1
  · obtain ⟨rfl, pl, f1⟩ := k1 r1
    rw [if_neg (by rw [neg_nn neg9]; exact id), if_pos r1]
    exact m_tell' (m.upA (f1.mono fun a j hw => by rcases hw with hw | hw; exact Or.inl (wRd_Sc (by omega) hw); exact Or.inr hw) pl) (f1.mono fun a j hw => by rcases hw with hw | hw; exact wSc_all a j (wRd_Sc (by omega) hw); unfold wAll; omega) neg9
  · obtain ⟨rfl, hl, hrw, -, f1⟩ := k2 r1
    rw [if_pos (nI_pos' (by omega)), if_neg r1, zw_b2]
    have fs : fr wSc h h1 := f1.mono fun a j hw => wRd_Sc (by omega) hw
    exact (m_resultOf (m.scr fs) (fs.mono wSc_all) (Or.inl rfl) hrw ⟨by omega, fun _ => by omega⟩).mono fun y hy => ⟨_, rfl, hy⟩
noncomputable def sp_faults (z : gZ) (x : Int32) : Int32 × gZ := sp_cl z x (fun p => (nI (gRead (z.pg.2 p) 2 z.sg.1 true 0 4 z.by [] 0).2.2.2.2.2, z))
/-- what isn't refused under a rule is not refused -/
theorem gRun_ok {g : gP} {rule sg : Nat} {last : Bool} (hr : rule ≠ 0) : ∀ (n st pd : Nat) (l o : List Nat) (f : Nat), (gRun g rule sg last n st pd l o f).1 = 0 := by
  intro n
  induction n with
  | zero => intro st pd l o f; rfl
  | succ n ih =>
    intro st pd l o f
    simp only [gRun]
    split
    · rfl
    · split
      · rfl
      · split
        · rename_i q; exact absurd q.2 hr
        · exact ih _ _ _ _ _
theorem m_faults {h : zH} {z : gZ} {x : Int32} (m : MR h z) (w : pgWf z.pg) (wb : byWf z) : zw (fX9_faults h 92 x) (mQ h (sp_faults z x)) := by
  unfold fX9_faults sp_faults
  refine m_cl m w _ _ ?_
  rintro p hp rfl k1
  rw [zw_b2]
  refine (m_readAll (rule := 2) (ob := 92 + 25) m w wb hp (by omega) (by omega)).mono ?_
  rintro ⟨v, h1⟩ ⟨-, k2⟩
  dsimp only at k2 ⊢
  have r0 : (gRead (z.pg.2 p) 2 z.sg.1 true 0 4 z.by [] 0).1 = 0 := gRun_ok (by omega) _ _ _ _ _ _
  obtain ⟨rfl, hl, hrw, hf, f1⟩ := k2 (by omega)
  rw [zw_some, hf]
  have fs : fr wSc h h1 := f1.mono fun a j hw => wRd_Sc (by omega) hw
  exact ⟨rfl, m.scr fs, fs.mono wSc_all⟩
