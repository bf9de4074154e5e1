/-! the model's pages: page derive entry shift drop size -/
set_option maxRecDepth 100000
/-- a page's own places (and the count of pages, and scratch) -/
def wPg (q : Nat) (a j : Nat) : Prop := wSc a j ∨ a = 92 ∧ j = 0 ∨ 93 ≤ a ∧ a ≤ 96 ∧ j = q ∨ 97 ≤ a ∧ a ≤ 101 ∧ 100 * q ≤ j ∧ j < 100 * q + 100 ∨ 102 ≤ a ∧ a ≤ 105 ∧ 10 * q ≤ j ∧ j < 10 * q + 10
theorem wPg_P (q a j : Nat) (w : wPg q a j) : wvP a j := by unfold wPg wSc at w; unfold wvP wSc; omega
theorem mPg_frq {h h' : zH} {p q : Nat} {g : gP} (f : fr (wPg q) h h') (hpq : p ≠ q) (h2 : g 2 0 ≤ 100) (h3 : g 3 0 ≤ 10) (m : mPg h p g) : mPg h' p g :=
  ⟨fun c hc => (f.I (by unfold wPg wSc; omega)).trans (m.1 c hc), fun c k hc hk => (f.I (by unfold wPg wSc; omega)).trans (m.2.1 c k hc hk), fun c k hc hk => (f.I (by unfold wPg wSc; omega)).trans (m.2.2 c k hc hk)⟩
def gAt (ps : Nat → gP) (q : Nat) (g : gP) : Nat → gP := fun p => if p = q then g else ps p
/-- pages are sound -/
def pgWf (v : Nat × (Nat → gP)) : Prop := v.1 ≤ 10 ∧ ∀ p, p < v.1 → gSm (v.2 p)
theorem MR.upQ {h h' : zH} {z : gZ} {q np : Nat} {g : gP} (m : MR h z) (w : pgWf z.pg) (f : fr (wPg q) h h') (hc : zI h' 92 0 = nI np) (hq : ∀ p, p < np → p ≠ q → p < z.pg.1) (hg : q < np → mPg h' q g) : MR h' (qP z (np, gAt z.pg.2 q g)) := by
  refine m.upP (f.mono (wPg_P q)) ⟨hc, fun p hp => ?_⟩
  show mPg h' p (gAt z.pg.2 q g p)
  unfold gAt
  split
  · rename_i e
    subst e
    exact hg hp
  · rename_i e
    have := w.2 p (hq p hp e)
    exact mPg_frq f e this.2.2.1 this.2.2.2.1 (m.pg.2 p (hq p hp e))
theorem wPg_all (q a j : Nat) (w : wPg q a j) : wAll a j := wvP_all a j (wPg_P q a j w)
theorem m_copyE {h : zH} {i j : Nat} (hi : i < 1100) (hj : j < 1100) (hB : zB (zI h 101 i) = True) : zw (fX9_copyEntry h 92 (nI i) (nI j)) (fun h' => fr (fun a x => 97 ≤ a ∧ a ≤ 101 ∧ x = j) h h' ∧ ∀ c, c < 5 → zI h' (97 + c) j = zI h (97 + c) i) := by
  simp (disch := omega) only [fX9_copyEntry, zw_b1, zw_b2, zw_ck, zw_let, zw_ite, zw_some, vin, nI_clamp, eI, Nat.reduceAdd, Nat.reduceMul, Nat.reduceSub, Nat.reduceEqDiff, Nat.reduceLT, Nat.reduceLeDiff, reduceIte, true_and, and_true, false_and, and_false, ite_true, ite_false, if_true, if_false, not_true_eq_false, not_false_eq_true, hB]
  refine ⟨?_, fun c hc => ?_⟩
  · exact (((((fr.refl _ h).sI (by omega) _).sI (by omega) _).sI (by omega) _).sI (by omega) _).sI (by omega) _
  · have : c = 0 ∨ c = 1 ∨ c = 2 ∨ c = 3 ∨ c = 4 := by omega
    rcases this with rfl | rfl | rfl | rfl | rfl <;> simp only [eI, Nat.reduceAdd, Nat.reduceMul, Nat.reduceSub, Nat.reduceEqDiff, Nat.reduceLT, Nat.reduceLeDiff, reduceIte, true_and, and_true, false_and, and_false, ite_true, ite_false, if_true, if_false, not_true_eq_false, not_false_eq_true]
theorem m_copyS {h : zH} {i j : Nat} (hi : i < 110) (hj : j < 110) (hB : zB (zI h 105 i) = True) : zw (fX9_copyShift h 92 (nI i) (nI j)) (fun h' => fr (fun a x => 102 ≤ a ∧ a ≤ 105 ∧ x = j) h h' ∧ ∀ c, c < 4 → zI h' (102 + c) j = zI h (102 + c) i) := by
  simp (disch := omega) only [fX9_copyShift, zw_b1, zw_b2, zw_ck, zw_let, zw_ite, zw_some, vin, nI_clamp, eI, Nat.reduceAdd, Nat.reduceMul, Nat.reduceSub, Nat.reduceEqDiff, Nat.reduceLT, Nat.reduceLeDiff, reduceIte, true_and, and_true, false_and, and_false, ite_true, ite_false, if_true, if_false, not_true_eq_false, not_false_eq_true, hB]
  refine ⟨?_, fun c hc => ?_⟩
  · exact ((((fr.refl _ h).sI (by omega) _).sI (by omega) _).sI (by omega) _).sI (by omega) _
  · have : c = 0 ∨ c = 1 ∨ c = 2 ∨ c = 3 := by omega
    rcases this with rfl | rfl | rfl | rfl <;> simp only [eI, Nat.reduceAdd, Nat.reduceMul, Nat.reduceSub, Nat.reduceEqDiff, Nat.reduceLT, Nat.reduceLeDiff, reduceIte, true_and, and_true, false_and, and_false, ite_true, ite_false, if_true, if_false, not_true_eq_false, not_false_eq_true]
def gNew (kd : Nat) : gP := fun c _ => if c = 0 then kd else if c = 1 then (if kd = 0 then 0 else 1) else 0
noncomputable def sp_page (z : gZ) (x : Int32) : Int32 × gZ := match vR x 0 3 with
  | none => qT z (-1)
  | some k => if z.pg.1 = 10 then qT z (-6) else (nI z.pg.1, qP z (z.pg.1 + 1, gAt z.pg.2 z.pg.1 (gNew k)))
theorem m_page {h : zH} {z : gZ} {x : Int32} (m : MR h z) (w : pgWf z.pg) : zw (fX9_page h 92 x) (mQ h (sp_page z x)) := by
  have hn : z.pg.1 ≤ 10 := w.1
  have c0 : zI h 92 0 = nI z.pg.1 := m.pg.1
  unfold fX9_page sp_page
  rcases vR_cases x 0 3 (by omega) (by omega) with ⟨e, e9, -⟩ | ⟨k, -, hk, rfl, e, e9, -⟩
  · rw [e, show fX9_in x 0 3 = some 0 from e9]
    simp only [zw_b1, zw_some, if_true]
    exact m_tell' m (fr.refl _ _) neg1
  rw [e, show fX9_in (nI k) 0 3 = some 1 from e9]
  by_cases h3 : z.pg.1 = 10
  · have c1 : zI h 92 0 = 10 := by rw [c0, h3]; rfl
    simp only [zw_b1, zw_some, i10, if_false, c1, h3, if_true]
    exact m_tell' m (fr.refl _ _) neg6
  have c1 : ¬ zI h 92 0 = 10 := by rw [c0, li, nI_eq (by omega) (by omega)]; exact h3
  simp only [zw_b1, zw_some, i10, if_false, c1, h3]
  have fin : ∀ b : Nat, b = (if k = 0 then 0 else 1) → zw (fX9_page_J58 (zsI h 93 z.pg.1 (nI k)) 92 (nI b) (nI z.pg.1)) (mQ h (nI z.pg.1, qP z (z.pg.1 + 1, gAt z.pg.2 z.pg.1 (gNew k)))) := by
    intro b hb
    have hb1 : b ≤ 1 := by rw [hb]; split <;> omega
    simp (disch := omega) only [fX9_page_J58, zw_b1, zw_b2, zw_ck, zw_let, zw_ite, zw_some, vin, nI_clamp, eI, Nat.reduceAdd, Nat.reduceMul, Nat.reduceSub, Nat.reduceEqDiff, Nat.reduceLT, Nat.reduceLeDiff, reduceIte, true_and, and_true, false_and, and_false, ite_true, ite_false, if_true, if_false, not_true_eq_false, not_false_eq_true, zBn, c0]
    have f : fr (wPg z.pg.1) h (zsI (zsI (zsI (zsI (zsI h 93 z.pg.1 (nI k)) 94 z.pg.1 (nI b)) 95 z.pg.1 0) 96 z.pg.1 0) 92 0 (nI z.pg.1 + 1)) := (((((fr.refl _ h).sI (by unfold wPg wSc; omega) _).sI (by unfold wPg wSc; omega) _).sI (by unfold wPg wSc; omega) _).sI (by unfold wPg wSc; omega) _).sI (by unfold wPg wSc; omega) _
    refine ⟨?_, m.upQ w f ?_ (fun p _ _ => by omega) (fun _ => ⟨fun c hc => ?_, fun c k _ hk => absurd hk (Nat.not_lt_zero _), fun c k _ hk => absurd hk (Nat.not_lt_zero _)⟩), f.mono (wPg_all _)⟩
    · rw [nI_1, nI_pred]
    · rw [eI, if_pos ⟨rfl, rfl⟩, nI_1]
    · have : c = 0 ∨ c = 1 ∨ c = 2 ∨ c = 3 := by omega
      rcases this with rfl | rfl | rfl | rfl <;> simp only [eI, Nat.reduceAdd, Nat.reduceMul, Nat.reduceSub, Nat.reduceEqDiff, Nat.reduceLT, Nat.reduceLeDiff, reduceIte, true_and, and_true, false_and, and_false, ite_true, ite_false, if_true, if_false, not_true_eq_false, not_false_eq_true, gNew, hb] <;> rfl
  by_cases hk0 : k = 0
  · subst hk0
    simp (disch := omega) only [zw_b1, zw_b2, zw_ck, zw_let, zw_ite, zw_some, vin, nI_clamp, eI, Nat.reduceAdd, Nat.reduceMul, Nat.reduceSub, Nat.reduceEqDiff, Nat.reduceLT, Nat.reduceLeDiff, reduceIte, true_and, and_true, false_and, and_false, ite_true, ite_false, if_true, if_false, not_true_eq_false, not_false_eq_true, c0]
    exact fin 0 rfl
  · simp (disch := omega) only [zw_b1, zw_b2, zw_ck, zw_let, zw_ite, zw_some, vin, nI_clamp, eI, Nat.reduceAdd, Nat.reduceMul, Nat.reduceSub, Nat.reduceEqDiff, Nat.reduceLT, Nat.reduceLeDiff, reduceIte, true_and, and_true, false_and, and_false, ite_true, ite_false, if_true, if_false, not_true_eq_false, not_false_eq_true, c0, n_0, hk0]
    exact fin 1 (by rw [if_neg hk0])
