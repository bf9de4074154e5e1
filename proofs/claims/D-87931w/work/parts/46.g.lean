/-! the model's tables: derive entry shift drop size -/
set_option maxRecDepth 100000
/-- a table that may be changed, or a finding -/
noncomputable def sp_fix (z : gZ) (x : Int32) (k : Nat → Int32 × gZ) : Int32 × gZ := match vI x z.pg.1 with
  | none => qT z (-1)
  | some p => if z.pg.2 p 0 0 = 0 then (if z.pg.2 p 1 0 = 0 then k p else qT z (-4)) else qT z (-3)
theorem m_fixed {h : zH} {z : gZ} (m : MR h z) (w : pgWf z.pg) (x : Int32) : (∃ v : Int32, v < 0 ∧ (v = 0) = False ∧ fX9_fixed h 92 x = some v ∧ ∀ k, sp_fix z x k = qT z v) ∨ ∃ p, p < z.pg.1 ∧ x = nI p ∧ z.pg.2 p 0 0 = 0 ∧ z.pg.2 p 1 0 = 0 ∧ fX9_fixed h 92 x = some 0 ∧ ∀ k, sp_fix z x k = k p := by
  have hn := w.1
  have c0 := m.pg.1
  unfold fX9_fixed sp_fix
  rcases vI_cases x z.pg.1 (by omega) with ⟨e, hx⟩ | ⟨p, hp, rfl, e⟩
  · rw [e, m_isPage0 c0 (by omega) hx]
    exact Or.inl ⟨-1, neg1, eq_false (by decide), rfl, fun _ => rfl⟩
  have g := m.pg.2 p hp
  have s := w.2 p hp
  have s0 := s.1
  have s1 := s.2.1
  rw [e, m_isPage1 c0 (by omega) hp]
  by_cases h0 : z.pg.2 p 0 0 = 0
  · by_cases h1 : z.pg.2 p 1 0 = 0
    · refine Or.inr ⟨p, hp, rfl, h0, h1, ?_, fun k => by simp only [h0, h1, if_true]⟩
      apply zw_eq
      simp (disch := omega) only [zw_b1, zw_b2, zw_ck, zw_let, zw_ite, zw_some, i10, vin, nI_clamp, g.c0, g.c1, h0, h1, Nat.reduceAdd, Nat.reduceMul, Nat.reduceSub, Nat.reduceEqDiff, Nat.reduceLT, Nat.reduceLeDiff, reduceIte, true_and, and_true, false_and, and_false, ite_true, ite_false, if_true, if_false, not_true_eq_false, not_false_eq_true, nI_0]
    · refine Or.inl ⟨-4, neg4, eq_false (by decide), ?_, fun k => by simp only [h0, h1, if_true, if_false]⟩
      apply zw_eq
      simp (disch := omega) only [zw_b1, zw_b2, zw_ck, zw_let, zw_ite, zw_some, i10, vin, nI_clamp, g.c0, g.c1, h0, h1, n_0, Nat.reduceAdd, Nat.reduceMul, Nat.reduceSub, Nat.reduceEqDiff, Nat.reduceLT, Nat.reduceLeDiff, reduceIte, true_and, and_true, false_and, and_false, ite_true, ite_false, if_true, if_false, not_true_eq_false, not_false_eq_true]
  · refine Or.inl ⟨-3, neg3, eq_false (by decide), ?_, fun k => by simp only [h0, if_false]⟩
    apply zw_eq
    simp (disch := omega) only [zw_b1, zw_b2, zw_ck, zw_let, zw_ite, zw_some, i10, vin, nI_clamp, g.c0, h0, n_0, Nat.reduceAdd, Nat.reduceMul, Nat.reduceSub, Nat.reduceEqDiff, Nat.reduceLT, Nat.reduceLeDiff, reduceIte, true_and, and_true, false_and, and_false, ite_true, ite_false, if_true, if_false, not_true_eq_false, not_false_eq_true]
/-- an entry is laid at k -/
def gE5 (g : gP) (k s n b pt pf : Nat) : gP := fun c j => if j = k then (if c = 4 then s else if c = 5 then n else if c = 6 then b else if c = 7 then pt else if c = 8 then pf else g c j) else g c j
def gS4 (g : gP) (k s b t f : Nat) : gP := fun c j => if j = k then (if c = 9 then s else if c = 10 then b else if c = 11 then t else if c = 12 then f else g c j) else g c j
def gC (g : gP) (c v : Nat) : gP := fun c' j => if c' = c ∧ j = 0 then v else g c' j
noncomputable def ptOf (code : Int32) : Int32 := if code < 0 then -1 - code else code
noncomputable def sp_entry (z : gZ) (p s b n code : Int32) : Int32 × gZ := sp_fix z p (fun p => match vTx s b n, vPt (ptOf code) with
  | some (s, b, n), some pt =>
    if gEn (z.pg.2 p) s n b < z.pg.2 p 2 0 then (1, qP z (z.pg.1, gAt z.pg.2 p (gE5 (z.pg.2 p) (gEn (z.pg.2 p) s n b) s n b pt (if code < 0 then 0 else 1))))
    else if z.pg.2 p 2 0 = 100 then qT z (-6)
    else (0, qP z (z.pg.1, gAt z.pg.2 p (gC (gE5 (z.pg.2 p) (z.pg.2 p 2 0) s n b pt (if code < 0 then 0 else 1)) 2 (z.pg.2 p 2 0 + 1))))
  | _, _ => qT z (-1))
theorem m_entry {h : zH} {z : gZ} {x s b n code : Int32} (m : MR h z) (w : pgWf z.pg) : zw (fX9_entry h 92 x s b n code) (mQ h (sp_entry z x s b n code)) := by
  have hn := w.1
  have c0 := m.pg.1
  have e33 : fX9_entry h 92 x s b n code = zb1 (fX9_fixed h 92 x) (fun v_2 => if v_2 = 0 then (fX9_entry_J33 h 92 x s b n code (ptOf code)) else (zb2 (fX9_tell h 92 v_2) (fun v_35 h_36 => some ((v_35, h_36))))) := by
    unfold fX9_entry ptOf
    congr 1
    funext v
    split
    · split <;> rfl
    · rfl
  rw [e33]
  unfold sp_entry
  rcases m_fixed m w x with ⟨v, hv, hv0, e, ek⟩ | ⟨p, hp, rfl, k0, k1, e, ek⟩
  · rw [e, ek]
    simp only [zw_b1, zw_some, hv0, if_false]
    exact m_tell' m (fr.refl _ _) hv
  rw [e, ek]
  simp only [zw_b1, zw_some, if_true]
  unfold fX9_entry_J33
  rcases tx_cases s b n with ⟨t, t9, -⟩ | ⟨s', b', n', hs, hn1, hn3, hb, hb24, rfl, rfl, rfl, t, t9, -⟩
  · rw [t, t9]
    simp only [zw_b1, zw_some, if_true]
    exact m_tell' m (fr.refl _ _) neg1
  rcases pt_cases (ptOf code) with ⟨q, q9, -⟩ | ⟨pt, hpt, ept, q, q9, -⟩
  · rw [t, t9, q, q9]
    simp only [zw_b1, zw_some, if_true, i10, if_false]
    exact m_tell' m (fr.refl _ _) neg1
  rw [t, t9, q, q9, ept]
  have g := m.pg.2 p hp
  have sm := w.2 p hp
  have s2 := sm.2.2.1
  have hpt2 := hpt.1
  have eo := m_entryOf (p := p) (s := s') (n := n') (b := b') (by omega) (by omega) (by omega) (by omega) g sm
  simp only [zw_b1, zw_some, i10, if_false, eo]
  generalize hG : z.pg.2 p = G at *
  have fin : ∀ k np' : Nat, ∀ x8 : Int32, k < 100 → (x8 < 0 → k = G 2 0 ∧ np' = 0) → (¬ x8 < 0 → k < G 2 0 ∧ np' = 1) → zw (fX9_entry_J114 h 92 (nI p) (nI s') (nI b') (nI n') code (nI pt) x8 (nI (100 * p + k))) (mQ h (nI np', qP z (z.pg.1, gAt z.pg.2 p (if x8 < 0 then gC (gE5 G k s' n' b' pt (if code < 0 then 0 else 1)) 2 (G 2 0 + 1) else gE5 G k s' n' b' pt (if code < 0 then 0 else 1))))) := by
    intro k np' x8 hk h1 h2
    have fin2 : ∀ c : Nat, c = (if code < 0 then 0 else 1) → zw (fX9_entry_J166 (zsI (zsI (zsI (zsI h 97 (100 * p + k) (nI s')) 98 (100 * p + k) (nI n')) 99 (100 * p + k) (nI b')) 100 (100 * p + k) (nI pt)) 92 (nI p) x8 (nI c) (nI (100 * p + k))) (mQ h (nI np', qP z (z.pg.1, gAt z.pg.2 p (if x8 < 0 then gC (gE5 G k s' n' b' pt (if code < 0 then 0 else 1)) 2 (G 2 0 + 1) else gE5 G k s' n' b' pt (if code < 0 then 0 else 1))))) := by
      intro c hc
      rw [← hc]
      have hc1 : c ≤ 1 := by rw [hc]; split <;> omega
      have f5 : fr (wPg p) h (zsI (zsI (zsI (zsI (zsI h 97 (100 * p + k) (nI s')) 98 (100 * p + k) (nI n')) 99 (100 * p + k) (nI b')) 100 (100 * p + k) (nI pt)) 101 (100 * p + k) (nI c)) := (((((fr.refl _ h).sI (by unfold wPg wSc; omega) _).sI (by unfold wPg wSc; omega) _).sI (by unfold wPg wSc; omega) _).sI (by unfold wPg wSc; omega) _).sI (by unfold wPg wSc; omega) _
      simp (disch := omega) only [fX9_entry_J166, zw_b1, zw_b2, zw_ck, zw_let, zw_ite, zw_some, vin, nI_clamp, zBn, Nat.reduceAdd, Nat.reduceMul, Nat.reduceSub, Nat.reduceEqDiff, Nat.reduceLT, Nat.reduceLeDiff, reduceIte, true_and, and_true, false_and, and_false, ite_true, ite_false, if_true, if_false, not_true_eq_false, not_false_eq_true]
      have cE : ∀ h' : zH, (∀ a j, ¬ (a = 95 ∧ j = p) → zI h' a j = zI (zsI (zsI (zsI (zsI (zsI h 97 (100 * p + k) (nI s')) 98 (100 * p + k) (nI n')) 99 (100 * p + k) (nI b')) 100 (100 * p + k) (nI pt)) 101 (100 * p + k) (nI c)) a j) → ∀ c' j, c' < 5 → j < G 2 0 ∨ j = k → zI h' (97 + c') (100 * p + j) = nI (gE5 G k s' n' b' pt c (4 + c') j) := by
        intro h' hh c' j hc' hj
        rw [hh _ _ (by omega)]
        have e5 : c' = 0 ∨ c' = 1 ∨ c' = 2 ∨ c' = 3 ∨ c' = 4 := by omega
        by_cases hjk : j = k
        · subst hjk
          rcases e5 with rfl | rfl | rfl | rfl | rfl <;> simp only [eI, Nat.reduceAdd, Nat.reduceMul, Nat.reduceSub, Nat.reduceEqDiff, Nat.reduceLT, Nat.reduceLeDiff, reduceIte, true_and, and_true, false_and, and_false, ite_true, ite_false, if_true, if_false, not_true_eq_false, not_false_eq_true, gE5]
        · have hj2 : j < G 2 0 := by omega
          have : ¬ (100 * p + j = 100 * p + k) := by omega
          simp only [eI, this, and_false, if_false, gE5, hjk]
          exact g.2.1 c' j hc' hj2
      split
      · rename_i hx
        obtain ⟨rfl, rfl⟩ := h1 hx
        have f6 := f5.sI (a := 95) (k := p) (by unfold wPg wSc; omega) (zI (zsI (zsI (zsI (zsI (zsI h 97 (100 * p + G 2 0) (nI s')) 98 (100 * p + G 2 0) (nI n')) 99 (100 * p + G 2 0) (nI b')) 100 (100 * p + G 2 0) (nI pt)) 101 (100 * p + G 2 0) (nI c)) 95 p + 1)
        refine ⟨rfl, m.upQ w f6 ?_ (fun _ h _ => h) (fun _ => ⟨fun c' hc' => ?_, fun c' j hc' hj => ?_, fun c' j hc' hj => ?_⟩), f6.mono (wPg_all _)⟩
        · simp only [eI, Nat.reduceAdd, Nat.reduceMul, Nat.reduceSub, Nat.reduceEqDiff, Nat.reduceLT, Nat.reduceLeDiff, reduceIte, true_and, and_true, false_and, and_false, ite_true, ite_false, if_true, if_false, not_true_eq_false, not_false_eq_true, c0]
        · have e4 : c' = 0 ∨ c' = 1 ∨ c' = 2 ∨ c' = 3 := by omega
          rcases e4 with rfl | rfl | rfl | rfl <;> simp only [eI, Nat.reduceAdd, Nat.reduceMul, Nat.reduceSub, Nat.reduceEqDiff, Nat.reduceLT, Nat.reduceLeDiff, reduceIte, true_and, and_true, false_and, and_false, ite_true, ite_false, if_true, if_false, not_true_eq_false, not_false_eq_true, gC, gE5, g.c0, g.c1, g.c2, g.c3, nI_1, ite_self]
        · refine (cE _ (fun a j hn => by rw [eI, if_neg hn]) c' j hc' ?_).trans (congrArg nI ?_)
          · simp only [gC, Nat.reduceAdd, Nat.reduceMul, Nat.reduceSub, Nat.reduceEqDiff, Nat.reduceLT, Nat.reduceLeDiff, reduceIte, true_and, and_true, false_and, and_false, ite_true, ite_false, if_true, if_false, not_true_eq_false, not_false_eq_true] at hj; omega
          · unfold gC; rw [if_neg (by omega)]
        · have hj3 : j < G 3 0 := by
            simp only [gC, gE5, Nat.reduceAdd, Nat.reduceMul, Nat.reduceSub, Nat.reduceEqDiff, Nat.reduceLT, Nat.reduceLeDiff, reduceIte, true_and, and_true, false_and, and_false, ite_true, ite_false, if_true, if_false, not_true_eq_false, not_false_eq_true, ite_self] at hj; exact hj
          have : zI h (102 + c') (10 * p + j) = nI (G (9 + c') j) := g.2.2 c' j hc' hj3
          rw [eI, if_neg (by omega), eI, if_neg (by omega), eI, if_neg (by omega), eI, if_neg (by omega), eI, if_neg (by omega), eI, if_neg (by omega), this]
          unfold gC gE5
          rw [if_neg (by omega)]
          split
          · rw [if_neg (by omega), if_neg (by omega), if_neg (by omega), if_neg (by omega), if_neg (by omega)]
          · rfl
      · rename_i hx
        obtain ⟨hk2, rfl⟩ := h2 hx
        refine ⟨rfl, m.upQ w f5 ?_ (fun _ h _ => h) (fun _ => ⟨fun c' hc' => ?_, fun c' j hc' hj => ?_, fun c' j hc' hj => ?_⟩), f5.mono (wPg_all _)⟩
        · simp only [eI, Nat.reduceAdd, Nat.reduceMul, Nat.reduceSub, Nat.reduceEqDiff, Nat.reduceLT, Nat.reduceLeDiff, reduceIte, true_and, and_true, false_and, and_false, ite_true, ite_false, if_true, if_false, not_true_eq_false, not_false_eq_true, c0]
        · have e4 : c' = 0 ∨ c' = 1 ∨ c' = 2 ∨ c' = 3 := by omega
          rcases e4 with rfl | rfl | rfl | rfl <;> simp only [eI, Nat.reduceAdd, Nat.reduceMul, Nat.reduceSub, Nat.reduceEqDiff, Nat.reduceLT, Nat.reduceLeDiff, reduceIte, true_and, and_true, false_and, and_false, ite_true, ite_false, if_true, if_false, not_true_eq_false, not_false_eq_true, gE5, g.c0, g.c1, g.c2, g.c3, ite_self]
        · refine cE _ (fun a j _ => rfl) c' j hc' ?_
          simp only [gE5, Nat.reduceAdd, Nat.reduceMul, Nat.reduceSub, Nat.reduceEqDiff, Nat.reduceLT, Nat.reduceLeDiff, reduceIte, true_and, and_true, false_and, and_false, ite_true, ite_false, if_true, if_false, not_true_eq_false, not_false_eq_true, ite_self] at hj
          omega
        · have hj3 : j < G 3 0 := by
            simp only [gE5, Nat.reduceAdd, Nat.reduceMul, Nat.reduceSub, Nat.reduceEqDiff, Nat.reduceLT, Nat.reduceLeDiff, reduceIte, true_and, and_true, false_and, and_false, ite_true, ite_false, if_true, if_false, not_true_eq_false, not_false_eq_true, ite_self] at hj; exact hj
          have : zI h (102 + c') (10 * p + j) = nI (G (9 + c') j) := g.2.2 c' j hc' hj3
          rw [eI, if_neg (by omega), eI, if_neg (by omega), eI, if_neg (by omega), eI, if_neg (by omega), eI, if_neg (by omega), this]
          unfold gE5
          split
          · rw [if_neg (by omega), if_neg (by omega), if_neg (by omega), if_neg (by omega), if_neg (by omega)]
          · rfl
    unfold fX9_entry_J114
    simp (disch := omega) only [zw_b1, zw_b2, zw_ck, zw_let, zw_ite, zw_some, vin, nI_clamp, Nat.reduceAdd, Nat.reduceMul, Nat.reduceSub, Nat.reduceEqDiff, Nat.reduceLT, Nat.reduceLeDiff, reduceIte, true_and, and_true, false_and, and_false, ite_true, ite_false, if_true, if_false, not_true_eq_false, not_false_eq_true]
    by_cases hcd : code < 0
    · simp only [hcd, if_true]
      have := fin2 0 (by rw [if_pos hcd])
      simp only [hcd, if_true] at this
      exact this
    · simp only [hcd, if_false]
      have := fin2 1 (by rw [if_neg hcd])
      simp only [hcd, if_false] at this
      exact this
  by_cases hd : gEn G s' n' b' < G 2 0
  · have := fin (gEn G s' n' b') 1 (nI (100 * p + gEn G s' n' b')) (by omega) (fun q => absurd q (nI_pos (by omega))) (fun _ => ⟨hd, rfl⟩)
    simp only [hd, if_true, fX9_entry_J93, nneg (show 100 * p + gEn G s' n' b' < 2 ^ 31 by omega), nnn (show 100 * p + gEn G s' n' b' < 2 ^ 31 by omega), if_false] at this ⊢
    exact this
  · simp only [hd, if_false, neg_nn neg1]
    by_cases h100 : G 2 0 = 100
    · simp (disch := omega) only [zw_b1, zw_b2, zw_ck, zw_let, zw_ite, zw_some, vin, nI_clamp, Nat.reduceAdd, Nat.reduceMul, Nat.reduceSub, Nat.reduceEqDiff, Nat.reduceLT, Nat.reduceLeDiff, reduceIte, true_and, and_true, false_and, and_false, ite_true, ite_false, if_true, if_false, not_true_eq_false, not_false_eq_true, g.c2, h100, li, nI_eq]
      exact m_tell' m (fr.refl _ _) neg6
    · have := fin (G 2 0) 0 (-1) (by omega) (fun _ => ⟨rfl, rfl⟩) (fun q => absurd neg1 q)
      simp only [neg1, if_true] at this
      have c100 : (nI (G 2 0) = 100) = False := eq_false (by rw [li, nI_eq (by omega) (by omega)]; exact h100)
      simp (disch := omega) only [zw_b1, zw_b2, zw_ck, zw_let, zw_ite, zw_some, vin, nI_clamp, Nat.reduceAdd, Nat.reduceMul, Nat.reduceSub, Nat.reduceEqDiff, Nat.reduceLT, Nat.reduceLeDiff, reduceIte, true_and, and_true, false_and, and_false, ite_true, ite_false, if_true, if_false, not_true_eq_false, not_false_eq_true, g.c2, h100, c100, fX9_entry_J93, neg1]
      rw [show (100 : Int32) * nI p + nI (G 2 0) = nI (100 * p + G 2 0) from by rw [li, pk_mul, nI_add]]
      exact this
