/-! the exchange's tables: shift drop size -/
set_option maxRecDepth 100000
theorem x_shift {h : zH} {y : gY} {z : gZ} {X s b t f : Int32} (x : XR h y z) (w : pgWf z.pg) (hf : zB f) : zw (fX0_shift h 1 X s b t f) (xQ h (sp_shift z X s b t f)) := by
  unfold fX0_shift sp_shift
  rcases x_fixed x w X with ⟨v, h1, hv, t, xe, ek⟩ | ⟨p, hp, rfl, k0, k1, tt, ek⟩
  · rw [t, ek]
    exact x_han x xe hv
  rw [tt, ek, zxr_r, zb1_s]
  have no : zw (fX0_shift_J49 h 1 s b t f (y.1 p)) (xQ h (qT z (-1))) := by
    unfold fX0_shift_J49 fX0_shift_J50
    exact x_need x neg1 _
  rcases vR_cases s 0 3 (by omega) (by omega) with ⟨t1, -, t9⟩ | ⟨s', -, hs, rfl, t1, -, t9⟩
  · rw [t1, show fX0_in s 0 3 = some 0 from t9]
    simp only [zw_b1, zw_some, if_true]
    exact no
  rcases vR_cases t 0 3 (by omega) (by omega) with ⟨t2, -, u9⟩ | ⟨t', -, ht, rfl, t2, -, u9⟩
  · rw [t1, t2, show fX0_in (nI s') 0 3 = some 1 from t9, show fX0_in t 0 3 = some 0 from u9]
    simp only [zw_b1, zw_some, if_true, i10, if_false]
    exact no
  rw [show fX0_in (nI s') 0 3 = some 1 from t9, show fX0_in (nI t') 0 3 = some 1 from u9]
  rcases vR_cases b 0 255 (by omega) (by omega) with ⟨t3, -, w9⟩ | ⟨b', -, hb, rfl, t3, -, w9⟩
  · rw [t1, t2, t3, show fX0_in b 0 255 = some 0 from w9]
    simp only [zw_b1, zw_some, if_true, i10, if_false, zw_ite]
    split
    · exact no
    · exact no
  rw [t1, t2, t3, show fX0_in (nI b') 0 255 = some 1 from w9]
  have g := x.pg.2.2.2.2.2.2.2 p hp
  obtain ⟨tb, tab, -⟩ := g.1 k0
  have sm := w.2 p hp
  have s3 := sm.2.2.2.1
  have eo := x_findShift (s := s') (b := b') (by omega) (by omega) tab sm
  by_cases hst : s' = t'
  · simp only [zw_b1, zw_some, i10, if_false, hst, if_true]
    rw [hst] at no
    exact no
  have hst' : (nI s' = nI t') = False := eq_false (by rw [nI_eq (by omega) (by omega)]; exact hst)
  simp only [zw_b1, zw_some, i10, hst, hst', if_false]
  unfold fX0_shift_J50
  rw [x_need1, zxv_n, zw_ck]
  refine ⟨tb, ?_⟩
  rw [eo, zb1_s]
  generalize hG : z.pg.2 p = G at *
  generalize hA : y.1 p = A at *
  by_cases hd : gSh G s' b' < G 3 0
  · rw [if_pos hd, if_pos (nI_pos' (by omega)), if_pos hd]
    unfold fX0_shift_J70
    exact x_need x neg7 _
  rw [if_neg hd, if_neg (by rw [neg_nn neg1]; exact id), if_neg hd]
  unfold fX0_shift_J70
  rw [x_need1, zxv_n, zw_ck, tab.2.2.1]
  refine ⟨tb, ?_⟩
  by_cases h10 : G 3 0 = 10
  · rw [if_pos (by rw [h10]; exact Int32.le_refl _), if_pos h10]
    unfold fX0_shift_J91
    exact x_need x neg6 _
  rw [if_neg (by rw [li, nI_leI (by omega) (by omega)]; omega), if_neg h10]
  unfold fX0_shift_J91
  rw [x_need1, zxv_n, zw_ck, zw_b1, tab.2.2.1]
  refine ⟨tb, ?_⟩
  have ef : f = nI (if f = 0 then 0 else 1) := by rcases hf with rfl | rfl <;> rfl
  refine (x_setS (h := h) (a := A) (k := G 3 0) (v := fun c' => if c' = 0 then nI s' else if c' = 1 then nI b' else if c' = 2 then nI t' else f) (by omega) hf).mono ?_
  rintro h3 ⟨f3, e3⟩
  rw [zw_let, zw_some]
  have f4 : fr (fun b j => A + 6 ≤ b ∧ b ≤ A + 9 ∧ j = G 3 0 ∨ b = A ∧ j = 10) h (zsI h3 A 10 (zI h3 A 10 + 1)) := (f3.mono fun b j hw => Or.inl hw).sI (Or.inr ⟨rfl, rfl⟩) _
  have := x_fin (v := 0) (g := gC (gS4 G (G 3 0) s' b' t' (if f = 0 then 0 else 1)) 3 (G 3 0 + 1)) x hp (by rw [hG]; exact k0) (by rw [hA]; exact f4.mono fun b j hw => by omega) (by
    rw [hA]
    refine xTab_upS (k := G 3 0) tab f4 ?_ ?_ ?_ ?_ ?_ ?_
    · simp only [gC, gS4, Nat.reduceAdd, Nat.reduceMul, Nat.reduceSub, Nat.reduceEqDiff, Nat.reduceLT, Nat.reduceLeDiff, reduceIte, true_and, and_true, false_and, and_false, ite_true, ite_false, if_true, if_false, not_true_eq_false, not_false_eq_true, ite_self]
    · rw [eI, if_pos ⟨rfl, rfl⟩, f3.I (by omega), tab.2.2.1, nI_1]; simp only [gC, Nat.reduceAdd, Nat.reduceMul, Nat.reduceSub, Nat.reduceEqDiff, Nat.reduceLT, Nat.reduceLeDiff, reduceIte, true_and, and_true, false_and, and_false, ite_true, ite_false, if_true, if_false, not_true_eq_false, not_false_eq_true]
    · simp only [gC, gS4, Nat.reduceAdd, Nat.reduceMul, Nat.reduceSub, Nat.reduceEqDiff, Nat.reduceLT, Nat.reduceLeDiff, reduceIte, true_and, and_true, false_and, and_false, ite_true, ite_false, if_true, if_false, not_true_eq_false, not_false_eq_true, ite_self]
    · intro c' j hc' hj hjk
      simp only [gC, Nat.reduceAdd, Nat.reduceMul, Nat.reduceSub, Nat.reduceEqDiff, Nat.reduceLT, Nat.reduceLeDiff, reduceIte, true_and, and_true, false_and, and_false, ite_true, ite_false, if_true, if_false, not_true_eq_false, not_false_eq_true] at hj
      refine ⟨by omega, ?_⟩
      unfold gC gS4
      rw [if_neg (by omega), if_neg hjk]
    · intro c' hc'
      rw [eI, if_neg (by omega), e3 c' hc']
      have : c' = 0 ∨ c' = 1 ∨ c' = 2 ∨ c' = 3 := by omega
      rcases this with rfl | rfl | rfl | rfl <;> simp only [gC, gS4, Nat.reduceAdd, Nat.reduceMul, Nat.reduceSub, Nat.reduceEqDiff, Nat.reduceLT, Nat.reduceLeDiff, reduceIte, true_and, and_true, false_and, and_false, ite_true, ite_false, if_true, if_false, not_true_eq_false, not_false_eq_true]
      exact ef
    · intro c' j hc'
      unfold gC gS4
      rw [if_neg (by omega)]
      split
      · rw [if_neg (by omega), if_neg (by omega), if_neg (by omega), if_neg (by omega)]
      · rfl) (by simp only [gC, gS4, Nat.reduceAdd, Nat.reduceMul, Nat.reduceSub, Nat.reduceEqDiff, Nat.reduceLT, Nat.reduceLeDiff, reduceIte, true_and, and_true, false_and, and_false, ite_true, ite_false, if_true, if_false, not_true_eq_false, not_false_eq_true, ite_self, k0]) (by simp only [gC, gS4, Nat.reduceAdd, Nat.reduceMul, Nat.reduceSub, Nat.reduceEqDiff, Nat.reduceLT, Nat.reduceLeDiff, reduceIte, true_and, and_true, false_and, and_false, ite_true, ite_false, if_true, if_false, not_true_eq_false, not_false_eq_true, ite_self, k1])
  exact this
/-- an entry goes -/
theorem x_remove {h : zH} {a K : Nat} {g : gP} (m : xTab h a g) (sm : gSm g) (hK : K < g 2 0) : zw (fX3_remove h a (nI K)) (fun h' => fr (fun b _ => a ≤ b ∧ b ≤ a + 5) h h' ∧ xTab h' a (gRmE g K)) := by
  have s2 := sm.2.2.1
  unfold fX3_remove
  rw [zw_let, m.2.1, show nI (g 2 0) - 1 = nI (g 2 0 - 1) from by rw [li, pk_sub (by omega)]]
  refine zw_for (fun i s => s.2 = nI (K + i) ∧ fr (fun b j => a + 1 ≤ b ∧ b ≤ a + 5 ∨ b = a ∧ j = 4) h s.1 ∧ zI s.1 a 4 = nI (g 2 0 - 1) ∧ ∀ c j, c < 5 → j < g 2 0 → zI s.1 (a + xo c) j = nI (if K ≤ j ∧ j < K + i then g (4 + c) (j + 1) else g (4 + c) j)) (g 2 0 - 1 - K) ?_ ⟨rfl, (fr.refl _ h).sI (by omega) _, by rw [eI, if_pos ⟨rfl, rfl⟩], fun c j hc hj => ?_⟩
  · rintro i ⟨h1, X⟩ hi ⟨rfl, f, hc, he⟩
    dsimp only at f hc he ⊢
    unfold fX3_remove_L12
    simp (disch := omega) only [zw_b1, zw_b2, zw_ck, zw_let, zw_ite, zw_some, hc, nI_leI]
    split
    · have hi' : i = g 2 0 - 1 - K := by omega
      refine ⟨f.mono fun b j hw => by omega, ?_, ?_, ?_, fun c j h5 hj => ?_, fun c j h5 hj => ?_⟩
      · rw [f.I (by omega)]; simp only [gRmE, Nat.reduceAdd, Nat.reduceMul, Nat.reduceSub, Nat.reduceEqDiff, Nat.reduceLT, Nat.reduceLeDiff, reduceIte, true_and, and_true, false_and, and_false, ite_true, ite_false, if_true, if_false, not_true_eq_false, not_false_eq_true]; exact m.1
      · rw [hc]; simp only [gRmE, Nat.reduceAdd, Nat.reduceMul, Nat.reduceSub, Nat.reduceEqDiff, Nat.reduceLT, Nat.reduceLeDiff, reduceIte, true_and, and_true, false_and, and_false, ite_true, ite_false, if_true, if_false, not_true_eq_false, not_false_eq_true]
      · rw [f.I (by omega)]; simp only [gRmE, Nat.reduceAdd, Nat.reduceMul, Nat.reduceSub, Nat.reduceEqDiff, Nat.reduceLT, Nat.reduceLeDiff, reduceIte, true_and, and_true, false_and, and_false, ite_true, ite_false, if_true, if_false, not_true_eq_false, not_false_eq_true]; exact m.2.2.1
      · have hj2 : j < g 2 0 - 1 := by simpa only [gRmE, Nat.reduceAdd, Nat.reduceMul, Nat.reduceSub, Nat.reduceEqDiff, Nat.reduceLT, Nat.reduceLeDiff, reduceIte, true_and, and_true, false_and, and_false, ite_true, ite_false, if_true, if_false, not_true_eq_false, not_false_eq_true] using hj
        rw [he c j h5 (by omega)]
        unfold gRmE
        by_cases hKj : K ≤ j
        · rw [if_pos (by omega), if_pos (by omega)]
        · rw [if_neg (by omega), if_neg (by omega), if_neg (by omega)]
      · have hj3 : j < g 3 0 := by simpa only [gRmE, Nat.reduceAdd, Nat.reduceMul, Nat.reduceSub, Nat.reduceEqDiff, Nat.reduceLT, Nat.reduceLeDiff, reduceIte, true_and, and_true, false_and, and_false, ite_true, ite_false, if_true, if_false, not_true_eq_false, not_false_eq_true] using hj
        rw [f.I (by omega)]
        unfold gRmE
        rw [if_neg (by omega), if_neg (by omega)]
        exact m.2.2.2.2 c j h5 hj3
    · have rd : ∀ c, c < 5 → zI h1 (a + xo c) (K + i + 1) = nI (g (4 + c) (K + i + 1)) := fun c h5 => by
        have := he c (K + i + 1) h5 (by omega)
        rw [if_neg (by omega)] at this
        exact this
      simp (disch := omega) only [nI_1, vin, nI_clamp, true_and]
      have hset := x_set (h := h1) (a := a) (k := K + i) (v := fun c => nI (g (4 + c) (K + i + 1))) (by omega) (of_eq_true (zBn (sm.2.2.2.2.1 (K + i + 1) (by omega)).2.2.2.2.2))
      rw [show zI h1 (a + 1) (K + i + 1) = nI (g 4 (K + i + 1)) from rd 0 (by omega), show zI h1 (a + 2) (K + i + 1) = nI (g 6 (K + i + 1)) from rd 2 (by omega), show zI h1 (a + 3) (K + i + 1) = nI (g 5 (K + i + 1)) from rd 1 (by omega), show zI h1 (a + 4) (K + i + 1) = nI (g 7 (K + i + 1)) from rd 3 (by omega), show zI h1 (a + 5) (K + i + 1) = nI (g 8 (K + i + 1)) from rd 4 (by omega)]
      refine hset.mono ?_
      rintro h3 ⟨f3, e3⟩
      refine ⟨by omega, by rw [Nat.add_assoc], f.trans (f3.mono fun b j hw => by omega), ?_, fun c j h5 hj => ?_⟩
      · rw [f3.I (by omega)]; exact hc
      · by_cases hki : j = K + i
        · subst hki
          rw [e3 c h5, if_pos (by omega)]
        · have := xo_rg h5
          rw [f3.I (by omega), he c j h5 hj]
          congr 1
          by_cases q : K ≤ j ∧ j < K + i
          · rw [if_pos q, if_pos (by omega)]
          · rw [if_neg q, if_neg (by omega)]
  · have := xo_rg hc
    rw [eI, if_neg (by omega), if_neg (by omega)]
    exact m.2.2.2.1 c j hc hj
theorem x_removeShift {h : zH} {a K : Nat} {g : gP} (m : xTab h a g) (sm : gSm g) (hK : K < g 3 0) : zw (fX3_removeShift h a (nI K)) (fun h' => fr (fun b _ => a ≤ b ∧ b ≤ a + 9) h h' ∧ xTab h' a (gRmS g K)) := by
  have s3 := sm.2.2.2.1
  unfold fX3_removeShift
  rw [zw_let, m.2.2.1, show nI (g 3 0) - 1 = nI (g 3 0 - 1) from by rw [li, pk_sub (by omega)]]
  refine zw_for (fun i s => s.2 = nI (K + i) ∧ fr (fun b j => a + 6 ≤ b ∧ b ≤ a + 9 ∨ b = a ∧ j = 10) h s.1 ∧ zI s.1 a 10 = nI (g 3 0 - 1) ∧ ∀ c j, c < 4 → j < g 3 0 → zI s.1 (a + 6 + c) j = nI (if K ≤ j ∧ j < K + i then g (9 + c) (j + 1) else g (9 + c) j)) (g 3 0 - 1 - K) ?_ ⟨rfl, (fr.refl _ h).sI (by omega) _, by rw [eI, if_pos ⟨rfl, rfl⟩], fun c j hc hj => ?_⟩
  · rintro i ⟨h1, X⟩ hi ⟨rfl, f, hc, he⟩
    dsimp only at f hc he ⊢
    unfold fX3_removeShift_L12
    simp (disch := omega) only [zw_b1, zw_b2, zw_ck, zw_let, zw_ite, zw_some, hc, nI_leI]
    split
    · have hi' : i = g 3 0 - 1 - K := by omega
      refine ⟨f.mono fun b j hw => by omega, ?_, ?_, ?_, fun c j h5 hj => ?_, fun c j h5 hj => ?_⟩
      · rw [f.I (by omega)]; simp only [gRmS, Nat.reduceAdd, Nat.reduceMul, Nat.reduceSub, Nat.reduceEqDiff, Nat.reduceLT, Nat.reduceLeDiff, reduceIte, true_and, and_true, false_and, and_false, ite_true, ite_false, if_true, if_false, not_true_eq_false, not_false_eq_true]; exact m.1
      · rw [f.I (by omega)]; simp only [gRmS, Nat.reduceAdd, Nat.reduceMul, Nat.reduceSub, Nat.reduceEqDiff, Nat.reduceLT, Nat.reduceLeDiff, reduceIte, true_and, and_true, false_and, and_false, ite_true, ite_false, if_true, if_false, not_true_eq_false, not_false_eq_true]; exact m.2.1
      · rw [hc]; simp only [gRmS, Nat.reduceAdd, Nat.reduceMul, Nat.reduceSub, Nat.reduceEqDiff, Nat.reduceLT, Nat.reduceLeDiff, reduceIte, true_and, and_true, false_and, and_false, ite_true, ite_false, if_true, if_false, not_true_eq_false, not_false_eq_true]
      · have hj3 : j < g 2 0 := by simpa only [gRmS, Nat.reduceAdd, Nat.reduceMul, Nat.reduceSub, Nat.reduceEqDiff, Nat.reduceLT, Nat.reduceLeDiff, reduceIte, true_and, and_true, false_and, and_false, ite_true, ite_false, if_true, if_false, not_true_eq_false, not_false_eq_true] using hj
        have := xo_rg h5
        rw [f.I (by omega)]
        unfold gRmS
        rw [if_neg (by omega), if_neg (by omega)]
        exact m.2.2.2.1 c j h5 hj3
      · have hj2 : j < g 3 0 - 1 := by simpa only [gRmS, Nat.reduceAdd, Nat.reduceMul, Nat.reduceSub, Nat.reduceEqDiff, Nat.reduceLT, Nat.reduceLeDiff, reduceIte, true_and, and_true, false_and, and_false, ite_true, ite_false, if_true, if_false, not_true_eq_false, not_false_eq_true] using hj
        rw [he c j h5 (by omega)]
        unfold gRmS
        by_cases hKj : K ≤ j
        · rw [if_pos (by omega), if_pos (by omega)]
        · rw [if_neg (by omega), if_neg (by omega), if_neg (by omega)]
    · have rd : ∀ c, c < 4 → zI h1 (a + 6 + c) (K + i + 1) = nI (g (9 + c) (K + i + 1)) := fun c h5 => by
        have := he c (K + i + 1) h5 (by omega)
        rw [if_neg (by omega)] at this
        exact this
      simp (disch := omega) only [nI_1, vin, nI_clamp, true_and]
      have hset := x_setS (h := h1) (a := a) (k := K + i) (v := fun c => nI (g (9 + c) (K + i + 1))) (by omega) (of_eq_true (zBn (sm.2.2.2.2.2 (K + i + 1) (by omega)).2.2.2.2))
      rw [show zI h1 (a + 6) (K + i + 1) = nI (g 9 (K + i + 1)) from rd 0 (by omega), show zI h1 (a + 7) (K + i + 1) = nI (g 10 (K + i + 1)) from rd 1 (by omega), show zI h1 (a + 8) (K + i + 1) = nI (g 11 (K + i + 1)) from rd 2 (by omega), show zI h1 (a + 9) (K + i + 1) = nI (g 12 (K + i + 1)) from rd 3 (by omega)]
      refine hset.mono ?_
      rintro h3 ⟨f3, e3⟩
      refine ⟨by omega, by rw [Nat.add_assoc], f.trans (f3.mono fun b j hw => by omega), ?_, fun c j h5 hj => ?_⟩
      · rw [f3.I (by omega)]; exact hc
      · by_cases hki : j = K + i
        · subst hki
          rw [e3 c h5, if_pos (by omega)]
        · rw [f3.I (by omega), he c j h5 hj]
          congr 1
          by_cases q : K ≤ j ∧ j < K + i
          · rw [if_pos q, if_pos (by omega)]
          · rw [if_neg q, if_neg (by omega)]
  · rw [eI, if_neg (by omega), if_neg (by omega)]
    exact m.2.2.2.2 c j hc hj
theorem x_drop {h : zH} {y : gY} {z : gZ} {X s b n : Int32} (x : XR h y z) (w : pgWf z.pg) : zw (fX0_drop h 1 X s b n) (xQ h (sp_drop z X s b n)) := by
  unfold fX0_drop sp_drop
  rcases x_fixed x w X with ⟨v, h1, hv, t, xe, ek⟩ | ⟨p, hp, rfl, k0, k1, tt, ek⟩
  · rw [t, ek]
    exact x_han x xe hv
  rw [tt, ek, zxr_r, zb1_s]
  rcases tx_cases s b n with ⟨u, -, u0⟩ | ⟨s', b', n', hs, hn1, hn3, hb, hb24, rfl, rfl, rfl, u, -, u0⟩
  · rw [u, u0, zb1_s]
    exact x_need x neg1 _
  rw [u, u0, zb1_s, x_need1, zxv_n, zw_ck]
  have g := x.pg.2.2.2.2.2.2.2 p hp
  obtain ⟨tb, tab, -⟩ := g.1 k0
  have sm := w.2 p hp
  have s2 := sm.2.2.1
  have s3 := sm.2.2.2.1
  have eo := x_find (s := s') (n := n') (b := b') (by omega) (by omega) (by omega) tab sm
  have eo2 := x_findShift (s := s') (b := b') (by omega) (by omega) tab sm
  refine ⟨tb, ?_⟩
  rw [eo, eo2, zb1_s, zb1_s]
  generalize hG : z.pg.2 p = G at *
  generalize hA : y.1 p = A at *
  have q0 : ∀ K, gRmE G K 0 0 = 0 ∧ gRmE G K 1 0 = 0 := fun K => ⟨by simp only [gRmE, Nat.reduceAdd, Nat.reduceMul, Nat.reduceSub, Nat.reduceEqDiff, Nat.reduceLT, Nat.reduceLeDiff, reduceIte, true_and, and_true, false_and, and_false, ite_true, ite_false, if_true, if_false, not_true_eq_false, not_false_eq_true, k0], by simp only [gRmE, Nat.reduceAdd, Nat.reduceMul, Nat.reduceSub, Nat.reduceEqDiff, Nat.reduceLT, Nat.reduceLeDiff, reduceIte, true_and, and_true, false_and, and_false, ite_true, ite_false, if_true, if_false, not_true_eq_false, not_false_eq_true, k1]⟩
  have q1 : ∀ K, gRmS G K 0 0 = 0 ∧ gRmS G K 1 0 = 0 := fun K => ⟨by simp only [gRmS, Nat.reduceAdd, Nat.reduceMul, Nat.reduceSub, Nat.reduceEqDiff, Nat.reduceLT, Nat.reduceLeDiff, reduceIte, true_and, and_true, false_and, and_false, ite_true, ite_false, if_true, if_false, not_true_eq_false, not_false_eq_true, k0], by simp only [gRmS, Nat.reduceAdd, Nat.reduceMul, Nat.reduceSub, Nat.reduceEqDiff, Nat.reduceLT, Nat.reduceLeDiff, reduceIte, true_and, and_true, false_and, and_false, ite_true, ite_false, if_true, if_false, not_true_eq_false, not_false_eq_true, k1]⟩
  by_cases hd : gEn G s' n' b' < G 2 0
  · rw [if_pos hd, if_neg (nI_pos (by omega)), zw_b1]
    refine (x_remove tab sm hd).mono ?_
    rintro h3 ⟨f3, t3⟩
    simp only [hd, if_true, zw_some]
    exact x_fin x hp (by rw [hG]; exact k0) (by rw [hA]; exact f3.mono fun b j hw => by omega) (by rw [hA]; exact t3) (q0 _).1 (q0 _).2
  rw [if_neg hd, if_pos neg1]
  simp only [hd, if_false]
  have no : zw (fX0_drop_J62 h 1 A (-1)) (xQ h (qT z (-2))) := by
    unfold fX0_drop_J62
    rw [if_pos neg1]
    exact x_need x neg2 _
  by_cases hn' : n' = 1
  · rw [if_pos (by rw [hn']; rfl)]
    by_cases hd2 : gSh G s' b' < G 3 0
    · rw [if_pos hd2, if_pos ⟨hn', hd2⟩]
      unfold fX0_drop_J62
      rw [if_neg (nI_pos (by omega)), x_need1, zxv_n, zw_ck, zw_b1]
      refine ⟨tb, (x_removeShift tab sm hd2).mono ?_⟩
      rintro h3 ⟨f3, t3⟩
      rw [zw_some]
      exact x_fin x hp (by rw [hG]; exact k0) (by rw [hA]; exact f3.mono fun b j hw => by omega) (by rw [hA]; exact t3) (q1 _).1 (q1 _).2
    · rw [if_neg hd2, if_neg (fun q => hd2 q.2)]
      exact no
  · rw [if_neg (by rw [li, nI_eq (by omega) (by omega)]; exact hn'), if_neg (fun q => hn' q.1)]
    exact no
theorem x_same {h : zH} {y : gY} {z : gZ} {v w : Int32} (x : XR h y z) (e : v = w) : xQ h (w, z) (v, h) := ⟨e, ⟨y, x⟩, fx.refl _ _, by show zc h ≤ _; omega, by show zu h ≤ _; omega⟩
theorem x_size {h : zH} {y : gY} {z : gZ} {X Y : Int32} (x : XR h y z) (w : pgWf z.pg) : zw (fX0_size h 1 X Y) (xQ h (sp_size z X Y)) := by
  unfold fX0_size sp_size
  rcases x_page x w X with ⟨p, hp, rfl, e, t⟩ | ⟨h1, e, t, xe⟩
  case inr =>
    rw [t, e]
    exact x_han x xe neg1
  rw [t, e, zxr_r, zb1_s]
  rcases vR_cases Y 0 3 (by omega) (by omega) with ⟨t1, -, t9⟩ | ⟨k, -, hk, rfl, t1, -, t9⟩
  · rw [t1, show fX0_in Y 0 3 = some 0 from t9, zb1_s]
    exact x_need x neg1 _
  rw [t1, show fX0_in (nI k) 0 3 = some 1 from t9, zb1_s, x_need1, zxv_n, zw_ck]
  have g := x.pg.2.2.2.2.2.2.2 p hp
  have sm := w.2 p hp
  have ic := x_isClosed x w hp
  have hk0 := sm.1
  have hk1 := sm.2.1
  have pgk : zPg h (y.1 p) ∧ (z.pg.2 p 0 0 = 0 → zT h (y.1 p) = (3, 0)) ∧ (z.pg.2 p 0 0 ≠ 0 → ¬ zT h (y.1 p) = (3, 0)) ∧ fV_Page_kind h (y.1 p) = some (nI (z.pg.2 p 0 0)) := by
    by_cases h0 : z.pg.2 p 0 0 = 0
    · have tb := (g.1 h0).1
      have tt : zT h (y.1 p) = (3, 0) := (zCt.b tb 0 rfl).t 0 rfl
      refine ⟨⟨2, by simp, zTb_ob tb⟩, fun _ => tt, fun q => absurd h0 q, ?_⟩
      unfold fV_Page_kind
      rw [if_pos tt, zck_pos tb, h0]
      rfl
    · obtain ⟨ob, -⟩ := g.2 h0
      have t := ob.t
      have e3 : z.pg.2 p 0 0 = 1 ∨ z.pg.2 p 0 0 = 2 ∨ z.pg.2 p 0 0 = 3 := by omega
      refine ⟨⟨7 + z.pg.2 p 0 0, by rcases e3 with e | e | e <;> rw [e] <;> simp, ob⟩, fun q => absurd q h0, fun _ q => ?_, ?_⟩
      · rw [t] at q; have := (Prod.mk.inj q).1; omega
      · unfold fV_Page_kind
        rcases e3 with e | e | e <;> rw [e] at t ob ⊢
        · rw [t, if_neg (by decide), if_pos rfl, zck_pos ob]; rfl
        · rw [t, if_neg (by decide), if_neg (by decide), if_pos rfl, zck_pos ob]; rfl
        · rw [t, if_neg (by decide), if_neg (by decide), if_neg (by decide), if_pos rfl, zck_pos ob]; rfl
  obtain ⟨pg, tk, tn, kd⟩ := pgk
  refine ⟨pg, ?_⟩
  have e4 : k = 0 ∨ k = 1 ∨ k = 2 ∨ k = 3 := by omega
  rcases e4 with rfl | rfl | rfl | rfl
  · rw [if_pos nI_0, kd, zb1_s, zw_some]
    exact x_same x rfl
  · rw [if_neg n10, if_pos nI1, ic, zb1_s]
    have c2 : z.pg.2 p 1 0 = 0 ∨ z.pg.2 p 1 0 = 1 := by omega
    rcases c2 with e | e <;> rw [e]
    · rw [if_pos nI_0, zw_some]; exact x_same x (by rw [e]; rfl)
    · rw [if_neg n10, zw_some]; exact x_same x (by rw [e]; rfl)
  · rw [if_neg (by decide), if_neg (by decide)]
    by_cases h0 : z.pg.2 p 0 0 = 0
    · obtain ⟨tb, tab, -⟩ := g.1 h0
      rw [if_neg (by rw [if_pos (tk h0)]; decide), if_pos (by rfl), zw_ck, zw_some]
      exact ⟨tb, x_same x tab.2.1⟩
    · rw [if_pos (by rw [if_neg (tn h0)]), zw_some]
      exact x_same x (by rw [(g.2 h0).2.2.1]; rfl)
  · rw [if_neg (by decide), if_neg (by decide)]
    by_cases h0 : z.pg.2 p 0 0 = 0
    · obtain ⟨tb, tab, -⟩ := g.1 h0
      rw [if_neg (by rw [if_pos (tk h0)]; decide), if_neg (by decide), zw_ck, zw_some]
      exact ⟨tb, x_same x tab.2.2.1⟩
    · rw [if_pos (by rw [if_neg (tn h0)]), zw_some]
      exact x_same x (by rw [(g.2 h0).2.2.2]; rfl)
