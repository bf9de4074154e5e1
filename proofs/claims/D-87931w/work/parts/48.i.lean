/-! the model: drop size; rows: bytes, units, fill, result, sign, told -/
set_option maxRecDepth 100000
def gRmE (g : gP) (k : Nat) : gP := fun c j => if 4 ≤ c ∧ c ≤ 8 ∧ k ≤ j then g c (j + 1) else if c = 2 ∧ j = 0 then g 2 0 - 1 else g c j
def gRmS (g : gP) (k : Nat) : gP := fun c j => if 9 ≤ c ∧ c ≤ 12 ∧ k ≤ j then g c (j + 1) else if c = 3 ∧ j = 0 then g 3 0 - 1 else g c j
noncomputable def sp_drop (z : gZ) (p s b n : Int32) : Int32 × gZ := sp_fix z p (fun p => match vTx s b n with
  | none => qT z (-1)
  | some (s, b, n) =>
    if gEn (z.pg.2 p) s n b < z.pg.2 p 2 0 then (0, qP z (z.pg.1, gAt z.pg.2 p (gRmE (z.pg.2 p) (gEn (z.pg.2 p) s n b))))
    else if n = 1 ∧ gSh (z.pg.2 p) s b < z.pg.2 p 3 0 then (1, qP z (z.pg.1, gAt z.pg.2 p (gRmS (z.pg.2 p) (gSh (z.pg.2 p) s b))))
    else qT z (-2))
theorem m_drop {h : zH} {z : gZ} {x s b n : Int32} (m : MR h z) (w : pgWf z.pg) : zw (fX9_drop h 92 x s b n) (mQ h (sp_drop z x s b n)) := by
  have hn := w.1
  have c0 := m.pg.1
  unfold fX9_drop sp_drop
  rcases m_fixed m w x with ⟨v, hv, hv0, e, ek⟩ | ⟨p, hp, rfl, k0, k1, e, ek⟩
  · rw [e, ek]
    simp only [zw_b1, zw_some, hv0, if_false]
    exact m_tell' m (fr.refl _ _) hv
  rw [e, ek]
  simp only [zw_b1, zw_some, if_true]
  rcases tx_cases s b n with ⟨t, t9, -⟩ | ⟨s', b', n', hs, hn1, hn3, hb, hb24, rfl, rfl, rfl, t, t9, -⟩
  · rw [t, t9]
    simp only [zw_b1, zw_some, if_true]
    exact m_tell' m (fr.refl _ _) neg1
  rw [t, t9]
  have g := m.pg.2 p hp
  have sm := w.2 p hp
  have s2 := sm.2.2.1
  have s3 := sm.2.2.2.1
  have eo := m_entryOf (p := p) (s := s') (n := n') (b := b') (by omega) (by omega) (by omega) (by omega) g sm
  have eo2 := m_shiftOf (p := p) (s := s') (b := b') (by omega) (by omega) (by omega) g sm
  rw [eo, eo2]
  simp only [zw_b1, zw_some, i10, if_false]
  generalize hG : z.pg.2 p = G at *
  by_cases hd : gEn G s' n' b' < G 2 0
  · simp (disch := omega) only [hd, if_true, nneg, if_false, zw_b1, zw_b2, zw_ck, zw_let, zw_ite, zw_some, vin, nI_clamp, Nat.reduceAdd, Nat.reduceMul, Nat.reduceSub, Nat.reduceEqDiff, Nat.reduceLT, Nat.reduceLeDiff, reduceIte, true_and, and_true, false_and, and_false, ite_true, ite_false, if_true, if_false, not_true_eq_false, not_false_eq_true, g.c2]
    generalize hK : gEn G s' n' b' = K at *
    rw [show nI (G 2 0) - 1 = nI (G 2 0 - 1) from by rw [li, pk_sub (by omega)]]
    refine zw_for (fun i s => s.2 = nI (100 * p + K + i) ∧ fr (wPg p) h s.1 ∧ (∀ c, c < 4 → zI s.1 (93 + c) p = nI (gRmE G K c 0)) ∧ zI s.1 92 0 = nI z.pg.1 ∧ (∀ c j, c < 5 → j < G 2 0 → zI s.1 (97 + c) (100 * p + j) = nI (if K ≤ j ∧ j < K + i then G (4 + c) (j + 1) else G (4 + c) j)) ∧ ∀ c j, c < 4 → j < G 3 0 → zI s.1 (102 + c) (10 * p + j) = nI (G (9 + c) j)) (G 2 0 - 1 - K) ?_ ⟨rfl, (fr.refl _ h).sI (by unfold wPg wSc; omega) _, fun c hc => ?_, ?_, fun c j hc hj => ?_, fun c j hc hj => ?_⟩
    · rintro i ⟨h1, x⟩ hi ⟨rfl, f, hc, hz, he, hs⟩
      dsimp only at f hc hz he hs ⊢
      have q2 : zI h1 95 p = nI (G 2 0 - 1) := by
        have := hc 2 (by omega)
        simpa only [gRmE, Nat.reduceAdd, Nat.reduceMul, Nat.reduceSub, Nat.reduceEqDiff, Nat.reduceLT, Nat.reduceLeDiff, reduceIte, true_and, and_true, false_and, and_false, ite_true, ite_false, if_true, if_false, not_true_eq_false, not_false_eq_true, Nat.reduceLeDiff] using this
      unfold fX9_drop_L61
      simp (disch := omega) only [zw_b1, zw_b2, zw_ck, zw_let, zw_ite, zw_some, vin, nI_clamp, q2, Nat.reduceAdd, Nat.reduceMul, Nat.reduceSub, Nat.reduceEqDiff, Nat.reduceLT, Nat.reduceLeDiff, reduceIte, true_and, and_true, false_and, and_false, ite_true, ite_false, if_true, if_false, not_true_eq_false, not_false_eq_true, nI_leI, li, pk_mul, nI_add]
      split
      · have hi' : i = G 2 0 - 1 - K := by omega
        refine ⟨rfl, m.upQ w f hz (fun _ h _ => h) (fun _ => ⟨hc, fun c j h5 hj => ?_, fun c j h5 hj => ?_⟩), f.mono (wPg_all _)⟩
        · have hj2 : j < G 2 0 - 1 := by simpa only [gRmE, Nat.reduceAdd, Nat.reduceMul, Nat.reduceSub, Nat.reduceEqDiff, Nat.reduceLT, Nat.reduceLeDiff, reduceIte, true_and, and_true, false_and, and_false, ite_true, ite_false, if_true, if_false, not_true_eq_false, not_false_eq_true] using hj
          rw [he c j h5 (by omega)]
          unfold gRmE
          by_cases hKj : K ≤ j
          · rw [if_pos (by omega), if_pos (by omega)]
          · rw [if_neg (by omega), if_neg (by omega), if_neg (by omega)]
        · have hj3 : j < G 3 0 := by simpa only [gRmE, Nat.reduceAdd, Nat.reduceMul, Nat.reduceSub, Nat.reduceEqDiff, Nat.reduceLT, Nat.reduceLeDiff, reduceIte, true_and, and_true, false_and, and_false, ite_true, ite_false, if_true, if_false, not_true_eq_false, not_false_eq_true] using hj
          rw [hs c j h5 hj3]
          unfold gRmE
          rw [if_neg (by omega), if_neg (by omega)]
      · have hB : zB (zI h1 101 (100 * p + K + i + 1)) = True := by
          have := he 4 (K + i + 1) (by omega) (by omega)
          rw [if_neg (by omega)] at this
          rw [show 100 * p + K + i + 1 = 100 * p + (K + i + 1) by omega, this]
          exact zBn (sm.2.2.2.2.1 (K + i + 1) (by omega)).2.2.2.2.2
        refine (m_copyE (by omega) (by omega) hB).mono ?_
        rintro h3 ⟨f3, e3⟩
        refine ⟨by omega, rfl, f.trans (f3.mono fun a x hw => by unfold wPg wSc; omega), fun c hc4 => ?_, ?_, fun c j h5 hj => ?_, fun c j h5 hj => ?_⟩
        · rw [f3.I (by omega)]; exact hc c hc4
        · rw [f3.I (by omega)]; exact hz
        · by_cases hki : j = K + i
          · subst hki
            have := he c (K + i + 1) h5 (by omega)
            rw [if_neg (by omega)] at this
            rw [show 100 * p + (K + i) = 100 * p + K + i by omega, e3 c h5, show 100 * p + K + i + 1 = 100 * p + (K + i + 1) by omega, this, if_pos (by omega)]
          · rw [f3.I (by omega), he c j h5 hj]
            congr 1
            by_cases q : K ≤ j ∧ j < K + i
            · rw [if_pos q, if_pos (by omega)]
            · rw [if_neg q, if_neg (by omega)]
        · rw [f3.I (by omega)]; exact hs c j h5 hj
    · have e4 : c = 0 ∨ c = 1 ∨ c = 2 ∨ c = 3 := by omega
      rcases e4 with rfl | rfl | rfl | rfl <;> simp only [eI, Nat.reduceAdd, Nat.reduceMul, Nat.reduceSub, Nat.reduceEqDiff, Nat.reduceLT, Nat.reduceLeDiff, reduceIte, true_and, and_true, false_and, and_false, ite_true, ite_false, if_true, if_false, not_true_eq_false, not_false_eq_true, gRmE, g.c0, g.c1, g.c3]
    · simp only [eI, Nat.reduceAdd, Nat.reduceMul, Nat.reduceSub, Nat.reduceEqDiff, Nat.reduceLT, Nat.reduceLeDiff, reduceIte, true_and, and_true, false_and, and_false, ite_true, ite_false, if_true, if_false, not_true_eq_false, not_false_eq_true, c0]
    · rw [eI, if_neg (by omega), if_neg (by omega)]; exact g.2.1 c j hc hj
    · rw [eI, if_neg (by omega)]; exact g.2.2 c j hc hj
  have hdn : ∀ k0 : Int32, k0 = (if gSh G s' b' < G 3 0 ∧ n' = 1 then nI (10 * p + gSh G s' b') else -1) → zw (fX9_drop_J112 h 92 (nI p) k0) (mQ h (if n' = 1 ∧ gSh G s' b' < G 3 0 then (1, qP z (z.pg.1, gAt z.pg.2 p (gRmS G (gSh G s' b')))) else qT z (-2))) := by
    intro k0 hk0
    unfold fX9_drop_J112
    by_cases hd2 : n' = 1 ∧ gSh G s' b' < G 3 0
    · obtain rfl : k0 = nI (10 * p + gSh G s' b') := by rw [hk0, if_pos ⟨hd2.2, hd2.1⟩]
      rw [if_pos hd2]
      have hd3 := hd2.2
      simp (disch := omega) only [nnn, if_true, zw_b1, zw_b2, zw_ck, zw_let, zw_ite, zw_some, vin, nI_clamp, Nat.reduceAdd, Nat.reduceMul, Nat.reduceSub, Nat.reduceEqDiff, Nat.reduceLT, Nat.reduceLeDiff, reduceIte, true_and, and_true, false_and, and_false, ite_true, ite_false, if_true, if_false, not_true_eq_false, not_false_eq_true, g.c3]
      generalize hK : gSh G s' b' = K at *
      rw [show nI (G 3 0) - 1 = nI (G 3 0 - 1) from by rw [li, pk_sub (by omega)]]
      refine zw_for (fun i s => s.2 = nI (10 * p + K + i) ∧ fr (wPg p) h s.1 ∧ (∀ c, c < 4 → zI s.1 (93 + c) p = nI (gRmS G K c 0)) ∧ zI s.1 92 0 = nI z.pg.1 ∧ (∀ c j, c < 5 → j < G 2 0 → zI s.1 (97 + c) (100 * p + j) = nI (G (4 + c) j)) ∧ ∀ c j, c < 4 → j < G 3 0 → zI s.1 (102 + c) (10 * p + j) = nI (if K ≤ j ∧ j < K + i then G (9 + c) (j + 1) else G (9 + c) j)) (G 3 0 - 1 - K) ?_ ⟨rfl, (fr.refl _ h).sI (by unfold wPg wSc; omega) _, fun c hc => ?_, ?_, fun c j hc hj => ?_, fun c j hc hj => ?_⟩
      · rintro i ⟨h1, x⟩ hi ⟨rfl, f, hc, hz, he, hs⟩
        dsimp only at f hc hz he hs ⊢
        have q2 : zI h1 96 p = nI (G 3 0 - 1) := by
          have := hc 3 (by omega)
          simpa only [gRmS, Nat.reduceAdd, Nat.reduceMul, Nat.reduceSub, Nat.reduceEqDiff, Nat.reduceLT, Nat.reduceLeDiff, reduceIte, true_and, and_true, false_and, and_false, ite_true, ite_false, if_true, if_false, not_true_eq_false, not_false_eq_true, Nat.reduceLeDiff] using this
        unfold fX9_drop_L136
        simp (disch := omega) only [zw_b1, zw_b2, zw_ck, zw_let, zw_ite, zw_some, vin, nI_clamp, q2, Nat.reduceAdd, Nat.reduceMul, Nat.reduceSub, Nat.reduceEqDiff, Nat.reduceLT, Nat.reduceLeDiff, reduceIte, true_and, and_true, false_and, and_false, ite_true, ite_false, if_true, if_false, not_true_eq_false, not_false_eq_true, nI_leI, li, pk_mul, nI_add]
        split
        · have hi' : i = G 3 0 - 1 - K := by omega
          refine ⟨rfl, m.upQ w f hz (fun _ h _ => h) (fun _ => ⟨hc, fun c j h5 hj => ?_, fun c j h5 hj => ?_⟩), f.mono (wPg_all _)⟩
          · have hj2 : j < G 2 0 := by simpa only [gRmS, Nat.reduceAdd, Nat.reduceMul, Nat.reduceSub, Nat.reduceEqDiff, Nat.reduceLT, Nat.reduceLeDiff, reduceIte, true_and, and_true, false_and, and_false, ite_true, ite_false, if_true, if_false, not_true_eq_false, not_false_eq_true] using hj
            rw [he c j h5 hj2]
            unfold gRmS
            rw [if_neg (by omega), if_neg (by omega)]
          · have hj3 : j < G 3 0 - 1 := by simpa only [gRmS, Nat.reduceAdd, Nat.reduceMul, Nat.reduceSub, Nat.reduceEqDiff, Nat.reduceLT, Nat.reduceLeDiff, reduceIte, true_and, and_true, false_and, and_false, ite_true, ite_false, if_true, if_false, not_true_eq_false, not_false_eq_true] using hj
            rw [hs c j h5 (by omega)]
            unfold gRmS
            by_cases hKj : K ≤ j
            · rw [if_pos (by omega), if_pos (by omega)]
            · rw [if_neg (by omega), if_neg (by omega), if_neg (by omega)]
        · have hB : zB (zI h1 105 (10 * p + K + i + 1)) = True := by
            have := hs 3 (K + i + 1) (by omega) (by omega)
            rw [if_neg (by omega)] at this
            rw [show 10 * p + K + i + 1 = 10 * p + (K + i + 1) by omega, this]
            exact zBn (sm.2.2.2.2.2 (K + i + 1) (by omega)).2.2.2.2
          refine (m_copyS (by omega) (by omega) hB).mono ?_
          rintro h3 ⟨f3, e3⟩
          refine ⟨by omega, rfl, f.trans (f3.mono fun a x hw => by unfold wPg wSc; omega), fun c hc4 => ?_, ?_, fun c j h5 hj => ?_, fun c j h5 hj => ?_⟩
          · rw [f3.I (by omega)]; exact hc c hc4
          · rw [f3.I (by omega)]; exact hz
          · rw [f3.I (by omega)]; exact he c j h5 hj
          · by_cases hki : j = K + i
            · subst hki
              have := hs c (K + i + 1) h5 (by omega)
              rw [if_neg (by omega)] at this
              rw [show 10 * p + (K + i) = 10 * p + K + i by omega, e3 c h5, show 10 * p + K + i + 1 = 10 * p + (K + i + 1) by omega, this, if_pos (by omega)]
            · rw [f3.I (by omega), hs c j h5 hj]
              congr 1
              by_cases q : K ≤ j ∧ j < K + i
              · rw [if_pos q, if_pos (by omega)]
              · rw [if_neg q, if_neg (by omega)]
      · have e4 : c = 0 ∨ c = 1 ∨ c = 2 ∨ c = 3 := by omega
        rcases e4 with rfl | rfl | rfl | rfl <;> simp only [eI, Nat.reduceAdd, Nat.reduceMul, Nat.reduceSub, Nat.reduceEqDiff, Nat.reduceLT, Nat.reduceLeDiff, reduceIte, true_and, and_true, false_and, and_false, ite_true, ite_false, if_true, if_false, not_true_eq_false, not_false_eq_true, gRmS, g.c0, g.c1, g.c2]
      · simp only [eI, Nat.reduceAdd, Nat.reduceMul, Nat.reduceSub, Nat.reduceEqDiff, Nat.reduceLT, Nat.reduceLeDiff, reduceIte, true_and, and_true, false_and, and_false, ite_true, ite_false, if_true, if_false, not_true_eq_false, not_false_eq_true, c0]
      · rw [eI, if_neg (by omega)]; exact g.2.1 c j hc hj
      · rw [eI, if_neg (by omega), if_neg (by omega)]; exact g.2.2 c j hc hj
    · obtain rfl : k0 = -1 := by rw [hk0, if_neg (by omega)]
      rw [if_neg hd2, if_neg (by rw [neg_nn neg1]; exact id)]
      exact m_tell' m (fr.refl _ _) neg2
  simp only [hd, if_false, neg1, if_true, zw_ite, zw_b1, zw_some]
  by_cases hn' : n' = 1
  · rw [if_pos (by rw [hn']; rfl)]
    exact hdn _ (by simp only [hn', and_true])
  · rw [if_neg (by rw [li, nI_eq (by omega) (by omega)]; exact hn')]
    exact hdn _ (by simp only [hn', and_false, if_false])
noncomputable def sp_size (z : gZ) (x y : Int32) : Int32 × gZ := match vI x z.pg.1, vR y 0 3 with
  | some p, some k => (nI (z.pg.2 p k 0), z)
  | _, _ => qT z (-1)
theorem m_size {h : zH} {z : gZ} {x y : Int32} (m : MR h z) (w : pgWf z.pg) : zw (fX9_size h 92 x y) (mQ h (sp_size z x y)) := by
  have hn := w.1
  have c0 := m.pg.1
  unfold fX9_size sp_size
  rcases vI_cases x z.pg.1 (by omega) with ⟨e, hx⟩ | ⟨p, hp, rfl, e⟩
  · rw [e, m_isPage0 c0 (by omega) hx]
    simp only [zw_b1, zw_some, if_true]
    exact m_tell' m (fr.refl _ _) neg1
  have g := m.pg.2 p hp
  have sm := w.2 p hp
  have s1 := sm.2.1
  rw [e, m_isPage1 c0 (by omega) hp]
  rcases vR_cases y 0 3 (by omega) (by omega) with ⟨t1, t9, -⟩ | ⟨k, -, hk, rfl, t1, t9, -⟩
  · rw [t1, show fX9_in y 0 3 = some 0 from t9]
    simp only [zw_b1, zw_some, if_true, i10, if_false]
    exact m_tell' m (fr.refl _ _) neg1
  rw [t1, show fX9_in (nI k) 0 3 = some 1 from t9]
  have e4 : k = 0 ∨ k = 1 ∨ k = 2 ∨ k = 3 := by omega
  have fin : ∀ v : Int32, v = nI (z.pg.2 p k 0) → mQ h (nI (z.pg.2 p k 0), z) (v, h) := fun v hv => ⟨hv, m, fr.refl _ _⟩
  rcases e4 with rfl | rfl | rfl | rfl <;> simp (disch := omega) only [zw_b1, zw_b2, zw_ck, zw_let, zw_ite, zw_some, i10, vin, nI_clamp, Nat.reduceAdd, Nat.reduceMul, Nat.reduceSub, Nat.reduceEqDiff, Nat.reduceLT, Nat.reduceLeDiff, reduceIte, true_and, and_true, false_and, and_false, ite_true, ite_false, if_true, if_false, not_true_eq_false, not_false_eq_true, li, nI_eq, g.c0, g.c1, g.c2, g.c3]
  · exact fin _ rfl
  · split
    · exact fin _ (by rename_i q; rw [q])
    · exact fin _ (by rename_i q; rw [show z.pg.2 p 1 0 = 1 by omega])
  · exact fin _ rfl
  · exact fin _ rfl
