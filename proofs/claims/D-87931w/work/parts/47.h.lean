/-! the model's tables: derive shift drop size -/
set_option maxRecDepth 100000
noncomputable def sp_derive (z : gZ) (x : Int32) : Int32 × gZ := match vI x z.pg.1 with
  | none => qT z (-1)
  | some p => if z.pg.2 p 0 0 = 0 then (if z.pg.2 p 1 0 = 0 then qT z (-5) else if z.pg.1 = 10 then qT z (-6) else (nI z.pg.1, qP z (z.pg.1 + 1, gAt z.pg.2 z.pg.1 (gC (z.pg.2 p) 1 0)))) else qT z (-3)
theorem m_derive {h : zH} {z : gZ} {x : Int32} (m : MR h z) (w : pgWf z.pg) : zw (fX9_derive h 92 x) (mQ h (sp_derive z x)) := by
  have hn := w.1
  have c0 := m.pg.1
  unfold fX9_derive sp_derive
  rcases vI_cases x z.pg.1 (by omega) with ⟨e, hx⟩ | ⟨p, hp, rfl, e⟩
  · rw [e, m_isPage0 c0 (by omega) hx]
    simp only [zw_b1, zw_some, if_true]
    exact m_tell' m (fr.refl _ _) neg1
  have g := m.pg.2 p hp
  have sm := w.2 p hp
  have s0 := sm.1
  have s1 := sm.2.1
  have s2 := sm.2.2.1
  have s3 := sm.2.2.2.1
  rw [e, m_isPage1 c0 (by omega) hp]
  by_cases h0 : z.pg.2 p 0 0 = 0
  case neg =>
    simp (disch := omega) only [zw_b1, zw_b2, zw_ck, zw_let, zw_ite, zw_some, i10, vin, nI_clamp, g.c0, h0, n_0, Nat.reduceAdd, Nat.reduceMul, Nat.reduceSub, Nat.reduceEqDiff, Nat.reduceLT, Nat.reduceLeDiff, reduceIte, true_and, and_true, false_and, and_false, ite_true, ite_false, if_true, if_false, not_true_eq_false, not_false_eq_true]
    exact m_tell' m (fr.refl _ _) neg3
  by_cases h1 : z.pg.2 p 1 0 = 0
  · simp (disch := omega) only [zw_b1, zw_b2, zw_ck, zw_let, zw_ite, zw_some, i10, vin, nI_clamp, g.c0, g.c1, h0, h1, n_0, Nat.reduceAdd, Nat.reduceMul, Nat.reduceSub, Nat.reduceEqDiff, Nat.reduceLT, Nat.reduceLeDiff, reduceIte, true_and, and_true, false_and, and_false, ite_true, ite_false, if_true, if_false, not_true_eq_false, not_false_eq_true]
    exact m_tell' m (fr.refl _ _) neg5
  by_cases h3 : z.pg.1 = 10
  · simp (disch := omega) only [zw_b1, zw_b2, zw_ck, zw_let, zw_ite, zw_some, i10, vin, nI_clamp, g.c0, g.c1, h0, h1, n_0, Nat.reduceAdd, Nat.reduceMul, Nat.reduceSub, Nat.reduceEqDiff, Nat.reduceLT, Nat.reduceLeDiff, reduceIte, true_and, and_true, false_and, and_false, ite_true, ite_false, if_true, if_false, not_true_eq_false, not_false_eq_true, c0, h3, li, nI_eq]
    exact m_tell' m (fr.refl _ _) neg6
  have c10 : (nI z.pg.1 = 10) = False := eq_false (by rw [li, nI_eq (by omega) (by omega)]; exact h3)
  simp (disch := omega) only [zw_b1, zw_b2, zw_ck, zw_let, zw_ite, zw_some, i10, vin, nI_clamp, g.c0, g.c1, h0, h1, n_0, Nat.reduceAdd, Nat.reduceMul, Nat.reduceSub, Nat.reduceEqDiff, Nat.reduceLT, Nat.reduceLeDiff, reduceIte, true_and, and_true, false_and, and_false, ite_true, ite_false, if_true, if_false, not_true_eq_false, not_false_eq_true, c0, h3, c10, eI]
  generalize hG : z.pg.2 p = G at *
  generalize hN : z.pg.1 = np at *
  have f4 : fr (wPg np) h (zsI (zsI (zsI (zsI h 93 np 0) 94 np 0) 95 np (zI h 95 p)) 96 np (zI h 96 p)) := ((((fr.refl _ h).sI (by unfold wPg wSc; omega) _).sI (by unfold wPg wSc; omega) _).sI (by unfold wPg wSc; omega) _).sI (by unfold wPg wSc; omega) _
  refine zw_for (fun i s => s.2 = nI i ∧ fr (wPg np) h s.1 ∧ (∀ c, c < 4 → zI s.1 (93 + c) np = nI (gC G 1 0 c 0)) ∧ zI s.1 92 0 = nI np ∧ ∀ c k, c < 5 → k < i → zI s.1 (97 + c) (100 * np + k) = nI (G (4 + c) k)) (G 2 0) ?_ ?_
  · rintro i ⟨h1, x⟩ hi ⟨rfl, f, hc, hz, he⟩
    dsimp only at f hc hz he ⊢
    have g1 := mPg_frq f (by omega : p ≠ np) s2 s3 g
    unfold fX9_derive_L107
    simp (disch := omega) only [zw_b1, zw_b2, zw_ck, zw_let, zw_ite, zw_some, vin, nI_clamp, g1.c2, Nat.reduceAdd, Nat.reduceMul, Nat.reduceSub, Nat.reduceEqDiff, Nat.reduceLT, Nat.reduceLeDiff, reduceIte, true_and, and_true, false_and, and_false, ite_true, ite_false, if_true, if_false, not_true_eq_false, not_false_eq_true, nI_leI, li, pk_mul, nI_add]
    split
    · have hi' : i = G 2 0 := by omega
      subst hi'
      refine zw_for (fun i s => s.2 = nI i ∧ fr (wPg np) h s.1 ∧ (∀ c, c < 4 → zI s.1 (93 + c) np = nI (gC G 1 0 c 0)) ∧ zI s.1 92 0 = nI np ∧ (∀ c k, c < 5 → k < G 2 0 → zI s.1 (97 + c) (100 * np + k) = nI (G (4 + c) k)) ∧ ∀ c k, c < 4 → k < i → zI s.1 (102 + c) (10 * np + k) = nI (G (9 + c) k)) (G 3 0) ?_ ⟨rfl, f, hc, hz, he, fun c k _ hk => absurd hk (Nat.not_lt_zero _)⟩
      rintro i ⟨h2, x⟩ hi ⟨rfl, f, hc, hz, he, hs⟩
      dsimp only at f hc hz he hs ⊢
      have g1 := mPg_frq f (by omega : p ≠ np) s2 s3 g
      unfold fX9_derive_L141
      simp (disch := omega) only [zw_b1, zw_b2, zw_ck, zw_let, zw_ite, zw_some, vin, nI_clamp, g1.c3, Nat.reduceAdd, Nat.reduceMul, Nat.reduceSub, Nat.reduceEqDiff, Nat.reduceLT, Nat.reduceLeDiff, reduceIte, true_and, and_true, false_and, and_false, ite_true, ite_false, if_true, if_false, not_true_eq_false, not_false_eq_true, nI_leI, li, pk_mul, nI_add]
      split
      · have hi' : i = G 3 0 := by omega
        subst hi'
        have f2 := f.sI (a := 92) (k := 0) (by unfold wPg wSc; omega) (zI h2 92 0 + nI 1)
        refine ⟨rfl, ?_, f2.mono (wPg_all _)⟩
        have := m.upQ (np := np + 1) (g := gC G 1 0) w f2 (by rw [eI, if_pos ⟨rfl, rfl⟩, hz, nI_add]) (fun p _ _ => by omega) (fun _ => ⟨fun c h4 => ?_, fun c k h5 hk => ?_, fun c k h5 hk => ?_⟩)
        · exact this
        · rw [eI, if_neg (by omega)]; exact hc c h4
        · rw [eI, if_neg (by omega), he c k h5 (by simpa only [gC, Nat.reduceAdd, Nat.reduceMul, Nat.reduceSub, Nat.reduceEqDiff, Nat.reduceLT, Nat.reduceLeDiff, reduceIte, true_and, and_true, false_and, and_false, ite_true, ite_false, if_true, if_false, not_true_eq_false, not_false_eq_true] using hk)]
          unfold gC
          rw [if_neg (by omega)]
        · rw [eI, if_neg (by omega), hs c k h5 (by simpa only [gC, Nat.reduceAdd, Nat.reduceMul, Nat.reduceSub, Nat.reduceEqDiff, Nat.reduceLT, Nat.reduceLeDiff, reduceIte, true_and, and_true, false_and, and_false, ite_true, ite_false, if_true, if_false, not_true_eq_false, not_false_eq_true] using hk)]
          unfold gC
          rw [if_neg (by omega)]
      · have hB : zB (zI h2 105 (10 * p + i)) = True := by rw [g1.s3 (by omega)]; exact zBn (sm.2.2.2.2.2 i (by omega)).2.2.2.2
        refine (m_copyS (by omega) (by omega) hB).mono ?_
        rintro h3 ⟨f3, e3⟩
        refine ⟨by omega, f.trans (f3.mono fun a x hw => by unfold wPg wSc; omega), fun c hc4 => ?_, ?_, fun c k h5 hk => ?_, fun c k h5 hk => ?_⟩
        · rw [f3.I (by omega)]; exact hc c hc4
        · rw [f3.I (by omega)]; exact hz
        · rw [f3.I (by omega)]; exact he c k h5 hk
        · by_cases hki : k = i
          · subst hki
            rw [e3 c h5]
            exact g1.2.2 c k h5 (by omega)
          · rw [f3.I (by omega)]; exact hs c k h5 (by omega)
    · have hB : zB (zI h1 101 (100 * p + i)) = True := by rw [g1.e4 (by omega)]; exact zBn (sm.2.2.2.2.1 i (by omega)).2.2.2.2.2
      refine (m_copyE (by omega) (by omega) hB).mono ?_
      rintro h3 ⟨f3, e3⟩
      refine ⟨by omega, f.trans (f3.mono fun a x hw => by unfold wPg wSc; omega), fun c hc4 => ?_, ?_, fun c k h5 hk => ?_⟩
      · rw [f3.I (by omega)]; exact hc c hc4
      · rw [f3.I (by omega)]; exact hz
      · by_cases hki : k = i
        · subst hki
          rw [e3 c h5]
          exact g1.2.1 c k h5 (by omega)
        · rw [f3.I (by omega)]; exact he c k h5 (by omega)
  · refine ⟨rfl, f4, fun c hc => ?_, ?_, fun c k _ hk => absurd hk (Nat.not_lt_zero _)⟩
    · have e4 : c = 0 ∨ c = 1 ∨ c = 2 ∨ c = 3 := by omega
      rcases e4 with rfl | rfl | rfl | rfl <;> simp only [eI, Nat.reduceAdd, Nat.reduceMul, Nat.reduceSub, Nat.reduceEqDiff, Nat.reduceLT, Nat.reduceLeDiff, reduceIte, true_and, and_true, false_and, and_false, ite_true, ite_false, if_true, if_false, not_true_eq_false, not_false_eq_true, gC, g.c2, g.c3, h0] <;> rfl
    · simp only [eI, Nat.reduceAdd, Nat.reduceMul, Nat.reduceSub, Nat.reduceEqDiff, Nat.reduceLT, Nat.reduceLeDiff, reduceIte, true_and, and_true, false_and, and_false, ite_true, ite_false, if_true, if_false, not_true_eq_false, not_false_eq_true, c0]
noncomputable def sp_shift (z : gZ) (p s b t f : Int32) : Int32 × gZ := sp_fix z p (fun p => match vR s 0 3, vR t 0 3, vR b 0 255 with
  | some s, some t, some b => if s = t then qT z (-1)
    else if gSh (z.pg.2 p) s b < z.pg.2 p 3 0 then qT z (-7)
    else if z.pg.2 p 3 0 = 10 then qT z (-6)
    else (0, qP z (z.pg.1, gAt z.pg.2 p (gC (gS4 (z.pg.2 p) (z.pg.2 p 3 0) s b t (if f = 0 then 0 else 1)) 3 (z.pg.2 p 3 0 + 1))))
  | _, _, _ => qT z (-1))
theorem m_shift {h : zH} {z : gZ} {x s b t f : Int32} (m : MR h z) (w : pgWf z.pg) (hf : zB f) : zw (fX9_shift h 92 x s b t f) (mQ h (sp_shift z x s b t f)) := by
  have hn := w.1
  have c0 := m.pg.1
  unfold fX9_shift sp_shift
  rcases m_fixed m w x with ⟨v, hv, hv0, e, ek⟩ | ⟨p, hp, rfl, k0, k1, e, ek⟩
  · rw [e, ek]
    simp only [zw_b1, zw_some, hv0, if_false]
    exact m_tell' m (fr.refl _ _) hv
  rw [e, ek]
  simp only [zw_b1, zw_some, if_true]
  rcases vR_cases s 0 3 (by omega) (by omega) with ⟨t1, t9, -⟩ | ⟨s', -, hs, rfl, t1, t9, -⟩
  · rw [t1, show fX9_in s 0 3 = some 0 from t9]
    simp only [zw_b1, zw_some, if_true]
    exact m_tell' m (fr.refl _ _) neg1
  rcases vR_cases t 0 3 (by omega) (by omega) with ⟨t2, u9, -⟩ | ⟨t', -, ht, rfl, t2, u9, -⟩
  · rw [t1, t2, show fX9_in (nI s') 0 3 = some 1 from t9, show fX9_in t 0 3 = some 0 from u9]
    simp only [zw_b1, zw_some, if_true, i10, if_false]
    exact m_tell' m (fr.refl _ _) neg1
  rw [show fX9_in (nI s') 0 3 = some 1 from t9, show fX9_in (nI t') 0 3 = some 1 from u9]
  rcases vR_cases b 0 255 (by omega) (by omega) with ⟨t3, w9, -⟩ | ⟨b', -, hb, rfl, t3, w9, -⟩
  · rw [t1, t2, t3, show fX9_in b 0 255 = some 0 from w9]
    simp only [zw_b1, zw_some, if_true, i10, if_false, zw_ite]
    split
    · exact m_tell' m (fr.refl _ _) neg1
    · exact m_tell' m (fr.refl _ _) neg1
  rw [t1, t2, t3, show fX9_in (nI b') 0 255 = some 1 from w9]
  have g := m.pg.2 p hp
  have sm := w.2 p hp
  have s3 := sm.2.2.2.1
  have eo := m_shiftOf (p := p) (s := s') (b := b') (by omega) (by omega) (by omega) g sm
  rw [eo]
  by_cases hst : s' = t'
  · simp only [zw_b1, zw_some, i10, if_false, hst, if_true]
    exact m_tell' m (fr.refl _ _) neg1
  have hst' : (nI s' = nI t') = False := eq_false (by rw [nI_eq (by omega) (by omega)]; exact hst)
  simp only [zw_b1, zw_some, i10, hst, hst', if_false]
  generalize hG : z.pg.2 p = G at *
  by_cases hd : gSh G s' b' < G 3 0
  · simp only [hd, if_true, nneg (show 10 * p + gSh G s' b' < 2 ^ 31 by omega), if_false]
    exact m_tell' m (fr.refl _ _) neg7
  simp only [hd, if_false, neg1, if_true]
  by_cases h10 : G 3 0 = 10
  · simp (disch := omega) only [zw_b1, zw_b2, zw_ck, zw_let, zw_ite, zw_some, vin, nI_clamp, Nat.reduceAdd, Nat.reduceMul, Nat.reduceSub, Nat.reduceEqDiff, Nat.reduceLT, Nat.reduceLeDiff, reduceIte, true_and, and_true, false_and, and_false, ite_true, ite_false, if_true, if_false, not_true_eq_false, not_false_eq_true, g.c3, h10, li, nI_eq]
    exact m_tell' m (fr.refl _ _) neg6
  have c10 : (nI (G 3 0) = 10) = False := eq_false (by rw [li, nI_eq (by omega) (by omega)]; exact h10)
  have hf' : zB f = True := eq_true hf
  have ix : (10 : Int32) * nI p + nI (G 3 0) = nI (10 * p + G 3 0) := by rw [li, pk_mul, nI_add]
  simp (disch := omega) only [zw_b1, zw_b2, zw_ck, zw_let, zw_ite, zw_some, vin, nI_clamp, Nat.reduceAdd, Nat.reduceMul, Nat.reduceSub, Nat.reduceEqDiff, Nat.reduceLT, Nat.reduceLeDiff, reduceIte, true_and, and_true, false_and, and_false, ite_true, ite_false, if_true, if_false, not_true_eq_false, not_false_eq_true, g.c3, c10, h10, ix, hf']
  have f5 : fr (wPg p) h (zsI (zsI (zsI (zsI h 102 (10 * p + G 3 0) (nI s')) 103 (10 * p + G 3 0) (nI b')) 104 (10 * p + G 3 0) (nI t')) 105 (10 * p + G 3 0) f) := ((((fr.refl _ h).sI (by unfold wPg wSc; omega) _).sI (by unfold wPg wSc; omega) _).sI (by unfold wPg wSc; omega) _).sI (by unfold wPg wSc; omega) _
  have f6 := f5.sI (a := 96) (k := p) (by unfold wPg wSc; omega) (zI (zsI (zsI (zsI (zsI h 102 (10 * p + G 3 0) (nI s')) 103 (10 * p + G 3 0) (nI b')) 104 (10 * p + G 3 0) (nI t')) 105 (10 * p + G 3 0) f) 96 p + 1)
  have ef : f = nI (if f = 0 then 0 else 1) := by rcases hf with rfl | rfl <;> rfl
  refine ⟨rfl, m.upQ w f6 ?_ (fun _ h _ => h) (fun _ => ⟨fun c' hc' => ?_, fun c' j hc' hj => ?_, fun c' j hc' hj => ?_⟩), f6.mono (wPg_all _)⟩
  · simp only [eI, Nat.reduceAdd, Nat.reduceMul, Nat.reduceSub, Nat.reduceEqDiff, Nat.reduceLT, Nat.reduceLeDiff, reduceIte, true_and, and_true, false_and, and_false, ite_true, ite_false, if_true, if_false, not_true_eq_false, not_false_eq_true, c0]
  · have e4 : c' = 0 ∨ c' = 1 ∨ c' = 2 ∨ c' = 3 := by omega
    rcases e4 with rfl | rfl | rfl | rfl <;> simp only [eI, Nat.reduceAdd, Nat.reduceMul, Nat.reduceSub, Nat.reduceEqDiff, Nat.reduceLT, Nat.reduceLeDiff, reduceIte, true_and, and_true, false_and, and_false, ite_true, ite_false, if_true, if_false, not_true_eq_false, not_false_eq_true, gC, gS4, g.c0, g.c1, g.c2, g.c3, nI_1, ite_self]
  · have hj3 : j < G 2 0 := by
      simp only [gC, gS4, Nat.reduceAdd, Nat.reduceMul, Nat.reduceSub, Nat.reduceEqDiff, Nat.reduceLT, Nat.reduceLeDiff, reduceIte, true_and, and_true, false_and, and_false, ite_true, ite_false, if_true, if_false, not_true_eq_false, not_false_eq_true, ite_self] at hj; exact hj
    have : zI h (97 + c') (100 * p + j) = nI (G (4 + c') j) := g.2.1 c' j hc' hj3
    rw [eI, if_neg (by omega), eI, if_neg (by omega), eI, if_neg (by omega), eI, if_neg (by omega), eI, if_neg (by omega), this]
    unfold gC gS4
    rw [if_neg (by omega)]
    split
    · rw [if_neg (by omega), if_neg (by omega), if_neg (by omega), if_neg (by omega)]
    · rfl
  · have hj3 : j < G 3 0 + 1 := by
      simp only [gC, Nat.reduceAdd, Nat.reduceMul, Nat.reduceSub, Nat.reduceEqDiff, Nat.reduceLT, Nat.reduceLeDiff, reduceIte, true_and, and_true, false_and, and_false, ite_true, ite_false, if_true, if_false, not_true_eq_false, not_false_eq_true] at hj; exact hj
    have e4 : c' = 0 ∨ c' = 1 ∨ c' = 2 ∨ c' = 3 := by omega
    by_cases hjk : j = G 3 0
    · subst hjk
      rcases e4 with rfl | rfl | rfl | rfl <;> simp only [eI, Nat.reduceAdd, Nat.reduceMul, Nat.reduceSub, Nat.reduceEqDiff, Nat.reduceLT, Nat.reduceLeDiff, reduceIte, true_and, and_true, false_and, and_false, ite_true, ite_false, if_true, if_false, not_true_eq_false, not_false_eq_true, gC, gS4]
      exact ef
    · have : zI h (102 + c') (10 * p + j) = nI (G (9 + c') j) := g.2.2 c' j hc' (by omega)
      rw [eI, if_neg (by omega), eI, if_neg (by omega), eI, if_neg (by omega), eI, if_neg (by omega), eI, if_neg (by omega), this]
      unfold gC gS4
      rw [if_neg (by omega), if_neg hjk]
