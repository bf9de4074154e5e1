/-! the exchange's tables: entry shift drop -/
set_option maxRecDepth 100000
theorem zxv_n {γ : Type} (h : zH) (k : zH → Option γ) (t : Nat → zH → Option γ) : zxv (some (.inl none, h)) k t = k h := Eq.trans rfl rfl
theorem zxv_e {γ : Type} (a : Nat) (h : zH) (k : zH → Option γ) (t : Nat → zH → Option γ) : zxv (some (.inr a, h)) k t = t a h := Eq.trans rfl rfl
theorem zxr_r {γ : Type} (b : Nat) (h : zH) (k : Option Nat → zH → Option γ) (t : Nat → zH → Option γ) : zxr (some (.inl (some (.ref b)), h)) k t = k (some b) h := Eq.trans rfl rfl
theorem zxr_e {γ : Type} (a : Nat) (h : zH) (k : Option Nat → zH → Option γ) (t : Nat → zH → Option γ) : zxr (some (.inr a, h)) k t = t a h := Eq.trans rfl rfl
theorem zxi_i {γ : Type} (v : Int32) (h : zH) (k : Int32 → zH → Option γ) (t : Nat → zH → Option γ) : zxi (some (.inl (some (.int v)), h)) k t = k v h := Eq.trans rfl rfl
theorem zxi_e {γ : Type} (a : Nat) (h : zH) (k : Int32 → zH → Option γ) (t : Nat → zH → Option γ) : zxi (some (.inr a, h)) k t = t a h := Eq.trans rfl rfl
theorem zb1_s {α γ : Type} (a : α) (k : α → Option γ) : zb1 (some a) k = k a := Eq.trans rfl rfl
theorem zb2_s {α β γ : Type} (a : α) (b : β) (k : α → β → Option γ) : zb2 (some (a, b)) k = k a b := Eq.trans rfl rfl
theorem xTab_upE {h h' : zH} {a k : Nat} {g g' : gP} (m : xTab h a g) (f : fr (fun b j => a + 1 ≤ b ∧ b ≤ a + 5 ∧ j = k ∨ b = a ∧ j = 4) h h') (h1 : g' 1 0 = g 1 0) (h2 : zI h' a 4 = nI (g' 2 0)) (h3 : g' 3 0 = g 3 0) (he : ∀ c j, c < 5 → j < g' 2 0 → j ≠ k → j < g 2 0 ∧ g' (4 + c) j = g (4 + c) j) (hk : ∀ c, c < 5 → zI h' (a + xo c) k = nI (g' (4 + c) k)) (hs : ∀ c j, c < 4 → g' (9 + c) j = g (9 + c) j) : xTab h' a g' := by
  refine ⟨?_, h2, ?_, fun c j hc hj => ?_, fun c j hc hj => ?_⟩
  · rw [f.I (by omega), h1]; exact m.1
  · rw [f.I (by omega), h3]; exact m.2.2.1
  · by_cases e : j = k
    · subst e; exact hk c hc
    · obtain ⟨h5, h6⟩ := he c j hc hj e
      have := xo_rg hc
      rw [f.I (by omega), h6]
      exact m.2.2.2.1 c j hc h5
  · rw [f.I (by omega), hs c j hc]
    exact m.2.2.2.2 c j hc (by omega)
theorem xTab_upS {h h' : zH} {a k : Nat} {g g' : gP} (m : xTab h a g) (f : fr (fun b j => a + 6 ≤ b ∧ b ≤ a + 9 ∧ j = k ∨ b = a ∧ j = 10) h h') (h1 : g' 1 0 = g 1 0) (h2 : zI h' a 10 = nI (g' 3 0)) (h3 : g' 2 0 = g 2 0) (he : ∀ c j, c < 4 → j < g' 3 0 → j ≠ k → j < g 3 0 ∧ g' (9 + c) j = g (9 + c) j) (hk : ∀ c, c < 4 → zI h' (a + 6 + c) k = nI (g' (9 + c) k)) (hs : ∀ c j, c < 5 → g' (4 + c) j = g (4 + c) j) : xTab h' a g' := by
  refine ⟨?_, ?_, h2, fun c j hc hj => ?_, fun c j hc hj => ?_⟩
  · rw [f.I (by omega), h1]; exact m.1
  · rw [f.I (by omega), h3]; exact m.2.1
  · have := xo_rg hc
    rw [f.I (by omega), hs c j hc]
    exact m.2.2.2.1 c j hc (by omega)
  · by_cases e : j = k
    · subst e; exact hk c hc
    · obtain ⟨h5, h6⟩ := he c j hc hj e
      rw [f.I (by omega), h6]
      exact m.2.2.2.2 c j hc h5
/-- an open table was changed: the answer -/
theorem x_fin {h h' : zH} {y : gY} {z : gZ} {p : Nat} {g : gP} {v : Int32} (x : XR h y z) (hp : p < z.pg.1) (k0 : z.pg.2 p 0 0 = 0) (f : fr (fun b _ => y.1 p ≤ b ∧ b ≤ y.1 p + 21) h h') (t : xTab h' (y.1 p) g) (g0 : g 0 0 = 0) (g1 : g 1 0 = 0) : xQ h (v, qP z (z.pg.1, gAt z.pg.2 p g)) (v, h') := by
  have f' : fx (wxPg z.pg.1 y p) h h' := fr.fx (f.mono fun a j hw => Or.inr (by omega))
  have q1 := (x.pg.2.2.2.2.2.2.1.1 p hp).1
  refine ⟨rfl, ⟨y, x.upQ f' hp k0 ⟨fun _ => ⟨zCt.ext ((x.pg.2.2.2.2.2.2.2 p hp).1 k0).1 f.lx, t, fun q => absurd q (by omega)⟩, fun q => absurd g0 q⟩ g0⟩, fr.fx (f.mono fun a j hw => by unfold wX; omega), ?_, ?_⟩
  · show zc h' ≤ _; rw [f.1.2.1]; omega
  · show zu h' ≤ _; rw [f.1.2.2]; omega
theorem x_entry {h : zH} {y : gY} {z : gZ} {X s b n code : Int32} (x : XR h y z) (w : pgWf z.pg) : zw (fX0_entry h 1 X s b n code) (xQ h (sp_entry z X s b n code)) := by
  have e22 : fX0_entry h 1 X s b n code = zxr (fX0_tableAt h 1 X 0) (fun v_2 h_3 => zb1 v_2 (fun b_12 => fX0_entry_J22 h_3 1 s b n code b_12 (ptOf code))) (fun e_4 h_5 => zck (zT h_5 e_4 = (2, 0)) (zck (zOb 1 h_5 e_4) (zb2 (fX0_answer h_5 1 (zI h_5 e_4 6)) (fun v_10 h_11 => some ((v_10, h_11)))))) := by
    unfold fX0_entry ptOf
    congr 1
    funext v h
    congr 1
    funext b
    by_cases hc : code < 0
    · rw [if_neg (by rw [neg_nn hc]; exact id), if_pos hc]
    · rw [if_pos (i_lt.mp hc), if_neg hc]
  rw [e22]
  unfold sp_entry
  rcases x_fixed x w X with ⟨v, h1, hv, t, xe, ek⟩ | ⟨p, hp, rfl, k0, k1, t, ek⟩
  · rw [t, ek]
    exact x_han x xe hv
  rw [t, ek]
  show zw (fX0_entry_J22 h 1 s b n code (y.1 p) (ptOf code)) _
  unfold fX0_entry_J22
  have no : zw (fX0_entry_J47 h 1 s b n code (y.1 p) (ptOf code)) (xQ h (qT z (-1))) := by
    unfold fX0_entry_J47 fX0_entry_J48
    exact x_need x neg1 _
  rcases tx_cases s b n with ⟨u, -, u0⟩ | ⟨s', b', n', hs, hn1, hn3, hb, hb24, rfl, rfl, rfl, u, -, u0⟩
  · rw [u, u0]
    simp only [zw_b1, zw_some, if_true]
    exact no
  rcases pt_cases (ptOf code) with ⟨q, -, q0⟩ | ⟨pt, hpt, ept, q, -, q0⟩
  · rw [u, u0, q, q0]
    simp only [zw_b1, zw_some, if_true, i10, if_false]
    exact no
  rw [u, u0, q, q0, ept]
  have g := x.pg.2.2.2.2.2.2.2 p hp
  obtain ⟨tb, tab, -⟩ := g.1 k0
  have sm := w.2 p hp
  have s2 := sm.2.2.1
  have hpt2 := hpt.1
  have eo := x_find (s := s') (n := n') (b := b') (by omega) (by omega) (by omega) tab sm
  simp only [zw_b1, zw_some, i10, if_false]
  unfold fX0_entry_J48
  rw [x_need1]
  show zw (zck (zTb h (y.1 p)) (zb1 (fX3_find h (y.1 p) (nI s') (nI b') (nI n')) _)) _
  rw [zw_ck]
  refine ⟨tb, ?_⟩
  rw [eo, zw_b1, zw_some]
  generalize hG : z.pg.2 p = G at *
  generalize hA : y.1 p = A at *
  have fin : ∀ k np' : Nat, ∀ x9 : Nat, k < 100 → (x9 = 0 → k = G 2 0 ∧ np' = 0) → (x9 = 1 → k < G 2 0 ∧ np' = 1) → x9 ≤ 1 → ∀ h2 : zH, h2 = (if x9 = 0 then zsI h A 4 (nI (G 2 0 + 1)) else h) → zw (fX0_entry_J124 h2 1 (nI s') (nI b') (nI n') code A (nI pt) (nI k) (nI x9)) (xQ h (nI np', qP z (z.pg.1, gAt z.pg.2 p (if x9 = 0 then gC (gE5 G k s' n' b' pt (if code < 0 then 0 else 1)) 2 (G 2 0 + 1) else gE5 G k s' n' b' pt (if code < 0 then 0 else 1))))) := by
    intro k np' x9 hk ha hb hx h2 hh2
    have f2 : fr (fun b j => A + 1 ≤ b ∧ b ≤ A + 5 ∧ j = k ∨ b = A ∧ j = 4) h h2 := by
      rw [hh2]
      split
      · exact (fr.refl _ h).sI (by omega) _
      · exact fr.refl _ _
    have tb2 : zTb h2 A := zCt.ext tb f2.lx
    have fin2 : ∀ c : Nat, c = (if code < 0 then 0 else 1) → zw (zck (zTb h2 A) (zb1 (fX3_set h2 A (nI k) (nI s') (nI b') (nI n') (nI pt) (nI c)) (fun h_45 => if nI x9 = 0 then (some ((0, h_45))) else (some ((1, h_45)))))) (xQ h (nI np', qP z (z.pg.1, gAt z.pg.2 p (if x9 = 0 then gC (gE5 G k s' n' b' pt (if code < 0 then 0 else 1)) 2 (G 2 0 + 1) else gE5 G k s' n' b' pt (if code < 0 then 0 else 1))))) := by
      intro c hc
      rw [← hc]
      have hc1 : c ≤ 1 := by rw [hc]; split <;> omega
      rw [zw_ck, zw_b1]
      refine ⟨tb2, ?_⟩
      refine (x_set (h := h2) (a := A) (k := k) (v := fun c' => if c' = 0 then nI s' else if c' = 1 then nI n' else if c' = 2 then nI b' else if c' = 3 then nI pt else nI c) hk (of_eq_true (zBn hc1))).mono ?_
      rintro h3 ⟨f3, e3⟩
      have f4 := f2.trans (f3.mono fun b j hw => Or.inl hw)
      have fq : fr (fun b _ => A ≤ b ∧ b ≤ A + 21) h h3 := f4.mono fun b j hw => by omega
      have x9c : x9 = 0 ∨ x9 = 1 := by omega
      rcases x9c with rfl | rfl
      · obtain ⟨rfl, rfl⟩ := ha rfl
        rw [if_pos nI_0, if_pos rfl, zw_some]
        have := x_fin (v := nI 0) (g := gC (gE5 G (G 2 0) s' n' b' pt c) 2 (G 2 0 + 1)) x hp (by rw [hG]; exact k0) (by rw [hA]; exact fq) (by
          rw [hA]
          refine xTab_upE (k := G 2 0) tab f4 ?_ ?_ ?_ ?_ ?_ ?_
          · simp only [gC, gE5, Nat.reduceAdd, Nat.reduceMul, Nat.reduceSub, Nat.reduceEqDiff, Nat.reduceLT, Nat.reduceLeDiff, reduceIte, true_and, and_true, false_and, and_false, ite_true, ite_false, if_true, if_false, not_true_eq_false, not_false_eq_true, ite_self]
          · rw [f3.I (by omega), hh2, if_pos rfl, eI, if_pos ⟨rfl, rfl⟩]; simp only [gC, Nat.reduceAdd, Nat.reduceMul, Nat.reduceSub, Nat.reduceEqDiff, Nat.reduceLT, Nat.reduceLeDiff, reduceIte, true_and, and_true, false_and, and_false, ite_true, ite_false, if_true, if_false, not_true_eq_false, not_false_eq_true]
          · simp only [gC, gE5, Nat.reduceAdd, Nat.reduceMul, Nat.reduceSub, Nat.reduceEqDiff, Nat.reduceLT, Nat.reduceLeDiff, reduceIte, true_and, and_true, false_and, and_false, ite_true, ite_false, if_true, if_false, not_true_eq_false, not_false_eq_true, ite_self]
          · intro c' j hc' hj hjk
            simp only [gC, Nat.reduceAdd, Nat.reduceMul, Nat.reduceSub, Nat.reduceEqDiff, Nat.reduceLT, Nat.reduceLeDiff, reduceIte, true_and, and_true, false_and, and_false, ite_true, ite_false, if_true, if_false, not_true_eq_false, not_false_eq_true] at hj
            refine ⟨by omega, ?_⟩
            unfold gC gE5
            rw [if_neg (by omega), if_neg hjk]
          · intro c' hc'
            rw [e3 c' hc']
            have : c' = 0 ∨ c' = 1 ∨ c' = 2 ∨ c' = 3 ∨ c' = 4 := by omega
            rcases this with rfl | rfl | rfl | rfl | rfl <;> simp only [gC, gE5, Nat.reduceAdd, Nat.reduceMul, Nat.reduceSub, Nat.reduceEqDiff, Nat.reduceLT, Nat.reduceLeDiff, reduceIte, true_and, and_true, false_and, and_false, ite_true, ite_false, if_true, if_false, not_true_eq_false, not_false_eq_true]
          · intro c' j hc'
            unfold gC gE5
            rw [if_neg (by omega)]
            split
            · rw [if_neg (by omega), if_neg (by omega), if_neg (by omega), if_neg (by omega), if_neg (by omega)]
            · rfl) (by simp only [gC, gE5, Nat.reduceAdd, Nat.reduceMul, Nat.reduceSub, Nat.reduceEqDiff, Nat.reduceLT, Nat.reduceLeDiff, reduceIte, true_and, and_true, false_and, and_false, ite_true, ite_false, if_true, if_false, not_true_eq_false, not_false_eq_true, ite_self, k0]) (by simp only [gC, gE5, Nat.reduceAdd, Nat.reduceMul, Nat.reduceSub, Nat.reduceEqDiff, Nat.reduceLT, Nat.reduceLeDiff, reduceIte, true_and, and_true, false_and, and_false, ite_true, ite_false, if_true, if_false, not_true_eq_false, not_false_eq_true, ite_self, k1])
        exact this
      · obtain ⟨hk2, rfl⟩ := hb rfl
        rw [if_neg n10, if_neg (by omega), zw_some]
        have := x_fin (v := nI 1) (g := gE5 G k s' n' b' pt c) x hp (by rw [hG]; exact k0) (by rw [hA]; exact fq) (by
          rw [hA]
          refine xTab_upE (k := k) tab f4 ?_ ?_ ?_ ?_ ?_ ?_
          · simp only [gE5, Nat.reduceAdd, Nat.reduceMul, Nat.reduceSub, Nat.reduceEqDiff, Nat.reduceLT, Nat.reduceLeDiff, reduceIte, true_and, and_true, false_and, and_false, ite_true, ite_false, if_true, if_false, not_true_eq_false, not_false_eq_true, ite_self]
          · rw [f3.I (by omega), hh2, if_neg (by omega)]; simp only [gE5, Nat.reduceAdd, Nat.reduceMul, Nat.reduceSub, Nat.reduceEqDiff, Nat.reduceLT, Nat.reduceLeDiff, reduceIte, true_and, and_true, false_and, and_false, ite_true, ite_false, if_true, if_false, not_true_eq_false, not_false_eq_true, ite_self]; exact tab.2.1
          · simp only [gE5, Nat.reduceAdd, Nat.reduceMul, Nat.reduceSub, Nat.reduceEqDiff, Nat.reduceLT, Nat.reduceLeDiff, reduceIte, true_and, and_true, false_and, and_false, ite_true, ite_false, if_true, if_false, not_true_eq_false, not_false_eq_true, ite_self]
          · intro c' j hc' hj hjk
            simp only [gE5, Nat.reduceAdd, Nat.reduceMul, Nat.reduceSub, Nat.reduceEqDiff, Nat.reduceLT, Nat.reduceLeDiff, reduceIte, true_and, and_true, false_and, and_false, ite_true, ite_false, if_true, if_false, not_true_eq_false, not_false_eq_true, ite_self] at hj
            refine ⟨by omega, ?_⟩
            unfold gE5
            rw [if_neg hjk]
          · intro c' hc'
            rw [e3 c' hc']
            have : c' = 0 ∨ c' = 1 ∨ c' = 2 ∨ c' = 3 ∨ c' = 4 := by omega
            rcases this with rfl | rfl | rfl | rfl | rfl <;> simp only [gE5, Nat.reduceAdd, Nat.reduceMul, Nat.reduceSub, Nat.reduceEqDiff, Nat.reduceLT, Nat.reduceLeDiff, reduceIte, true_and, and_true, false_and, and_false, ite_true, ite_false, if_true, if_false, not_true_eq_false, not_false_eq_true]
          · intro c' j hc'
            unfold gE5
            split
            · rw [if_neg (by omega), if_neg (by omega), if_neg (by omega), if_neg (by omega), if_neg (by omega)]
            · rfl) (by simp only [gE5, Nat.reduceAdd, Nat.reduceMul, Nat.reduceSub, Nat.reduceEqDiff, Nat.reduceLT, Nat.reduceLeDiff, reduceIte, true_and, and_true, false_and, and_false, ite_true, ite_false, if_true, if_false, not_true_eq_false, not_false_eq_true, ite_self, k0]) (by simp only [gE5, Nat.reduceAdd, Nat.reduceMul, Nat.reduceSub, Nat.reduceEqDiff, Nat.reduceLT, Nat.reduceLeDiff, reduceIte, true_and, and_true, false_and, and_false, ite_true, ite_false, if_true, if_false, not_true_eq_false, not_false_eq_true, ite_self, k1])
        exact this
    unfold fX0_entry_J124
    by_cases hcd : code < 0
    · rw [if_pos hcd]
      exact fin2 0 (by rw [if_pos hcd])
    · rw [if_neg hcd]
      exact fin2 1 (by rw [if_neg hcd])
  by_cases hd : gEn G s' n' b' < G 2 0
  · have := fin (gEn G s' n' b') 1 1 (by omega) (fun q => absurd q (by omega)) (fun _ => ⟨hd, rfl⟩) (by omega) h (by rw [if_neg (by omega)])
    simp only [hd, if_true, nneg (show gEn G s' n' b' < 2 ^ 31 by omega), if_false]
    unfold fX0_entry_J73 fX0_entry_J91 fX0_entry_J96
    rw [if_neg (by decide), x_need1, zxv_n, if_neg (by decide)]
    simp only [show ¬ (1 : Nat) = 0 by omega, if_false] at this
    exact this
  · simp only [hd, if_false, neg1, if_true]
    unfold fX0_entry_J73
    rw [if_pos rfl, zw_ck, tab.2.1]
    refine ⟨tb, ?_⟩
    by_cases h100 : G 2 0 = 100
    · rw [if_pos (by rw [h100]; exact Int32.le_refl _), if_pos h100]
      unfold fX0_entry_J96
      exact x_need x neg6 _
    · rw [if_neg (by rw [li, nI_leI (by omega) (by omega)]; omega), if_neg h100]
      unfold fX0_entry_J91 fX0_entry_J96
      rw [x_need1, zxv_n, if_pos rfl, zw_ck, zw_let, tab.2.1]
      refine ⟨tb, ?_⟩
      have := fin (G 2 0) 0 0 (by omega) (fun _ => ⟨rfl, rfl⟩) (fun q => absurd q (by omega)) (by omega) (zsI h A 4 (nI (G 2 0 + 1))) (by rw [if_pos rfl])
      simp only [if_true] at this
      rw [nI_1]
      exact this
