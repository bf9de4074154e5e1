/-! coverage: the exchange -/
set_option maxRecDepth 100000
def gLo (g : gP) (tn : Nat) (tu : Nat → Nat) (v : Nat) : Nat := ff (fun i => decide (v ≤ g 7 (tu i))) tn
theorem gLo_eq {g : gP} {tn lo v : Nat} {tu : Nat → Nat} (h1 : lo ≤ tn) (h2 : ∀ i, i < lo → g 7 (tu i) < v) (h3 : ∀ i, lo ≤ i → i < tn → v ≤ g 7 (tu i)) : gLo g tn tu v = lo := ff_eq h1 (fun j hj => decide_eq_false (by have := h2 j hj; omega)) (fun hl => decide_eq_true (h3 lo (Nat.le_refl _) hl))
theorem gLo_s {g : gP} {tn v : Nat} {tu : Nat → Nat} (sm : gSm g) (k0 : g 0 0 = 0) (pq : gPq g) (hT : gTurned g tn tu) : gLo g tn tu (v + 1) = gLo g tn tu v + if (ptB v && (gCd g v).isSome) = true then 1 else 0 := by
  obtain ⟨T1, T2, T3, T4⟩ := hT
  have eC : gCd g v = if gPr g v < g 2 0 then some (g 4 (gPr g v), g 5 (gPr g v), g 6 (gPr g v)) else none := by unfold gCd; rw [if_neg (by omega), if_neg (by omega), if_neg (by omega)]
  by_cases q : gPr g v < g 2 0
  · obtain ⟨y1, y2⟩ := gPr_yes q
    obtain ⟨i, hi, e⟩ := T4 _ q y2
    rw [← e] at y1
    have pt : isPt v := by have := (sm.2.2.2.2.1 _ (T2 i hi).1).2.2.2.2.1; rw [y1] at this; exact this
    have l1 : gLo g tn tu v = i := gLo_eq (by omega) (fun j hj => by have := T3 j i hj hi; omega) (fun j h1 h2 => by
      by_cases c : j = i
      · rw [c, y1]; exact Nat.le_refl _
      · have := T3 i j (by omega) h2; omega)
    have l2 : gLo g tn tu (v + 1) = i + 1 := gLo_eq (by omega) (fun j hj => by
      by_cases c : j = i
      · rw [c, y1]; omega
      · have := T3 j i (by omega) hi; omega) (fun j h1 h2 => by have := T3 i j (by omega) h2; omega)
    rw [l1, l2, eC, if_pos q, show ptB v = true from decide_eq_true pt]
    rfl
  · rw [eC, if_neg q, show (ptB v && (none : Option (Nat × Nat × Nat)).isSome) = false from Bool.and_false _]
    show ff _ tn = ff _ tn + 0
    refine ff_cong fun k hk => ?_
    have ne : g 7 (tu k) ≠ v := fun e => q (by rw [gPr_hit pq (T2 k hk).1 (T2 k hk).2 e]; exact (T2 k hk).1)
    by_cases c : v ≤ g 7 (tu k)
    · rw [decide_eq_true c, decide_eq_true (by omega)]
    · rw [decide_eq_false c, decide_eq_false (by omega)]
theorem gLo_n {g : gP} {tn a : Nat} {tu : Nat → Nat} (sm : gSm g) (k0 : g 0 0 = 0) (pq : gPq g) (hT : gTurned g tn tu) : ∀ n, gLo g tn tu (a + n) = gLo g tn tu a + gCv g a n
  | 0 => rfl
  | n + 1 => by
    rw [← Nat.add_assoc, gLo_s sm k0 pq hT, gLo_n sm k0 pq hT n, Nat.add_assoc]
    rfl
theorem cv_form {a : Nat} : ∀ n, a + n ≤ 1114112 → cn (fun i => ptB (a + i)) n = n - ((if 57344 < a + n then 57344 else a + n) - (if a < 55296 then 55296 else a))
  | 0, _ => by
    show 0 = _
    omega
  | n + 1, h => by
    show cn _ n + (if ptB (a + n) = true then 1 else 0) = _
    rw [cv_form n (by omega)]
    by_cases q : 55296 ≤ a + n ∧ a + n ≤ 57343
    · rw [show ptB (a + n) = false from decide_eq_false (by omega)]
      simp only [Bool.false_eq_true, if_false]
      (repeat' split) <;> omega
    · rw [show ptB (a + n) = true from decide_eq_true (by omega)]
      simp only [if_true]
      (repeat' split) <;> omega
theorem x_cvForm {a b : Nat} (h : a ≤ b) (hb : b ≤ 1114111) : (((nI b - nI a) + 1) - (if (((if 57343 < nI b then 57343 else nI b) - (if nI a < 55296 then 55296 else nI a)) + 1) < 0 then 0 else (((if 57343 < nI b then 57343 else nI b) - (if nI a < 55296 then 55296 else nI a)) + 1)) : Int32) = nI (cn (fun i => ptB (a + i)) (b - a + 1)) := by
  rw [cv_form _ (by omega), pk_sub h, nI_1]
  have e1 : (if (57343 : Int32) < nI b then (57343 : Int32) else nI b) = nI (if 57343 < b then 57343 else b) := by
    by_cases c : 57343 < b
    · rw [if_pos c, if_pos (by rw [li, nI_ltI (by omega) (by omega)]; exact c)]; rfl
    · rw [if_neg c, if_neg (by rw [li, nI_ltI (by omega) (by omega)]; exact c)]
  have e2 : (if nI a < (55296 : Int32) then (55296 : Int32) else nI a) = nI (if a < 55296 then 55296 else a) := by
    by_cases c : a < 55296
    · rw [if_pos c, if_pos (by rw [li, nI_ltI (by omega) (by omega)]; exact c)]; rfl
    · rw [if_neg c, if_neg (by rw [li, nI_ltI (by omega) (by omega)]; exact c)]
  rw [e1, e2]
  have e3 : (if 57344 < a + (b - a + 1) then 57344 else a + (b - a + 1)) = (if 57343 < b then 57343 else b) + 1 := by (repeat' split) <;> omega
  rw [e3]
  have hA : (if 57343 < b then 57343 else b) ≤ b := by split <;> omega
  have hB : a ≤ (if a < 55296 then 55296 else a) ∧ (if a < 55296 then 55296 else a) ≤ 1114111 := by split <;> omega
  generalize (if 57343 < b then 57343 else b) = A at *
  generalize (if a < 55296 then 55296 else a) = B at *
  have e4 : (nI A - nI B + 1 : Int32) = nI (A + 1) - nI B := by rw [← nI_1, Int32.sub_eq_add_neg, Int32.add_assoc, Int32.add_comm (-nI B), ← Int32.add_assoc, ← Int32.sub_eq_add_neg]
  rw [e4]
  by_cases c : B ≤ A + 1
  · rw [pk_sub c, if_neg (nI_pos (by omega)), pk_sub (by omega)]
  · rw [if_pos (by rw [Int32.lt_iff_toInt_lt, pk_sub_toInt (by omega) (by omega)]; show _ < (0 : Int); omega), show (0 : Int32) = nI 0 from rfl, pk_sub (by omega)]
    exact congrArg nI (by omega)
section XCV
variable {h : zH} {y : gY} {z : gZ}
theorem x_pcov {b' a b : Nat} {g : gP} (pg : xPg h b' g) (sm : gSm g) (cl : g 1 0 = 1) (pq : g 0 0 = 0 → gPq g) (hab : a ≤ b) (hb : b ≤ 1114111) : fV_Page_coverage h b' (nI a) (nI b) = some (nI (gCv g a (b - a + 1))) := by
  have sm0 := sm.1
  unfold fV_Page_coverage
  by_cases k0 : g 0 0 = 0
  · obtain ⟨tb, tab, xc⟩ := pg.1 k0
    obtain ⟨tn, tu, e0, e1, hT⟩ := (xc cl).2.2
    rw [if_pos (show zT h b' = (3, 0) from (zCt.b tb 0 rfl).t 0 rfl), zck_pos tb]
    unfold fX3_coverage
    apply zw_eq
    rw [nI_1, zw_b1]
    refine (x_below tab sm e0 e1 hT (by omega)).mono ?_
    rintro v ⟨lo2, rfl, p1, p2, p3⟩
    rw [zw_b1]
    refine (x_below tab sm e0 e1 hT (by omega)).mono ?_
    rintro v ⟨lo1, rfl, r1, r2, r3⟩
    rw [zw_some]
    have n := gLo_n (a := a) sm k0 (pq k0) hT (b - a + 1)
    rw [gLo_eq r1 r2 r3, show a + (b - a + 1) = b + 1 from by omega, gLo_eq p1 p2 p3] at n
    rw [n, pk_sub (by omega)]
    exact congrArg nI (by omega)
  · obtain ⟨ob, -⟩ := pg.2 k0
    have t : zT h b' = (7 + g 0 0 + 1, 0) := (zCt.b ob 0 rfl).t 0 rfl
    have e : g 0 0 = 1 ∨ g 0 0 = 2 ∨ g 0 0 = 3 := by omega
    have hs : ∀ v, (gCd g v).isSome = true := by
      intro v
      unfold gCd
      rcases e with e | e | e
      · rw [if_pos e]; split <;> rfl
      · rw [if_neg (by omega), if_pos e]; split <;> rfl
      · rw [if_neg (by omega), if_neg (by omega), if_pos e]; rfl
    have ec : gCv g a (b - a + 1) = cn (fun i => ptB (a + i)) (b - a + 1) := cn_cong fun k _ => by
      show (ptB (a + k) && (gCd g (a + k)).isSome) = _
      rw [hs, Bool.and_true]
    rw [ec, ← x_cvForm hab hb]
    rcases e with e | e | e
    · rw [e] at ob t
      rw [if_neg (by rw [t]; decide), if_pos t, zck_pos ob]; rfl
    · rw [e] at ob t
      rw [if_neg (by rw [t]; decide), if_neg (by rw [t]; decide), if_pos t, zck_pos ob]; rfl
    · rw [e] at ob t
      rw [if_neg (by rw [t]; decide), if_neg (by rw [t]; decide), if_neg (by rw [t]; decide), if_pos t, zck_pos ob]; rfl
theorem xc_inx {a b x : Nat} (ha : a < 2 ^ 31) (hb : b < 2 ^ 31) (hx : x < 2 ^ 31) : fX0_in (nI x) (nI a) (nI b) = some (if a ≤ x ∧ x ≤ b then 1 else 0) := by
  unfold fX0_in
  simp only [nI_ltI hx ha, nI_ltI hb hx]
  by_cases h1 : x < a
  · rw [if_pos h1, if_neg (by omega)]
  · rw [if_neg h1]
    by_cases h2 : b < x
    · rw [if_pos h2, if_neg (by omega)]
    · rw [if_neg h2, if_pos (by omega)]
theorem x_coverage {X Y T : Int32} (x : XR h y z) (w : pgWf z.pg) (wq : cqWf z) : zw (fX0_coverage h 1 X Y T) (xQ h (sp_coverage z X Y T)) := by
  unfold fX0_coverage sp_coverage
  rcases x_closed x w X with ⟨v, h1, hv, t, xe, ek⟩ | ⟨p, hp, rfl, k1, t, ek⟩
  · rw [t, ek, zxr_e]
    exact x_han x xe hv
  rw [t, ek, zxr_r, zb1_s]
  rcases vR_cases Y 0 1114111 (by omega) (by omega) with ⟨t1, -, t9⟩ | ⟨a, -, ha, rfl, t1, -, t9⟩
  · rw [t1, show fX0_in Y 0 1114111 = some 0 from t9, zb1_s, if_pos rfl]
    exact x_need x neg1 _
  rw [t1, show fX0_in (nI a) 0 1114111 = some 1 from t9, zb1_s, if_neg (by decide)]
  rcases vR_cases T 0 1114111 (by omega) (by omega) with ⟨t2, -, s9⟩ | ⟨b, -, hb, rfl, t2, -, s9⟩
  · have : fX0_in T (nI a) 1114111 = some 0 := by
      unfold fX0_in at s9 ⊢
      by_cases c : T < nI a
      · rw [if_pos c]
      · rw [if_neg c]
        by_cases c0 : T < nI 0
        · exact absurd (show T < nI a from by rw [Int32.lt_iff_toInt_lt, nI_toInt (by omega)] at c0 ⊢; omega) c
        · rw [if_neg c0] at s9
          exact s9
    rw [t2, this, zb1_s, if_pos rfl]
    exact x_need x neg1 _
  rw [t2, show fX0_in (nI b) (nI a) 1114111 = _ from xc_inx (a := a) (b := 1114111) (by omega) (by omega) (by omega), zb1_s]
  dsimp only
  by_cases c1 : b < a
  · rw [if_neg (show ¬ (a ≤ b ∧ b ≤ 1114111) by omega), if_pos rfl, if_pos (Or.inl c1)]
    exact x_need x neg1 _
  rw [if_pos (show a ≤ b ∧ b ≤ 1114111 by omega), if_neg (by decide), pk_sub (by omega)]
  by_cases c2 : 65536 ≤ b - a
  · rw [if_pos (by rw [li, nI_leI (by omega) (by omega)]; exact c2), if_pos (Or.inr c2)]
    exact x_need x neg1 _
  rw [if_neg (by rw [li, nI_leI (by omega) (by omega)]; exact c2), if_neg (by omega), x_need1, zxv_n, x_pcov (x.pg.2.2.2.2.2.2.2 p hp) (w.2 p hp) k1 (wq p hp k1) (by omega) hb, zb1_s, zw_some]
  exact ⟨rfl, ⟨y, x⟩, fx.refl _ _, by show zc h ≤ _; omega, by show zu h ≤ _; omega⟩
end XCV
