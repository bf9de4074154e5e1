/-! the exchange's code: few, tables -/
set_option maxRecDepth 100000
theorem l_few {x c : Nat} (hc : c < 64) : (lN x <<< ((8 : Int32).toInt64 &&& 63) ||| 128) ||| lN c = lN (x * 256 + (128 + c)) := by
  rw [show (8 : Int32) = nI 8 from rfl, l_shl _ (by omega), show (128 : Int64) = lN 128 from rfl, lN_or, or_add _ (by omega), lN_or, show x * 2 ^ 8 + 128 = (2 * x + 1) * 2 ^ 7 from by omega, or_add _ (by omega)]
  exact congrArg lN (by omega)
theorem x_few {a pt : Nat} (hpt : pt ≤ 1114111) : fX13_code a (nI pt) = some (lN (fN pt * 2 ^ 32 + fV pt)) := by
  have lp : ∀ (n k x : Nat), k ≤ 3 → n ≤ 4 → fX13_code_L80 a (nI pt) (nI n) (lN x) (nI k) = some (.inl (lN (x * 256 + (128 + pt / 2 ^ (6 * k) % 64)), nI k + (-1))) := by
    intro n k x hk hn
    have := Nat.div_le_self pt (2 ^ (6 * k))
    unfold fX13_code_L80
    rw [if_neg (nI_pos (by omega)), show (6 : Int32) = nI 6 from rfl, pk_mul, shrI (by omega) (by omega), and63 (by omega), nI_l (by omega), l_few (by omega)]
  have l0 : ∀ (n x : Nat), n ≤ 4 → x < 2 ^ 32 → fX13_code_L80 a (nI pt) (nI n) (lN x) (-1) = some (.inr (lN (n * 2 ^ 32 + x))) := by
    intro n x hn hx
    unfold fX13_code_L80
    rw [if_pos neg1, x_told10 hx hn, zb1_s]
  have d1 : ∀ k, nI (k + 1) + (-1) = nI k := fun k => pk_m1 k
  have d0 : nI 0 + (-1) = -1 := by decide
  have head : ∀ (b n : Nat), n ≤ 4 → 1 ≤ n → b % 2 ^ (8 - n) = 0 → b < 256 → pt / 2 ^ (6 * (n - 1)) < 2 ^ (8 - n) → lN b ||| (nI pt >>> ((6 : Int32) * (nI n - 1) &&& 31)).toInt64 = lN (b + pt / 2 ^ (6 * (n - 1))) := by
    intro b n hn h1 hb hb2 hq
    have := Nat.div_le_self pt (2 ^ (6 * (n - 1)))
    rw [show (1 : Int32) = nI 1 from rfl, pk_sub (by omega), show (6 : Int32) = nI 6 from rfl, pk_mul, shrI (by omega) (by omega), nI_l (by omega), lN_or]
    have : b = b / 2 ^ (8 - n) * 2 ^ (8 - n) := by have := Nat.div_add_mod b (2 ^ (8 - n)); rw [hb, Nat.mul_comm] at this; omega
    rw [this, or_add _ hq]
  unfold fX13_code
  by_cases p1 : pt < 128
  · rw [if_neg (by rw [li, nI_leI (by omega) (by omega)]; omega), nI_l (by omega), show (1 : Int32) = nI 1 from rfl, x_told10 (by omega) (by omega), zb1_s]
    unfold fN fV
    rw [if_pos p1, if_pos p1]
  rw [if_pos (by rw [li, nI_leI (by omega) (by omega)]; omega)]
  by_cases p2 : pt < 2048
  · have en : fN pt = 2 := by unfold fN; rw [if_neg p1, if_pos p2]
    have ev : fV pt = (192 + pt / 64) * 256 + (128 + pt % 64) := by unfold fV; rw [if_neg p1, if_pos p2]
    rw [if_neg (by rw [li, nI_leI (by omega) (by omega)]; omega)]
    unfold fX13_code_J36
    rw [if_pos rfl]
    unfold fX13_code_J62
    have hd := head 192 2 (by omega) (by omega) (by decide) (by omega) (by simp only [Nat.reduceSub, Nat.reduceMul, Nat.reducePow]; omega)
    rw [show (192 : Int64) ||| (nI pt >>> ((6 : Int32) * ((2 : Int32) - 1) &&& 31)).toInt64 = lN (192 + pt / 64) from hd, show (2 : Int32) - 2 = nI 0 from by decide, zlp_inl (by exact lp 2 0 _ (by omega) (by omega)), d0, zlp_inr (by exact l0 2 _ (by omega) (by omega)), en, ev]
    exact congrArg (fun v => some (lN v)) (by omega)
  rw [if_pos (by rw [li, nI_leI (by omega) (by omega)]; omega)]
  by_cases p3 : pt < 65536
  · have en : fN pt = 3 := by unfold fN; rw [if_neg p1, if_neg p2, if_pos p3]
    have ev : fV pt = ((224 + pt / 4096) * 256 + (128 + pt / 64 % 64)) * 256 + (128 + pt % 64) := by unfold fV; rw [if_neg p1, if_neg p2, if_pos p3]
    rw [if_neg (by rw [li, nI_leI (by omega) (by omega)]; omega)]
    unfold fX13_code_J36
    rw [if_neg (by decide), if_pos rfl]
    unfold fX13_code_J62
    have hd := head 224 3 (by omega) (by omega) (by decide) (by omega) (by simp only [Nat.reduceSub, Nat.reduceMul, Nat.reducePow]; omega)
    rw [show (224 : Int64) ||| (nI pt >>> ((6 : Int32) * ((3 : Int32) - 1) &&& 31)).toInt64 = lN (224 + pt / 4096) from hd, show (3 : Int32) - 2 = nI 1 from by decide, zlp_inl (by exact lp 3 1 _ (by omega) (by omega)), d1, zlp_inl (by exact lp 3 0 _ (by omega) (by omega)), d0, zlp_inr (by exact l0 3 _ (by omega) (by simp only [Nat.reduceMul, Nat.reducePow]; omega)), en, ev]
    exact congrArg (fun v => some (lN v)) (by simp only [Nat.reduceMul, Nat.reducePow, Nat.div_one])
  rw [if_pos (by rw [li, nI_leI (by omega) (by omega)]; omega)]
  have en : fN pt = 4 := by unfold fN; rw [if_neg p1, if_neg p2, if_neg p3]
  have ev : fV pt = (((240 + pt / 262144) * 256 + (128 + pt / 4096 % 64)) * 256 + (128 + pt / 64 % 64)) * 256 + (128 + pt % 64) := by unfold fV; rw [if_neg p1, if_neg p2, if_neg p3]
  unfold fX13_code_J36
  rw [if_neg (by decide), if_neg (by decide)]
  unfold fX13_code_J62
  have hd := head 240 4 (by omega) (by omega) (by decide) (by omega) (by simp only [Nat.reduceSub, Nat.reduceMul, Nat.reducePow]; omega)
  rw [show (240 : Int64) ||| (nI pt >>> ((6 : Int32) * ((4 : Int32) - 1) &&& 31)).toInt64 = lN (240 + pt / 262144) from hd, show (4 : Int32) - 2 = nI 2 from by decide, zlp_inl (by exact lp 4 2 _ (by omega) (by omega)), d1, zlp_inl (by exact lp 4 1 _ (by omega) (by omega)), d1, zlp_inl (by exact lp 4 0 _ (by omega) (by omega)), d0, zlp_inr (by exact l0 4 _ (by omega) (by simp only [Nat.reduceMul, Nat.reducePow]; omega)), en, ev]
  exact congrArg (fun v => some (lN v)) (by simp only [Nat.reduceMul, Nat.reducePow, Nat.div_one])
/-- no point has two preferred entries -/
def gPq (g : gP) : Prop := ∀ j k, j < g 2 0 → k < g 2 0 → g 8 j = 1 → g 8 k = 1 → g 7 j = g 7 k → j = k
section XCD
variable {h : zH} {a : Nat} {g : gP}
theorem x_below {tn pt : Nat} {tu : Nat → Nat} (tab : xTab h a g) (sm : gSm g) (e0 : zI h a 18 = nI tn) (e1 : ∀ i, i < tn → zI h (a + 16) i = nI (tu i)) (hT : gTurned g tn tu) (hp : pt < 2 ^ 31) : zw (fX3_below h a (nI pt)) (fun y => ∃ lo, y = nI lo ∧ lo ≤ tn ∧ (∀ i, i < lo → g 7 (tu i) < pt) ∧ ∀ i, lo ≤ i → i < tn → pt ≤ g 7 (tu i)) := by
  obtain ⟨T1, T2, T3, T4⟩ := hT
  have s2 := sm.2.2.1
  unfold fX3_below
  rw [e0]
  refine zw_lp (fun q n => ∃ lo hi, q = (nI lo, nI hi) ∧ lo ≤ hi ∧ hi ≤ tn ∧ n = hi - lo ∧ (∀ i, i < lo → g 7 (tu i) < pt) ∧ ∀ i, hi ≤ i → i < tn → pt ≤ g 7 (tu i)) ?_ tn ⟨0, tn, rfl, Nat.zero_le _, Nat.le_refl _, rfl, fun i hi => absurd hi (Nat.not_lt_zero _), fun i h1 h2 => by omega⟩
  rintro q n ⟨lo, hi, rfl, h1, h2, rfl, hlo, hhi⟩
  dsimp only
  unfold fX3_below_L7
  by_cases e : hi ≤ lo
  · have : lo = hi := by omega
    subst this
    rw [if_pos (Int32.le_refl _), zw_some]
    exact ⟨lo, rfl, h2, hlo, hhi⟩
  have hm : (lo + hi) / 2 < tn := by omega
  have tm := (T2 _ hm).1
  have pe := (sm.2.2.2.2.1 _ tm).lt
  rw [if_neg (by rw [nI_leI (by omega) (by omega)]; exact e), mid_eq (by omega) (by omega), zw_ck, nI_clamp (by omega), e1 _ hm, zw_ck, nI_clamp (by omega), tab.e3 tm]
  refine ⟨vin (by omega) (by omega), vin (by omega) (by omega), ?_⟩
  by_cases hlt : pt ≤ g 7 (tu ((lo + hi) / 2))
  · rw [if_pos (by rw [nI_leI (by omega) (by omega)]; exact hlt), zw_some]
    refine ⟨(lo + hi) / 2 - lo, by omega, lo, (lo + hi) / 2, rfl, by omega, by omega, rfl, hlo, fun i q1 q2 => ?_⟩
    by_cases w : i = (lo + hi) / 2
    · rw [w]; exact hlt
    · exact Nat.le_trans hlt (Nat.le_of_lt (T3 _ _ (by omega) q2))
  · rw [if_neg (by rw [nI_leI (by omega) (by omega)]; exact hlt), zw_some, nI_1]
    refine ⟨hi - ((lo + hi) / 2 + 1), by omega, (lo + hi) / 2 + 1, hi, rfl, by omega, h2, rfl, fun i q1 => ?_, hhi⟩
    by_cases w : i = (lo + hi) / 2
    · rw [w]; omega
    · have := T3 i ((lo + hi) / 2) (by omega) hm
      omega
theorem gPr_hit {k pt : Nat} (pq : gPq g) (hk : k < g 2 0) (h8 : g 8 k = 1) (h7 : g 7 k = pt) : gPr g pt = k := by
  have hlt : gPr g pt < g 2 0 := by
    have hl := ff_le (fun k => g 7 k == pt && g 8 k == 1) (g 2 0)
    by_cases q : gPr g pt < g 2 0
    · exact q
    · have := ff_no (fun k => g 7 k == pt && g 8 k == 1) (g 2 0) k (by unfold gPr at q; omega)
      simp only [h7, h8, beq_self_eq_true, Bool.and_self] at this
      cases this
  have hy := ff_yes _ _ hlt
  simp only [Bool.and_eq_true, beq_iff_eq] at hy
  exact pq _ _ hlt hk hy.2 h8 (by rw [h7]; exact hy.1)
theorem gPr_yes {pt : Nat} (h : gPr g pt < g 2 0) : g 7 (gPr g pt) = pt ∧ g 8 (gPr g pt) = 1 := by
  have hy := ff_yes _ _ h
  simp only [Bool.and_eq_true, beq_iff_eq] at hy
  exact hy
theorem x_entryOf {pt : Nat} (tab : xTab h a g) (xt : xTur h a g) (sm : gSm g) (pq : gPq g) (hp : pt < 2 ^ 31) : fX3_entryOf h a (nI pt) = some (if gPr g pt < g 2 0 then nI (gPr g pt) else -1) := by
  obtain ⟨tn, tu, e0, e1, hT⟩ := xt
  have s2 := sm.2.2.1
  apply zw_eq
  unfold fX3_entryOf
  rw [zw_b1]
  refine (x_below tab sm e0 e1 hT hp).mono ?_
  rintro v ⟨lo, rfl, h1, h2, h3⟩
  obtain ⟨T1, T2, T3, T4⟩ := hT
  have no : (∀ i, lo ≤ i → i < tn → g 7 (tu i) ≠ pt) → ¬ gPr g pt < g 2 0 := by
    intro hn q
    obtain ⟨y1, y2⟩ := gPr_yes q
    obtain ⟨i, hi, e⟩ := T4 _ q y2
    rw [← e] at y1
    by_cases w : i < lo
    · have := h2 i w; omega
    · exact hn i (by omega) hi y1
  rw [e0]
  by_cases e : tn ≤ lo
  · rw [if_pos (by rw [nI_leI (by omega) (by omega)]; exact e), zw_some, if_neg (no fun i q1 q2 => by omega)]
  have tm := (T2 lo (by omega)).1
  have pe := (sm.2.2.2.2.1 _ tm).lt
  rw [if_neg (by rw [nI_leI (by omega) (by omega)]; exact e), zw_ck, nI_clamp (by omega), e1 _ (by omega), zw_ck, nI_clamp (by omega), tab.e3 tm]
  refine ⟨vin (by omega) (by omega), vin (by omega) (by omega), ?_⟩
  by_cases w : g 7 (tu lo) = pt
  · rw [if_pos (by rw [w]), zw_ck, zw_some]
    have := gPr_hit pq tm (T2 lo (by omega)).2 w
    rw [this, if_pos tm]
    exact ⟨vin (by omega) (by omega), rfl⟩
  · rw [if_neg (by rw [nI_eq (by omega) (by omega)]; exact w), zw_some, if_neg (no fun i q1 q2 => ?_)]
    have := h3 lo (Nat.le_refl _) (by omega)
    by_cases c : i = lo
    · rw [c]; exact w
    · have := T3 lo i (by omega) q2; omega
theorem x_pcode {pt : Nat} (pg : xPg h a g) (sm : gSm g) (cl : g 1 0 = 1) (pq : g 0 0 = 0 → gPq g) (hp : pt ≤ 1114111) : fV_Page_code h a (nI pt) = some (cdL (gCd g pt)) := by
  have sm0 := sm.1
  unfold fV_Page_code
  by_cases k0 : g 0 0 = 0
  · obtain ⟨tb, tab, xc⟩ := pg.1 k0
    rw [if_pos (show zT h a = (3, 0) from (zCt.b tb 0 rfl).t 0 rfl), zck_pos tb]
    unfold fX3_code
    rw [x_entryOf tab (xc cl).2.2 sm (pq k0) (by omega), zb1_s]
    have eC : gCd g pt = if gPr g pt < g 2 0 then some (g 4 (gPr g pt), g 5 (gPr g pt), g 6 (gPr g pt)) else none := by unfold gCd; rw [if_neg (by omega), if_neg (by omega), if_neg (by omega)]
    rw [eC]
    have s2 := sm.2.2.1
    by_cases q : gPr g pt < g 2 0
    · have pe := (sm.2.2.2.2.1 _ q).lt
      rw [if_pos q, if_pos q, if_pos (nI_pos' (by omega)), zck_pos (vin (by omega) (by omega)), zck_pos (vin (by omega) (by omega)), nI_clamp (by omega), tab.e1 q, tab.e2 q, nI_l (by omega), nI_l (by omega), show (32 : Int32) = nI 32 from rfl, l_shl _ (by omega), lN_or, or_add _ (by omega)]
      rfl
    · rw [if_neg q, if_neg q, if_neg (by rw [neg_nn neg1]; exact id)]
      rfl
  · obtain ⟨ob, -⟩ := pg.2 k0
    have t : zT h a = (7 + g 0 0 + 1, 0) := (zCt.b ob 0 rfl).t 0 rfl
    have e : g 0 0 = 1 ∨ g 0 0 = 2 ∨ g 0 0 = 3 := by omega
    unfold gCd
    rcases e with e | e | e
    · rw [e] at ob t
      rw [if_neg (by rw [t]; decide), if_pos t, zck_pos ob, x_wide hp, if_pos e]
      by_cases q : pt < 65536
      · rw [if_pos q, if_pos q]; rfl
      · rw [if_neg q, if_neg q]; rfl
    · rw [e] at ob t
      rw [if_neg (by rw [t]; decide), if_neg (by rw [t]; decide), if_pos t, zck_pos ob, x_turn hp, if_neg (show ¬ g 0 0 = 1 by omega), if_pos e]
      by_cases q : pt < 65536
      · rw [if_pos q, if_pos q]; rfl
      · rw [if_neg q, if_neg q]; rfl
    · rw [e] at ob t
      rw [if_neg (by rw [t]; decide), if_neg (by rw [t]; decide), if_neg (by rw [t]; decide), if_pos t, zck_pos ob, x_few hp, if_neg (by omega), if_neg (by omega), if_pos e]
      rfl
end XCD
