/-! the model's look: units, tables -/
set_option maxRecDepth 100000
theorem m_lookUnits {h : zH} {p r at' hi : Nat} {l : List Nat} (m : rAt h r at' l) (hhi : hi ≤ 1) : zw (fX9_lookUnits h 92 (nI hi) r (nI at') (nI (at' + l.length))) (lkQ h p (gLkW hi l)) := by
  have hL := m.2.1
  have hL2 := m.2.2.1
  have b0 := m.2.2.2.2.b 0
  have b1 := m.2.2.2.2.b 1
  have b2 := m.2.2.2.2.b 2
  have b3 := m.2.2.2.2.b 3
  have hd : nI (at' + l.length) - nI at' = nI l.length := by rw [pk_sub (by omega)]; congr 1; omega
  have cc : ∀ k, k < l.length → zI h r (nI at' + nI k).toNatClampNeg = nI (bt l k) ∧ zAr h r (nI at' + nI k) := fun k hk => by
    rw [nI_add, nI_clamp (by omega)]
    exact ⟨m.2.2.2.1 k hk, m.ar hk⟩
  have c0 : 0 < l.length → zI h r (nI at').toNatClampNeg = nI (bt l 0) ∧ zAr h r (nI at') := fun hk => by
    rw [nI_clamp (by omega)]
    exact ⟨m.2.2.2.1 0 hk, m.ar (k := 0) hk⟩
  have h01 : hi = 0 ∨ hi = 1 := by omega
  -- the tail: one unit is known
  have j92 : 2 ≤ l.length → ¬ (hi ≠ 0 ∧ 220 ≤ bt l 0 ∧ bt l 0 ≤ 223) → zw (fX9_lookUnits_J92 h 92 (nI hi) r (nI at') (nI l.length) (nI (uAt hi l 0))) (lkQ h p (gLkW hi l)) := by
    intro l2 hno
    have hu : uAt hi l 0 < 65536 := uAt_lt m.2.2.2.2 hi 0
    unfold fX9_lookUnits_J92 gLkW
    rw [if_pos (by rw [li, nI_leI (by omega) (by omega)]; omega), mc_lo (by omega), zb1_s, if_neg (show ¬ l.length < 1 by omega), if_neg hno, if_neg (show ¬ l.length < 2 by omega)]
    by_cases q1 : isLo (uAt hi l 0)
    · rw [if_pos q1, if_pos q1, if_neg (by decide), zw_some]
      exact lkQ_no (by omega) rfl
    rw [if_neg q1, if_neg q1, if_pos rfl, mc_hi (by omega), zb1_s]
    by_cases q2 : isHi (uAt hi l 0)
    case neg =>
      rw [if_neg q2, if_neg q2, if_pos rfl, zw_let, zw_let, zw_some]
      exact lkQ_hit rfl rfl
    rw [if_pos q2, if_pos q2, if_neg (by decide)]
    by_cases l3 : l.length < 3
    · rw [if_pos (by rw [li, nI_ltI (by omega) (by omega)]; omega), if_pos l3, zw_some]
      exact lkQ_no (by omega) rfl
    rw [if_neg (by rw [li, nI_ltI (by omega) (by omega)]; omega), if_neg l3]
    have j212 : 4 ≤ l.length → zw (fX9_lookUnits_J212 h 92 (nI (uAt hi l 0)) (nI (uAt hi l 2))) (lkQ h p (@ite _ (isLo (uAt hi l 2)) (Classical.propDecidable _) (2, 4, 65536 + (uAt hi l 0 - 55296) * 1024 + (uAt hi l 2 - 56320)) (0, 0, 0))) := by
      intro l4
      have hu2 : uAt hi l 2 < 65536 := uAt_lt m.2.2.2.2 hi 2
      unfold isHi at q2
      unfold fX9_lookUnits_J212
      rw [mc_lo (by omega), zb1_s]
      by_cases q3 : isLo (uAt hi l 2)
      · rw [if_pos q3, if_pos q3, if_neg (by decide), zw_let, zw_let, zw_some]
        refine lkQ_hit rfl ?_
        unfold isLo at q3
        rw [show (55296 : Int32) = nI 55296 from rfl, show (10 : Int32) = nI 10 from rfl, show (65536 : Int32) = nI 65536 from rfl, show (56320 : Int32) = nI 56320 from rfl, pk_sub (by omega), shlI (by omega) (by omega), nI_add, nI_add, pk_sub (by omega)]
        exact congrArg nI (by omega)
      · rw [if_neg q3, if_neg q3, if_pos rfl, zw_some]
        exact lkQ_no (by omega) rfl
    rcases h01 with rfl | rfl
    · rw [if_pos nI_0]
      by_cases l4 : l.length < 4
      · rw [if_neg (by rw [li, nI_leI (by omega) (by omega)]; omega), if_pos ⟨rfl, l4⟩, zw_some]
        exact lkQ_no (by omega) rfl
      rw [if_pos (by rw [li, nI_leI (by omega) (by omega)]; omega), if_neg (fun q => l4 q.2), if_neg (fun q => q.1 rfl), if_neg l4]
      unfold fX9_lookUnits_J149 fX9_lookUnits_J169
      rw [if_pos nI_0, if_pos (by rw [li, nI_leI (by omega) (by omega)]; omega), if_pos nI_0, zw_ck, zw_ck, show (2 : Int32) = nI 2 from rfl, show (3 : Int32) = nI 3 from rfl, (cc 2 (by omega)).1, (cc 3 (by omega)).1, unit_lo b2 b3]
      exact ⟨(cc 2 (by omega)).2, (cc 3 (by omega)).2, j212 (by omega)⟩
    · rw [if_neg n10, if_neg (show ¬ ((1 : Nat) = 0 ∧ l.length < 4) from fun q => absurd q.1 (by omega))]
      unfold fX9_lookUnits_J149
      have hs : nI (bt l 2) <<< ((8 : Int32) &&& 31) = nI (bt l 2 * 256) := by
        rw [show (8 : Int32) = nI 8 from rfl, shlI (by omega) (by omega)]
      rw [if_neg n10, zw_ck, show (2 : Int32) = nI 2 from rfl, (cc 2 (by omega)).1, hs, mc_lo (by omega), zb1_s]
      refine ⟨(cc 2 (by omega)).2, ?_⟩
      by_cases q4 : 220 ≤ bt l 2 ∧ bt l 2 ≤ 223
      · rw [if_pos (show 56320 ≤ bt l 2 * 256 ∧ bt l 2 * 256 ≤ 57343 by omega), if_neg (by decide), if_neg (show ¬ ((1 : Nat) ≠ 0 ∧ ¬ (220 ≤ bt l 2 ∧ bt l 2 ≤ 223)) from fun q => q.2 q4)]
        unfold fX9_lookUnits_J169
        by_cases l4 : l.length < 4
        · rw [if_neg (by rw [li, nI_leI (by omega) (by omega)]; omega), if_pos l4, zw_some]
          exact lkQ_no (by omega) rfl
        rw [if_pos (by rw [li, nI_leI (by omega) (by omega)]; omega), if_neg l4, if_neg n10, zw_ck, zw_ck, show (2 : Int32) = nI 2 from rfl, show (3 : Int32) = nI 3 from rfl, (cc 2 (by omega)).1, (cc 3 (by omega)).1, unit_hi b2 b3]
        exact ⟨(cc 2 (by omega)).2, (cc 3 (by omega)).2, j212 (by omega)⟩
      · rw [if_neg (show ¬ (56320 ≤ bt l 2 * 256 ∧ bt l 2 * 256 ≤ 57343) by omega), if_pos rfl, if_pos (show (1 : Nat) ≠ 0 ∧ ¬ (220 ≤ bt l 2 ∧ bt l 2 ≤ 223) from ⟨by omega, q4⟩), zw_some]
        exact lkQ_no (by omega) rfl
  have one : ∀ k0, l.length < 2 → ¬ (hi ≠ 0 ∧ 220 ≤ bt l 0 ∧ bt l 0 ≤ 223) ∨ l.length < 1 → zw (fX9_lookUnits_J92 h 92 (nI hi) r (nI at') (nI l.length) k0) (lkQ h p (gLkW hi l)) := by
    intro k0 l2 hno
    unfold fX9_lookUnits_J92 gLkW
    rw [if_neg (by rw [li, nI_leI (by omega) (by omega)]; omega), zw_some]
    have e : (@ite _ (l.length < 1) (Classical.propDecidable _) ((1, 0, 0) : Nat × Nat × Nat) (@ite _ (hi ≠ 0 ∧ 220 ≤ bt l 0 ∧ bt l 0 ≤ 223) (Classical.propDecidable _) (0, 0, 0) (if l.length < 2 then (1, 0, 0) else @ite _ (isLo (uAt hi l 0)) (Classical.propDecidable _) (0, 0, 0) (@ite _ (isHi (uAt hi l 0)) (Classical.propDecidable _) (if l.length < 3 then (1, 0, 0) else if hi = 0 ∧ l.length < 4 then (1, 0, 0) else @ite _ (hi ≠ 0 ∧ ¬ (220 ≤ bt l 2 ∧ bt l 2 ≤ 223)) (Classical.propDecidable _) (0, 0, 0) (if l.length < 4 then (1, 0, 0) else @ite _ (isLo (uAt hi l 2)) (Classical.propDecidable _) (2, 4, 65536 + (uAt hi l 0 - 55296) * 1024 + (uAt hi l 2 - 56320)) (0, 0, 0))) (2, 2, uAt hi l 0))))) = (1, 0, 0) := by
      by_cases l1 : l.length < 1
      · rw [if_pos l1]
      · rw [if_neg l1, if_neg (by rcases hno with q | q; exact q; exact absurd q l1), if_pos l2]
    rw [e]
    exact lkQ_no (by omega) rfl
  unfold fX9_lookUnits
  rw [hd]
  rcases h01 with rfl | rfl
  · rw [if_pos nI_0]
    by_cases l2 : 2 ≤ l.length
    · rw [if_pos (by rw [li, nI_leI (by omega) (by omega)]; omega), zw_ck, zw_ck, (c0 (by omega)).1, show (1 : Int32) = nI 1 from rfl, (cc 1 (by omega)).1, unit_lo b0 b1]
      refine ⟨(c0 (by omega)).2, (cc 1 (by omega)).2, ?_⟩
      unfold fX9_lookUnits_J32
      rw [if_pos nI_0]
      exact j92 l2 (fun q => q.1 rfl)
    · rw [if_neg (by rw [li, nI_leI (by omega) (by omega)]; omega)]
      unfold fX9_lookUnits_J16 fX9_lookUnits_J32
      rw [if_pos nI_0]
      exact one _ (by omega) (Or.inl fun q => q.1 rfl)
  · rw [if_neg n10]
    unfold fX9_lookUnits_J16 fX9_lookUnits_J32
    rw [if_neg n10]
    by_cases l1 : l.length < 1
    · rw [if_pos (by rw [li, nI_ltI (by omega) (by omega)]; omega), if_neg (by rw [li, nI_leI (by omega) (by omega)]; omega), zw_some]
      have := one 0 (by omega) (Or.inr l1)
      unfold fX9_lookUnits_J92 at this
      rw [if_neg (by rw [li, nI_leI (by omega) (by omega)]; omega), zw_some] at this
      exact this
    have hs : nI (bt l 0) <<< ((8 : Int32) &&& 31) = nI (bt l 0 * 256) := by
      rw [show (8 : Int32) = nI 8 from rfl, shlI (by omega) (by omega)]
    rw [if_neg (by rw [li, nI_ltI (by omega) (by omega)]; omega), zw_ck, (c0 (by omega)).1, hs, mc_lo (by omega), zb1_s]
    refine ⟨(c0 (by omega)).2, ?_⟩
    by_cases q4 : 220 ≤ bt l 0 ∧ bt l 0 ≤ 223
    · rw [if_pos (show 56320 ≤ bt l 0 * 256 ∧ bt l 0 * 256 ≤ 57343 by omega), if_neg (by decide), if_pos (by rw [li, nI_leI (by omega) (by omega)]; omega), zw_some]
      unfold gLkW
      rw [if_neg l1, if_pos (show (1 : Nat) ≠ 0 ∧ 220 ≤ bt l 0 ∧ bt l 0 ≤ 223 from ⟨by omega, q4⟩)]
      exact lkQ_no (by omega) rfl
    rw [if_neg (show ¬ (56320 ≤ bt l 0 * 256 ∧ bt l 0 * 256 ≤ 57343) by omega), if_pos rfl]
    by_cases l2 : 2 ≤ l.length
    · rw [if_pos (by rw [li, nI_leI (by omega) (by omega)]; omega), zw_ck, zw_ck, show (1 : Int32) = nI 1 from rfl, (cc 1 (by omega)).1, nI_or, or_add (k := 8) _ (by omega)]
      exact ⟨(c0 (by omega)).2, (cc 1 (by omega)).2, j92 l2 (fun q => q4 q.2)⟩
    · rw [if_neg (by rw [li, nI_leI (by omega) (by omega)]; omega)]
      exact one _ (by omega) (Or.inl fun q => q4 q.2)
/-! tables -/
/-- the number of the first n bytes (n at most 3) -/
def num (l : List Nat) (n : Nat) : Nat := if n = 0 then 0 else if n = 1 then bt l 0 else if n = 2 then bt l 0 * 256 + bt l 1 else (bt l 0 * 256 + bt l 1) * 256 + bt l 2
def gFm (g : gP) (due : Nat) (l : List Nat) (k : Nat) : Bool := g 4 k == due && decide (g 5 k ≤ l.length) && num l (g 5 k) == g 6 k
def gBm (g : gP) (due : Nat) (l : List Nat) (k : Nat) : Bool := g 4 k == due && decide (l.length < g 5 k) && num l l.length == g 6 k / 2 ^ (8 * (g 5 k - l.length))
noncomputable def gLk (g : gP) (st pd : Nat) (l : List Nat) : Nat × Nat × Nat := if g 0 0 = 3 then gLkF l else if g 0 0 = 0 then
    (if ff (gFm g (if pd = 4 then st else pd) l) (g 2 0) < g 2 0 then (2, g 5 (ff (gFm g (if pd = 4 then st else pd) l) (g 2 0)), g 7 (ff (gFm g (if pd = 4 then st else pd) l) (g 2 0)))
    else if pd = 4 ∧ 0 < l.length ∧ gSh g st (bt l 0) < g 3 0 then (3, gSh g st (bt l 0), 0)
    else if ff (gBm g (if pd = 4 then st else pd) l) (g 2 0) < g 2 0 then (1, 0, 0) else (0, 0, 0))
  else gLkW (if g 0 0 = 1 then 1 else 0) l
/-- how many bytes of a text are alike -/
def eSm (l : List Nat) (n b : Nat) : Nat := ff (fun i => !(decide (i < l.length) && bt l i == b / 2 ^ (8 * (n - 1 - i)) % 256)) n
theorem eSm_f {l : List Nat} {n b : Nat} (hB : isB l) (hn : 1 ≤ n ∧ n ≤ 3) (hb : b < 2 ^ (8 * n)) : eSm l n b = n ↔ n ≤ l.length ∧ num l n = b := by
  have b0 := hB.b 0
  have b1 := hB.b 1
  have b2 := hB.b 2
  have e : n = 1 ∨ n = 2 ∨ n = 3 := by omega
  unfold eSm num
  rw [ff_top]
  simp only [Bool.not_eq_false', Bool.and_eq_true, decide_eq_true_eq, beq_iff_eq]
  rcases e with rfl | rfl | rfl <;> simp only [Nat.reduceSub, Nat.reduceMul, Nat.reducePow, Nat.reduceEqDiff, if_true, if_false] at hb ⊢
  · constructor
    · intro h
      have h0 := h 0 (by omega)
      simp only [Nat.reduceSub, Nat.reduceMul, Nat.reducePow] at h0
      omega
    · intro h i hi
      have : i = 0 := by omega
      subst this
      simp only [Nat.reduceSub, Nat.reduceMul, Nat.reducePow]
      omega
  · constructor
    · intro h
      have h0 := h 0 (by omega)
      have h1 := h 1 (by omega)
      simp only [Nat.reduceSub, Nat.reduceMul, Nat.reducePow] at h0 h1
      omega
    · intro h i hi
      have : i = 0 ∨ i = 1 := by omega
      rcases this with rfl | rfl <;> simp only [Nat.reduceSub, Nat.reduceMul, Nat.reducePow] <;> omega
  · constructor
    · intro h
      have h0 := h 0 (by omega)
      have h1 := h 1 (by omega)
      have h2 := h 2 (by omega)
      simp only [Nat.reduceSub, Nat.reduceMul, Nat.reducePow] at h0 h1 h2
      omega
    · intro h i hi
      have : i = 0 ∨ i = 1 ∨ i = 2 := by omega
      rcases this with rfl | rfl | rfl <;> simp only [Nat.reduceSub, Nat.reduceMul, Nat.reducePow] <;> omega
theorem ff_at {p : Nat → Bool} {n k : Nat} (hk : k < n) : ff p n = k ↔ (∀ i, i < k → p i = false) ∧ p k = true := by
  constructor
  · intro e
    refine ⟨fun i hi => ff_no p n i (by omega), ?_⟩
    have := ff_yes p n (by omega)
    rw [e] at this
    exact this
  · intro h
    exact ff_eq (by omega) h.1 (fun _ => h.2)
theorem eSm_b {l : List Nat} {n b : Nat} (hB : isB l) (hn : 1 ≤ n ∧ n ≤ 3) (hb : b < 2 ^ (8 * n)) : (eSm l n b = l.length ∧ l.length < n) ↔ l.length < n ∧ num l l.length = b / 2 ^ (8 * (n - l.length)) := by
  have b0 := hB.b 0
  have b1 := hB.b 1
  have b2 := hB.b 2
  refine ⟨fun ⟨h1, h2⟩ => ⟨h2, ?_⟩, fun ⟨h1, h2⟩ => ⟨?_, h1⟩⟩
  · unfold eSm at h1
    rw [ff_at h2] at h1
    have h3 := h1.1
    simp only [Bool.not_eq_false', Bool.and_eq_true, decide_eq_true_eq, beq_iff_eq] at h3
    have e : l.length = 0 ∨ l.length = 1 ∨ l.length = 2 := by omega
    have en : n = 1 ∨ n = 2 ∨ n = 3 := by omega
    unfold num
    rcases e with e | e | e <;> rcases en with rfl | rfl | rfl <;> (try omega) <;> rw [e] at h3 ⊢ <;> simp only [Nat.reduceSub, Nat.reduceMul, Nat.reducePow, Nat.reduceEqDiff, if_true, if_false] at hb h3 ⊢
    · omega
    · omega
    · omega
    · have h0 := h3 0 (by omega)
      simp only [Nat.reduceSub, Nat.reduceMul, Nat.reducePow] at h0
      omega
    · have h0 := h3 0 (by omega)
      simp only [Nat.reduceSub, Nat.reduceMul, Nat.reducePow] at h0
      omega
    · have h0 := h3 0 (by omega)
      have h1 := h3 1 (by omega)
      simp only [Nat.reduceSub, Nat.reduceMul, Nat.reducePow] at h0 h1
      omega
  · unfold eSm
    rw [ff_at h1]
    simp only [Bool.not_eq_false', Bool.and_eq_true, decide_eq_true_eq, beq_iff_eq, Bool.not_eq_true', Bool.and_eq_false_iff, decide_eq_false_iff_not]
    refine ⟨fun i hi => ⟨hi, ?_⟩, Or.inl (Nat.lt_irrefl _)⟩
    have e : l.length = 1 ∨ l.length = 2 := by omega
    have en : n = 1 ∨ n = 2 ∨ n = 3 := by omega
    unfold num at h2
    rcases e with e | e <;> rcases en with rfl | rfl | rfl <;> (try omega) <;> rw [e] at h2 hi <;> simp only [Nat.reduceSub, Nat.reduceMul, Nat.reducePow, Nat.reduceEqDiff, if_true, if_false] at hb h2 ⊢
    · have : i = 0 := by omega
      subst this
      simp only [Nat.reduceSub, Nat.reduceMul, Nat.reducePow]
      omega
    · have : i = 0 := by omega
      subst this
      simp only [Nat.reduceSub, Nat.reduceMul, Nat.reducePow]
      omega
    · have : i = 0 ∨ i = 1 := by omega
      rcases this with rfl | rfl <;> simp only [Nat.reduceSub, Nat.reduceMul, Nat.reducePow] <;> omega
/-- the count of bytes that are alike -/
theorem m_same {h : zH} {x1 x5 x6 : Int32} {r at' n b q : Nat} {l : List Nat} (m : rAt h r at' l) (hq : q < 1100) (hb : zI h 99 q = nI b) (hb2 : b < 2 ^ 24) (hn : n ≤ 3) : zlp (fun s => fX9_look_L125 h 92 x1 r (nI at') (nI (at' + l.length)) x5 x6 (nI q) (nI n) s) 0 = some (nI (eSm l n b)) := by
  have hL := m.2.1
  have hL2 := m.2.2.1
  apply zw_eq
  have key := zw_ff (body := fun s => fX9_look_L125 h 92 x1 r (nI at') (nI (at' + l.length)) x5 x6 (nI q) (nI n) s) (Q := fun z => z = nI (eSm l n b)) 0 n (fun i => !(decide (i < l.length) && bt l i == b / 2 ^ (8 * (n - 1 - i)) % 256))
  simp only [Nat.zero_add] at key
  rw [← nI_0]
  refine key ?_ ?_ ?_
  · unfold fX9_look_L125
    rw [if_pos (Int32.le_refl _), zw_some]
    exact ⟨_, rfl, fun e => by unfold eSm; rw [e]⟩
  · intro k hk hp
    unfold fX9_look_L125
    rw [if_neg (by rw [nI_leI (by omega) (by omega)]; omega), nI_add]
    by_cases hl : k < l.length
    · have c := m.2.2.2.1 k hl
      have hbt := m.2.2.2.2.b k
      simp only [hl, decide_true, Bool.true_and, Bool.not_eq_true', beq_eq_false_iff_ne, ne_eq] at hp
      have sh : nI b >>> ((8 : Int32) * (nI n - 1 - nI k) &&& 31) &&& 255 = nI (b / 2 ^ (8 * (n - 1 - k)) % 256) := by
        rw [show (8 : Int32) = nI 8 from rfl, show (1 : Int32) = nI 1 from rfl, pk_sub (by omega), pk_sub (by omega), pk_mul, shrI (by omega) (by omega), and255 (by have := Nat.div_le_self b (2 ^ (8 * (n - 1 - k))); omega)]
      rw [if_neg (by rw [nI_leI (by omega) (by omega)]; omega), zw_ck, zw_ck, nI_clamp (by omega), c, nI_clamp (by omega), show zI h (92 + 7) q = nI b from hb, sh, if_neg (by rw [nI_eq (by omega) (by omega)]; exact hp), zw_some]
      exact ⟨m.ar hl, vin hq (by omega), _, rfl, fun e => by unfold eSm; rw [e]⟩
    · rw [if_pos (by rw [nI_leI (by omega) (by omega)]; omega), zw_some]
      exact ⟨_, rfl, fun e => by unfold eSm; rw [e]⟩
  · intro k hk hp
    simp only [Bool.not_eq_false', Bool.and_eq_true, decide_eq_true_eq, beq_iff_eq] at hp
    obtain ⟨hl, hp⟩ := hp
    have c := m.2.2.2.1 k hl
    have hbt := m.2.2.2.2.b k
    have sh : nI b >>> ((8 : Int32) * (nI n - 1 - nI k) &&& 31) &&& 255 = nI (b / 2 ^ (8 * (n - 1 - k)) % 256) := by
      rw [show (8 : Int32) = nI 8 from rfl, show (1 : Int32) = nI 1 from rfl, pk_sub (by omega), pk_sub (by omega), pk_mul, shrI (by omega) (by omega), and255 (by have := Nat.div_le_self b (2 ^ (8 * (n - 1 - k))); omega)]
    apply zw_eq
    unfold fX9_look_L125
    rw [if_neg (by rw [nI_leI (by omega) (by omega)]; omega), nI_add, if_neg (by rw [nI_leI (by omega) (by omega)]; omega), zw_ck, zw_ck, nI_clamp (by omega), c, nI_clamp (by omega), show zI h (92 + 7) q = nI b from hb, sh, if_pos (by rw [hp]), zw_some, nI_1]
    exact ⟨m.ar hl, vin hq (by omega), rfl⟩
theorem m_look {h : zH} {p r at' st pd : Nat} {g : gP} {l : List Nat} (m : rAt h r at' l) (hp : p < 11) (hg : mPg h p g) (sm : gSm g) (h34 : zI h 92 34 = nI st) (h35 : zI h 92 35 = nI pd) (hst : st < 4) (hpd : pd ≤ 4) : zw (fX9_look h 92 (nI p) r (nI at') (nI (at' + l.length))) (lkQ h p (gLk g st pd l)) := by
  have hL := m.2.1
  have hL2 := m.2.2.1
  have s0 := sm.1
  have s2 := sm.2.2.1
  unfold fX9_look gLk
  rw [zw_ck, nI_clamp (by omega), show zI h (92 + 1) p = nI (g 0 0) from hg.c0]
  refine ⟨vin hp (by omega), ?_⟩
  by_cases k3 : g 0 0 = 3
  · rw [if_pos (by rw [k3]; rfl), if_pos k3, zw_b2]
    exact (m_lookFew m).mono fun y hy => ⟨_, rfl, hy⟩
  rw [if_neg (by rw [li, nI_eq (by omega) (by omega)]; exact k3), if_neg k3, zw_ck]
  refine ⟨vin hp (by omega), ?_⟩
  by_cases k0 : g 0 0 = 0
  case neg =>
    rw [if_neg (by rw [n_0 (by omega)]; exact k0), if_neg k0, zw_ck]
    refine ⟨vin hp (by omega), ?_⟩
    by_cases k1 : g 0 0 = 1
    · rw [if_pos (by rw [k1]; rfl), if_pos k1, zw_b2]
      exact (m_lookUnits (hi := 1) m (by omega)).mono fun y hy => ⟨_, rfl, hy⟩
    · rw [if_neg (by rw [li, nI_eq (by omega) (by omega)]; exact k1), if_neg k1, zw_b2]
      exact (m_lookUnits (hi := 0) m (by omega)).mono fun y hy => ⟨_, rfl, hy⟩
  rw [if_pos (by rw [k0]; rfl), if_pos k0, h35]
  have j71 : ∀ due, due = (if pd = 4 then st else pd) → zw (fX9_look_J71 h 92 (nI p) r (nI at') (nI (at' + l.length)) (nI due)) (lkQ h p (if ff (gFm g (if pd = 4 then st else pd) l) (g 2 0) < g 2 0 then (2, g 5 (ff (gFm g (if pd = 4 then st else pd) l) (g 2 0)), g 7 (ff (gFm g (if pd = 4 then st else pd) l) (g 2 0))) else if pd = 4 ∧ 0 < l.length ∧ gSh g st (bt l 0) < g 3 0 then (3, gSh g st (bt l 0), 0) else if ff (gBm g (if pd = 4 then st else pd) l) (g 2 0) < g 2 0 then (1, 0, 0) else (0, 0, 0))) := by
    intro due hdue
    rw [← hdue]
    have hd4 : due ≤ 4 := by rw [hdue]; split <;> omega
    unfold fX9_look_J71
    rw [zw_lx]
    refine zw_for (fun i s => ∃ bg : Nat, s = (nI bg, nI (100 * p + i)) ∧ bg = (if ff (gBm g due l) i < i then 1 else 0) ∧ ff (gFm g due l) i = i) (g 2 0) ?_ ⟨0, by rw [show (100 : Int32) = nI 100 from rfl, pk_mul]; rfl, rfl, rfl⟩
    rintro i s hi ⟨bg, rfl, hbg, hfm⟩
    have hbg1 : bg ≤ 1 := by rw [hbg]; split <;> omega
    dsimp only
    unfold fX9_look_L82
    rw [zw_ck, nI_clamp (by omega), show zI h (92 + 3) p = nI (g 2 0) from hg.c2, show (100 : Int32) = nI 100 from rfl, pk_mul, nI_add]
    refine ⟨vin hp (by omega), ?_⟩
    by_cases hin : i = g 2 0
    · subst hin
      rw [if_pos (Int32.le_refl _), zw_some]
      -- all entries were looked at
      show zw _ _
      rw [if_neg (show ¬ ff (gFm g due l) (g 2 0) < g 2 0 by omega), h35]
      have nosh : zI h 92 42 = zI h 92 42 → (¬ (pd = 4 ∧ 0 < l.length)) → zw (fX9_look_J259 h 92 (nI bg)) (lkQ h p (if pd = 4 ∧ 0 < l.length ∧ gSh g st (bt l 0) < g 3 0 then (3, gSh g st (bt l 0), 0) else if ff (gBm g due l) (g 2 0) < g 2 0 then (1, 0, 0) else (0, 0, 0))) := by
        intro _ hno
        unfold fX9_look_J259
        rw [zw_let, eIs, if_pos neg1, if_neg (show ¬ (pd = 4 ∧ 0 < l.length ∧ gSh g st (bt l 0) < g 3 0) from fun q => hno ⟨q.1, q.2.1⟩)]
        have f42 : fr (fun a j => a = 92 ∧ 40 ≤ j ∧ j ≤ 42) h (zsI h 92 42 (-1)) := (fr.refl _ h).sI (by omega) _
        by_cases q : ff (gBm g due l) (g 2 0) < g 2 0
        · rw [if_pos q] at hbg ⊢
          subst hbg
          rw [if_neg n10, zw_some]
          exact ⟨rfl, fun e => absurd e (by show ¬ (1 : Nat) = 2; omega), fun e => absurd e (by show ¬ (1 : Nat) = 3; omega), f42⟩
        · rw [if_neg q] at hbg ⊢
          subst hbg
          rw [if_pos nI_0, zw_some]
          exact ⟨rfl, fun e => absurd e (by show ¬ (0 : Nat) = 2; omega), fun e => absurd e (by show ¬ (0 : Nat) = 3; omega), f42⟩
      by_cases hp4 : pd = 4
      · rw [if_pos (by rw [hp4]; rfl)]
        have hds : due = st := by rw [hdue, if_pos hp4]
        by_cases hl0 : l.length = 0
        · rw [if_pos (by rw [nI_leI (by omega) (by omega)]; omega)]
          exact nosh rfl (by omega)
        rw [if_neg (by rw [nI_leI (by omega) (by omega)]; omega), zw_ck, nI_clamp (by omega), show zI h r at' = nI (bt l 0) from m.2.2.2.1 0 (by omega), hds, m_shiftOf hp (by omega) (by have := m.2.2.2.2.b 0; omega) hg sm, zb1_s, zw_let, eIs]
        refine ⟨m.ar (k := 0) (by omega), ?_⟩
        have s3 := sm.2.2.2.1
        by_cases hsh : gSh g st (bt l 0) < g 3 0
        · rw [if_pos hsh, if_neg (nI_pos (by omega)), zw_some, if_pos ⟨hp4, by omega, hsh⟩]
          refine ⟨rfl, fun e => absurd e (by show ¬ (3 : Nat) = 2; omega), fun _ => ?_, (fr.refl _ h).sI (by omega) _⟩
          show zI (zsI h 92 42 _) 92 42 = _
          rw [eI, if_pos ⟨rfl, rfl⟩]
        · rw [if_neg hsh, if_pos neg1, if_neg (show ¬ (pd = 4 ∧ 0 < l.length ∧ gSh g st (bt l 0) < g 3 0) from fun q => hsh q.2.2)]
          have f42 : fr (fun a j => a = 92 ∧ 40 ≤ j ∧ j ≤ 42) h (zsI h 92 42 (-1)) := (fr.refl _ h).sI (by omega) _
          rw [hds] at hbg
          by_cases q : ff (gBm g st l) (g 2 0) < g 2 0
          · rw [if_pos q] at hbg ⊢
            subst hbg
            rw [if_neg n10, zw_some]
            exact ⟨rfl, fun e => absurd e (by show ¬ (1 : Nat) = 2; omega), fun e => absurd e (by show ¬ (1 : Nat) = 3; omega), f42⟩
          · rw [if_neg q] at hbg ⊢
            subst hbg
            rw [if_pos nI_0, zw_some]
            exact ⟨rfl, fun e => absurd e (by show ¬ (0 : Nat) = 2; omega), fun e => absurd e (by show ¬ (0 : Nat) = 3; omega), f42⟩
      · rw [if_neg (by rw [li, nI_eq (by omega) (by omega)]; exact hp4)]
        exact nosh rfl (fun q => hp4 q.1)
    · have hi2 : i < g 2 0 := by omega
      have we := sm.2.2.2.2.1 i hi2
      have wl := we.lt
      rw [if_neg (by rw [nI_leI (by omega) (by omega)]; omega), zw_ck, nI_clamp (by omega), show zI h (92 + 5) (100 * p + i) = nI (g 4 i) from hg.e0 hi2]
      refine ⟨vin (by omega) (by omega), ?_⟩
      have nx : ∀ b', b' = (if ff (gBm g due l) (i + 1) < i + 1 then 1 else 0) → gFm g due l i = false → i < g 2 0 ∧ ∃ bg : Nat, ((nI b', nI (100 * p + i) + 1) : Int32 × Int32) = (nI bg, nI (100 * p + (i + 1))) ∧ bg = (if ff (gBm g due l) (i + 1) < i + 1 then 1 else 0) ∧ ff (gFm g due l) (i + 1) = i + 1 := by
        intro b' hb' hno
        exact ⟨hi2, b', by rw [nI_1, Nat.add_assoc], hb', ff_n hfm hno⟩
      by_cases hst2 : g 4 i = due
      case neg =>
        rw [if_neg (by rw [nI_eq (by omega) (by omega)]; exact hst2), zw_some]
        have n1 : (g 4 i == due) = false := by rw [beq_eq_false_iff_ne]; exact hst2
        refine nx bg ?_ (by unfold gFm; rw [n1]; rfl)
        have n2 : gBm g due l i = false := by unfold gBm; rw [n1]; rfl
        rw [hbg]
        have := ff_s (p := gBm g due l) (i := i)
        rw [n2] at this
        simp only [Bool.false_eq_true, or_false] at this
        by_cases q : ff (gBm g due l) i < i
        · rw [if_pos q, if_pos (this.mpr q)]
        · rw [if_neg q, if_neg (fun w => q (this.mp w))]
      have n1 : (g 4 i == due) = true := by rw [beq_iff_eq]; exact hst2
      rw [if_pos (by rw [hst2]), zw_ck, show zI h (92 + 6) (100 * p + i) = nI (g 5 i) from hg.e1 hi2, m_same m (by omega) (hg.e2 hi2) wl.2.2.2.1 wl.2.1, zb1_s]
      refine ⟨vin (by omega) (by omega), ?_⟩
      have ef := eSm_f (b := g 6 i) m.2.2.2.2 ⟨wl.2.2.1, wl.2.1⟩ we.2.2.2.1
      have eb := eSm_b (b := g 6 i) m.2.2.2.2 ⟨wl.2.2.1, wl.2.1⟩ we.2.2.2.1
      have el := ff_le (fun i_1 => !(decide (i_1 < l.length) && bt l i_1 == g 6 i / 2 ^ (8 * (g 5 i - 1 - i_1)) % 256)) (g 5 i)
      have el2 : eSm l (g 5 i) (g 6 i) ≤ g 5 i := el
      have ell : eSm l (g 5 i) (g 6 i) ≤ l.length := by
        by_cases q : l.length < eSm l (g 5 i) (g 6 i)
        · have := ff_no _ _ _ q
          simp only [Nat.lt_irrefl, decide_false, Bool.false_and, Bool.not_false] at this
          cases this
        · omega
      unfold fX9_look_J178
      by_cases hfull : eSm l (g 5 i) (g 6 i) = g 5 i
      · have hf : gFm g due l i = true := by
          unfold gFm
          rw [n1]
          simp only [Bool.true_and, Bool.and_eq_true, decide_eq_true_eq, beq_iff_eq]
          exact ef.mp hfull
        have hff := ff_hit hfm hf hi2
        rw [if_pos (by rw [hfull]), zw_let, zw_ck, zw_let, zw_some, eI, if_neg (by omega), nI_clamp (by omega), show zI h (92 + 8) (100 * p + i) = nI (g 7 i) from hg.e3 hi2]
        refine ⟨vin (by omega) (by omega), ?_⟩
        rw [hff, if_pos hi2]
        exact lkQ_hit rfl rfl
      · have hf : gFm g due l i = false := by
          unfold gFm
          rw [n1]
          simp only [Bool.true_and, Bool.and_eq_false_iff, decide_eq_false_iff_not, beq_eq_false_iff_ne]
          by_cases q : g 5 i ≤ l.length
          · exact Or.inr fun w => hfull (ef.mpr ⟨q, w⟩)
          · exact Or.inl q
        rw [if_neg (by rw [nI_eq (by omega) (by omega)]; exact hfull)]
        have hbm : gBm g due l i = true ↔ eSm l (g 5 i) (g 6 i) = l.length := by
          unfold gBm
          rw [n1]
          simp only [Bool.true_and, Bool.and_eq_true, decide_eq_true_eq, beq_iff_eq]
          constructor
          · intro w; exact (eb.mpr w).1
          · intro w; exact eb.mp ⟨w, by omega⟩
        have hs := ff_s (p := gBm g due l) (i := i)
        by_cases q : ff (gBm g due l) i < i
        · rw [if_pos q] at hbg
          subst hbg
          rw [if_neg n10, zw_some]
          exact nx 1 (by rw [if_pos (hs.mpr (Or.inl q))]) hf
        · rw [if_neg q] at hbg
          subst hbg
          rw [if_pos nI_0, nI_add]
          by_cases w : eSm l (g 5 i) (g 6 i) = l.length
          · rw [if_pos (by rw [w]), zw_some]
            exact nx 1 (by rw [if_pos (hs.mpr (Or.inr (hbm.mpr w)))]) hf
          · rw [if_neg (by rw [nI_eq (by omega) (by omega)]; omega), zw_some]
            refine nx 0 ?_ hf
            rw [if_neg]
            intro u
            rcases hs.mp u with u | u
            · exact q u
            · exact w (hbm.mp u)
  by_cases hp4 : pd = 4
  · rw [if_pos (by rw [hp4]; rfl), h34]
    exact j71 st (by rw [if_pos hp4])
  · rw [if_neg (by rw [li, nI_eq (by omega) (by omega)]; exact hp4)]
    exact j71 pd (by rw [if_neg hp4])
