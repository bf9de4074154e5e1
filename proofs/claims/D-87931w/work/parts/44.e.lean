/-! the model's pages: checks, searches, page derive entry shift drop size -/
set_option maxRecDepth 100000
theorem zB0 : zB 0 = True := eq_true (Or.inl rfl)
theorem zB1 : zB 1 = True := eq_true (Or.inr rfl)
theorem zBn {n : Nat} (h : n ≤ 1) : zB (nI n) = True := by
  have : n = 0 ∨ n = 1 := by omega
  rcases this with rfl | rfl
  · exact zB0
  · exact zB1
/-- a place below n -/
noncomputable def vI (x : Int32) (n : Nat) : Option Nat := if x < 0 ∨ nI n ≤ x then none else some x.toNatClampNeg
theorem vI_cases (x : Int32) (n : Nat) (hn : n < 2 ^ 31) : (vI x n = none ∧ (x < 0 ∨ nI n ≤ x)) ∨ ∃ k, k < n ∧ x = nI k ∧ vI x n = some k := by
  rcases pk_ix x hn with h | h | ⟨j, hj, rfl⟩
  · exact Or.inl ⟨if_pos (Or.inl h), Or.inl h⟩
  · exact Or.inl ⟨if_pos (Or.inr h), Or.inr h⟩
  · refine Or.inr ⟨j, hj, rfl, ?_⟩
    unfold vI
    rw [if_neg (by rintro (e | e); exact nI_pos (by omega) e; rw [nI_leI (by omega) (by omega)] at e; omega), nI_clamp (by omega)]
theorem m_isPage0 {h : zH} {np : Nat} {x : Int32} (c : zI h 92 0 = nI np) (hn : np < 2 ^ 30) (hx : x < 0 ∨ nI np ≤ x) : fX9_isPage h 92 x = some 0 := by
  have : fX9_in x 0 (nI np - 1) = some 0 := by
    unfold fX9_in
    by_cases h0 : x < 0
    · rw [if_pos h0]
    rw [if_neg h0, if_pos]
    rcases hx with hx | hx
    · exact absurd hx h0
    rw [Int32.lt_iff_toInt_lt, show (1 : Int32) = nI 1 from rfl, pk_sub_toInt hn (by omega)]
    rw [Int32.le_iff_toInt_le, nI_toInt (by omega)] at hx
    omega
  unfold fX9_isPage
  rw [c, this]
  exact zck_pos (Or.inl rfl)
theorem m_isPage1 {h : zH} {np k : Nat} (c : zI h 92 0 = nI np) (hn : np < 2 ^ 30) (hk : k < np) : fX9_isPage h 92 (nI k) = some 1 := by
  have : fX9_in (nI k) 0 (nI np - 1) = some 1 := by
    unfold fX9_in
    rw [if_neg (nI_pos (by omega)), show (1 : Int32) = nI 1 from rfl, pk_sub (by omega), if_neg (by rw [nI_ltI (by omega) (by omega)]; omega)]
  unfold fX9_isPage
  rw [c, this]
  exact zck_pos (Or.inr rfl)
/-- a point -/
noncomputable def vPt (x : Int32) : Option Nat := if fX9_isPoint x = some 1 then some x.toNatClampNeg else none
theorem pt_eq (x : Int32) : fX0_isPoint x = fX9_isPoint x := by
  unfold fX0_isPoint fX9_isPoint fX0_in fX9_in
  rfl
theorem pt_1 {k : Nat} (h : isPt k) : fX9_isPoint (nI k) = some 1 := by
  obtain ⟨h1, h2⟩ := h
  apply zw_eq
  simp (disch := omega) only [fX9_isPoint, fX9_in, zw_b1, zw_b2, zw_ck, zw_let, zw_ite, zw_some, li, pk_mul, nI_add, nI_clamp, vin, nI_leI, nI_ltI, nI_eq, nneg, nnn]
  repeat' split
  all_goals first | trivial | omega | (exfalso; omega)
theorem pt_cases (x : Int32) : (vPt x = none ∧ fX9_isPoint x = some 0 ∧ fX0_isPoint x = some 0) ∨ ∃ k, isPt k ∧ x = nI k ∧ vPt x = some k ∧ fX9_isPoint x = some 1 ∧ fX0_isPoint x = some 1 := by
  rw [pt_eq]
  rcases vR_cases x 0 1114111 (by omega) (by omega) with ⟨-, e, -⟩ | ⟨k, -, hk, rfl, -, e, -⟩
  · left
    have e1 : fX9_isPoint x = some 0 := by
      unfold fX9_isPoint
      rw [show fX9_in x 0 1114111 = some 0 from e]
      rfl
    refine ⟨?_, e1, e1⟩
    unfold vPt
    rw [e1]
    rfl
  · by_cases h2 : 55296 ≤ k ∧ k ≤ 57343
    · left
      have e1 : fX9_isPoint (nI k) = some 0 := by
        apply zw_eq
        simp (disch := omega) only [fX9_isPoint, fX9_in, zw_b1, zw_b2, zw_ck, zw_let, zw_ite, zw_some, li, pk_mul, nI_add, nI_clamp, vin, nI_leI, nI_ltI, nI_eq, nneg, nnn]
        repeat' split
        all_goals first | trivial | omega | (exfalso; omega)
      refine ⟨?_, e1, e1⟩
      unfold vPt
      rw [e1]
      rfl
    · right
      have hp : isPt k := ⟨hk, h2⟩
      have e1 := pt_1 hp
      refine ⟨k, hp, rfl, ?_, e1, e1⟩
      unfold vPt
      rw [if_pos e1, nI_clamp (by omega)]
/-- a byte text: state, bytes, how many -/
noncomputable def vTx (s b n : Int32) : Option (Nat × Nat × Nat) := if fX9_isText s b n = some 1 then some (s.toNatClampNeg, b.toNatClampNeg, n.toNatClampNeg) else none
theorem sh8 {n : Nat} (h : n ≤ 3) : (1 : Int32) <<< ((8 : Int32) * nI n &&& 31) = nI (2 ^ (8 * n)) := by
  have : n = 0 ∨ n = 1 ∨ n = 2 ∨ n = 3 := by omega
  rcases this with rfl | rfl | rfl | rfl <;> decide +kernel
theorem tx_cases (s b n : Int32) : (vTx s b n = none ∧ fX9_isText s b n = some 0 ∧ fX0_isText s b n = some 0) ∨ ∃ s' b' n', s' < 4 ∧ 1 ≤ n' ∧ n' ≤ 3 ∧ b' < 2 ^ (8 * n') ∧ b' < 2 ^ 24 ∧ s = nI s' ∧ b = nI b' ∧ n = nI n' ∧ vTx s b n = some (s', b', n') ∧ fX9_isText s b n = some 1 ∧ fX0_isText s b n = some 1 := by
  have no : fX9_isText s b n = some 0 → vTx s b n = none := fun e => by unfold vTx; rw [e]; rfl
  rcases vR_cases s 0 3 (by omega) (by omega) with ⟨-, e9, e0⟩ | ⟨s', -, hs, rfl, -, e9, e0⟩
  · left
    have : fX9_isText s b n = some 0 := by unfold fX9_isText; rw [show fX9_in s 0 3 = some 0 from e9]; rfl
    exact ⟨no this, this, by unfold fX0_isText; rw [show fX0_in s 0 3 = some 0 from e0]; rfl⟩
  rcases vR_cases n 1 3 (by omega) (by omega) with ⟨-, f9, f0⟩ | ⟨n', hn1, hn, rfl, -, f9, f0⟩
  · left
    have : fX9_isText (nI s') b n = some 0 := by unfold fX9_isText; rw [show fX9_in (nI s') 0 3 = some 1 from e9, show fX9_in n 1 3 = some 0 from f9]; rfl
    exact ⟨no this, this, by unfold fX0_isText; rw [show fX0_in (nI s') 0 3 = some 1 from e0, show fX0_in n 1 3 = some 0 from f0]; rfl⟩
  have hpow : 2 ^ (8 * n') ≤ 2 ^ 24 := Nat.pow_le_pow_right (by decide) (by omega)
  have hpos : 0 < 2 ^ (8 * n') := Nat.two_pow_pos _
  have key9 : fX9_isText (nI s') b (nI n') = if b < 0 then some 0 else if nI (2 ^ (8 * n')) ≤ b then some 0 else some 1 := by
    unfold fX9_isText
    rw [show fX9_in (nI s') 0 3 = some 1 from e9, show fX9_in (nI n') 1 3 = some 1 from f9, sh8 hn]
    rfl
  have key0 : fX0_isText (nI s') b (nI n') = if b < 0 then some 0 else if nI (2 ^ (8 * n') - 1) < b then some 0 else some 1 := by
    unfold fX0_isText
    rw [show fX0_in (nI s') 0 3 = some 1 from e0, show fX0_in (nI n') 1 3 = some 1 from f0, sh8 hn, show (1 : Int32) = nI 1 from rfl, pk_sub (by omega)]
    show zb1 (fX0_in b 0 (nI (2 ^ (8 * n') - 1))) _ = _
    unfold fX0_in
    split
    · rfl
    · split <;> rfl
  rcases vI_cases b (2 ^ (8 * n')) (by omega) with ⟨-, hb⟩ | ⟨b', hb, rfl, -⟩
  · left
    have e1 : fX9_isText (nI s') b (nI n') = some 0 := by
      rw [key9]
      split
      · rfl
      · rw [if_pos (by rcases hb with hb | hb; contradiction; exact hb)]
    refine ⟨no e1, e1, ?_⟩
    rw [key0]
    split
    · rfl
    · rw [if_pos]
      rcases hb with hb | hb
      · contradiction
      rw [Int32.lt_iff_toInt_lt, nI_toInt (by omega)]
      rw [Int32.le_iff_toInt_le, nI_toInt (by omega)] at hb
      omega
  · right
    have e1 : fX9_isText (nI s') (nI b') (nI n') = some 1 := by
      rw [key9, if_neg (nI_pos (by omega)), if_neg (by rw [nI_leI (by omega) (by omega)]; omega)]
    refine ⟨s', b', n', by omega, hn1, hn, hb, by omega, rfl, rfl, rfl, ?_, e1, ?_⟩
    · unfold vTx
      rw [if_pos e1, nI_clamp (by omega), nI_clamp (by omega), nI_clamp (by omega)]
    · rw [key0, if_neg (nI_pos (by omega)), if_neg (by rw [nI_ltI (by omega) (by omega)]; omega)]
/-! searches -/
def gEn (g : gP) (s n b : Nat) : Nat := ff (fun k => g 4 k == s && g 5 k == n && g 6 k == b) (g 2 0)
def gSh (g : gP) (s b : Nat) : Nat := ff (fun k => g 9 k == s && g 10 k == b) (g 3 0)
theorem m_entryOf {h : zH} {p : Nat} {g : gP} {s n b : Nat} (hp : p < 11) (hs : s < 2 ^ 31) (hn : n < 2 ^ 31) (hb : b < 2 ^ 31) (hg : mPg h p g) (hm : gSm g) : fX9_entryOf h 92 (nI p) (nI s) (nI b) (nI n) = some (if gEn g s n b < g 2 0 then nI (100 * p + gEn g s n b) else -1) := by
  apply zw_eq
  have c2 := hg.c2
  obtain ⟨m0, m1, m2, m3, me, ms⟩ := hm
  unfold fX9_entryOf
  rw [li, pk_mul]
  refine zw_ff (100 * p) (g 2 0) (fun k => g 4 k == s && g 5 k == n && g 6 k == b) ?_ ?_ ?_
  · simp (disch := omega) only [fX9_entryOf_L6, zw_b1, zw_b2, zw_ck, zw_let, zw_ite, zw_some, li, pk_mul, nI_add, nI_clamp, vin, c2, nI_leI, Nat.reduceAdd, true_and, Nat.le_refl, if_true]
    exact ⟨_, rfl, fun e => by unfold gEn; rw [if_neg (by omega)]⟩
  · intro k hk hh
    have a0 := hg.e0 hk
    have a1 := hg.e1 hk
    have a2 := hg.e2 hk
    have b0 := (me k hk).lt
    simp only [Bool.and_eq_true, beq_iff_eq] at hh
    simp (disch := omega) only [fX9_entryOf_L6, zw_b1, zw_b2, zw_ck, zw_let, zw_ite, zw_some, li, pk_mul, nI_add, nI_clamp, vin, c2, nI_leI, Nat.reduceAdd, true_and, a0, a1, a2, nI_eq, hh.1.1, hh.1.2, hh.2, if_true]
    rw [if_neg (by omega)]
    exact ⟨_, rfl, fun e => by unfold gEn; rw [if_pos (by omega), e]⟩
  · intro k hk hh
    have a0 := hg.e0 hk
    have a1 := hg.e1 hk
    have a2 := hg.e2 hk
    have b0 := (me k hk).lt
    apply zw_eq
    simp only [Bool.and_eq_false_iff, beq_eq_false_iff_ne] at hh
    simp (disch := omega) only [fX9_entryOf_L6, zw_b1, zw_b2, zw_ck, zw_let, zw_ite, zw_some, li, pk_mul, nI_add, nI_clamp, vin, c2, nI_leI, Nat.reduceAdd, true_and, a0, a1, a2, nI_eq]
    rw [if_neg (by omega)]
    split
    · split
      · rw [if_neg (by omega)]; trivial
      · trivial
    · trivial
theorem m_shiftOf {h : zH} {p : Nat} {g : gP} {s b : Nat} (hp : p < 11) (hs : s < 2 ^ 31) (hb : b < 2 ^ 31) (hg : mPg h p g) (hm : gSm g) : fX9_shiftOf h 92 (nI p) (nI s) (nI b) = some (if gSh g s b < g 3 0 then nI (10 * p + gSh g s b) else -1) := by
  apply zw_eq
  have c3 := hg.c3
  obtain ⟨m0, m1, m2, m3, me, ms⟩ := hm
  unfold fX9_shiftOf
  rw [li, pk_mul]
  refine zw_ff (10 * p) (g 3 0) (fun k => g 9 k == s && g 10 k == b) ?_ ?_ ?_
  · simp (disch := omega) only [fX9_shiftOf_L6, zw_b1, zw_b2, zw_ck, zw_let, zw_ite, zw_some, li, pk_mul, nI_add, nI_clamp, vin, c3, nI_leI, Nat.reduceAdd, true_and, Nat.le_refl, if_true]
    exact ⟨_, rfl, fun e => by unfold gSh; rw [if_neg (by omega)]⟩
  · intro k hk hh
    have a0 := hg.s0 hk
    have a1 := hg.s1 hk
    have b0 := ms k hk
    unfold sWf at b0
    simp only [Bool.and_eq_true, beq_iff_eq] at hh
    simp (disch := omega) only [fX9_shiftOf_L6, zw_b1, zw_b2, zw_ck, zw_let, zw_ite, zw_some, li, pk_mul, nI_add, nI_clamp, vin, c3, nI_leI, Nat.reduceAdd, true_and, a0, a1, nI_eq, hh.1, hh.2, if_true]
    rw [if_neg (by omega)]
    exact ⟨_, rfl, fun e => by unfold gSh; rw [if_pos (by omega), e]⟩
  · intro k hk hh
    have a0 := hg.s0 hk
    have a1 := hg.s1 hk
    have b0 := ms k hk
    unfold sWf at b0
    apply zw_eq
    simp only [Bool.and_eq_false_iff, beq_eq_false_iff_ne] at hh
    simp (disch := omega) only [fX9_shiftOf_L6, zw_b1, zw_b2, zw_ck, zw_let, zw_ite, zw_some, li, pk_mul, nI_add, nI_clamp, vin, c3, nI_leI, Nat.reduceAdd, true_and, a0, a1, nI_eq]
    rw [if_neg (by omega)]
    split
    · rw [if_neg (by omega)]; trivial
    · trivial
