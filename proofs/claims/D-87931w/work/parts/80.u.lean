/-! the exchange's code -/
set_option maxRecDepth 100000
theorem and_spl {i a b c d : Nat} (hb : b < 2 ^ i) (hd : d < 2 ^ i) : (2 ^ i * a + b) &&& (2 ^ i * c + d) = 2 ^ i * (a &&& c) + (b &&& d) := by
  apply Nat.eq_of_testBit_eq
  intro j
  rw [Nat.testBit_and, Nat.testBit_two_pow_mul_add a hb, Nat.testBit_two_pow_mul_add c hd, Nat.testBit_two_pow_mul_add _ (Nat.and_lt_two_pow b hd)]
  split <;> rw [Nat.testBit_and]
theorem or_spl {i a b c d : Nat} (hb : b < 2 ^ i) (hd : d < 2 ^ i) : (2 ^ i * a + b) ||| (2 ^ i * c + d) = 2 ^ i * (a ||| c) + (b ||| d) := by
  apply Nat.eq_of_testBit_eq
  intro j
  rw [Nat.testBit_or, Nat.testBit_two_pow_mul_add a hb, Nat.testBit_two_pow_mul_add c hd, Nat.testBit_two_pow_mul_add _ (Nat.or_lt_two_pow hb hd)]
  split <;> rw [Nat.testBit_or]
theorem a255 {x : Nat} (h : x < 256) : x &&& 255 = x := by
  have := Nat.and_two_pow_sub_one_eq_mod x 8
  rw [show 2 ^ 8 - 1 = 255 from rfl] at this
  rw [this]
  exact Nat.mod_eq_of_lt h
theorem turn_or {a b c d : Nat} (ha : a < 256) (hb : b < 256) (hc : c < 256) (hd : d < 256) : (a * 65536 + c) ||| (b * 16777216 + d * 256) = b * 16777216 + a * 65536 + d * 256 + c := by
  have q1 : a * 65536 + c = 2 ^ 16 * a + c := by rw [show 2 ^ 16 = 65536 from by decide, Nat.mul_comm]
  have q2 : b * 16777216 + d * 256 = 2 ^ 16 * (b * 2 ^ 8) + d * 2 ^ 8 := by
    rw [show 2 ^ 16 = 65536 from by decide, show 2 ^ 8 = 256 from by decide, show b * 16777216 = 65536 * (b * 256) from by rw [Nat.mul_comm 65536, Nat.mul_assoc]]
  have r1 : c < 2 ^ 16 := by rw [show 2 ^ 16 = 65536 from by decide]; omega
  have r2 : d * 2 ^ 8 < 2 ^ 16 := by rw [show 2 ^ 16 = 65536 from by decide, show 2 ^ 8 = 256 from by decide]; omega
  have r3 : a < 2 ^ 8 := by rw [show 2 ^ 8 = 256 from by decide]; omega
  have r4 : c < 2 ^ 8 := by rw [show 2 ^ 8 = 256 from by decide]; omega
  rw [q1, q2, or_spl r1 r2, or_add' b r3, or_add' d r4, show 2 ^ 16 = 65536 from by decide, show 2 ^ 8 = 256 from by decide]
  omega
/-- the bytes of units are turned -/
theorem turn4 {n a b c d : Nat} (hn : n &&& 7 = n) (ha : a < 256) (hb : b < 256) (hc : c < 256) (hd : d < 256) : let v := n * 4294967296 + (a * 16777216 + b * 65536 + c * 256 + d)
    ((v &&& 30064771072) ||| ((v &&& 4278255360) / 256)) ||| ((v &&& 16711935) * 256) = n * 4294967296 + (b * 16777216 + a * 65536 + d * 256 + c) := by
  intro v
  have e1 : v &&& 30064771072 = n * 4294967296 := by
    have := and_spl (i := 32) (a := n) (b := a * 16777216 + b * 65536 + c * 256 + d) (c := 7) (d := 0) (by omega) (by omega)
    rw [hn, Nat.and_zero] at this
    rw [show v = 2 ^ 32 * n + (a * 16777216 + b * 65536 + c * 256 + d) from by show n * 4294967296 + _ = 4294967296 * n + _; omega]
    refine this.trans ?_
    show 4294967296 * n + 0 = _
    omega
  have hv : v = 2 ^ 8 * (2 ^ 8 * (2 ^ 8 * (2 ^ 8 * n + a) + b) + c) + d := by simp only [Nat.reducePow]; omega
  have e2 : v &&& 4278255360 = a * 16777216 + c * 256 := by
    rw [hv, show 4278255360 = 2 ^ 8 * (2 ^ 8 * (2 ^ 8 * (2 ^ 8 * 0 + 255) + 0) + 255) + 0 from rfl, and_spl (by omega) (by omega), and_spl (by omega) (by omega), and_spl (by omega) (by omega), and_spl (by omega) (by omega), a255 ha, a255 hc, Nat.and_zero, Nat.and_zero, Nat.and_zero]
    simp only [Nat.reducePow]; omega
  have e3 : v &&& 16711935 = b * 65536 + d := by
    rw [hv, show 16711935 = 2 ^ 8 * (2 ^ 8 * (2 ^ 8 * (2 ^ 8 * 0 + 0) + 255) + 0) + 255 from rfl, and_spl (by omega) (by omega), and_spl (by omega) (by omega), and_spl (by omega) (by omega), and_spl (by omega) (by omega), a255 hb, a255 hd, Nat.and_zero, Nat.and_zero, Nat.and_zero]
    simp only [Nat.reducePow]; omega
  rw [e1, e2, e3, show (a * 16777216 + c * 256) / 256 = a * 65536 + c from by omega, show (b * 65536 + d) * 256 = b * 16777216 + d * 256 from by omega, Nat.or_assoc]
  have e4 := turn_or ha hb hc hd
  rw [e4]
  exact or_add (k := 32) n (by omega)
def cdL (c : Option (Nat × Nat × Nat)) : Int64 := match c with
  | none => -1
  | some q => lN (q.2.1 * 2 ^ 32 + q.2.2)
theorem x_told10 {v n : Nat} (hv : v < 2 ^ 32) (hn : n ≤ 4) : fX10_told (lN v) (nI n) = some (lN (n * 2 ^ 32 + v)) := by
  unfold fX10_told
  rw [nI_l (by omega), show (32 : Int32) = nI 32 from rfl, l_shl _ (by omega), lN_or, or_add _ hv]
theorem x_wide {a pt : Nat} (hpt : pt ≤ 1114111) : fX11_code a (nI pt) = some (if pt < 65536 then lN (2 * 2 ^ 32 + pt) else lN (4 * 2 ^ 32 + (uHi pt * 65536 + uLo pt))) := by
  unfold fX11_code
  by_cases h1 : pt < 65536
  · rw [if_neg (by rw [li, nI_leI (by omega) (by omega)]; omega), if_pos h1, nI_l (by omega), show (2 : Int32) = nI 2 from rfl, x_told10 (by omega) (by omega)]
    rfl
  · have u := uHL (by omega) hpt
    rw [if_pos (by rw [li, nI_leI (by omega) (by omega)]; omega), if_neg h1, show (65536 : Int32) = nI 65536 from rfl, pk_sub (by omega), show (10 : Int32) = nI 10 from rfl, shrI (by omega) (by omega), show (56320 : Int32) = nI 56320 from rfl, show nI (pt - 65536) &&& 1023 = nI ((pt - 65536) % 1024) from pk_andN (by omega) 10 (by decide), nI_add, nI_l (by omega), nI_l (by omega), show (55296 : Int64) = lN 55296 from rfl, show lN 55296 + lN ((pt - 65536) / 2 ^ 10) = lN (55296 + (pt - 65536) / 2 ^ 10) from (Int64.ofNat_add _ _).symm, show (16 : Int32) = nI 16 from rfl, l_shl _ (by omega), lN_or, or_add _ (by unfold uLo at u; omega), show (4 : Int32) = nI 4 from rfl, x_told10 (by unfold uHi uLo at u; omega) (by omega)]
    rfl
theorem x_turn {a pt : Nat} (hpt : pt ≤ 1114111) : fX12_code a (nI pt) = some (if pt < 65536 then lN (2 * 2 ^ 32 + tu pt) else lN (4 * 2 ^ 32 + (tu (uHi pt) * 65536 + tu (uLo pt)))) := by
  unfold fX12_code
  rw [show fX11_code_9 a (nI pt) = fX11_code a (nI pt) from rfl, x_wide hpt, zb1_s]
  have go : ∀ n a b c d : Nat, n &&& 7 = n → a < 256 → b < 256 → c < 256 → d < 256 → n ≤ 4 → ((lN (n * 4294967296 + (a * 16777216 + b * 65536 + c * 256 + d)) &&& 30064771072) ||| ((lN (n * 4294967296 + (a * 16777216 + b * 65536 + c * 256 + d)) &&& 4278255360) >>> ((8 : Int32).toInt64 &&& 63))) ||| ((lN (n * 4294967296 + (a * 16777216 + b * 65536 + c * 256 + d)) &&& 16711935) <<< ((8 : Int32).toInt64 &&& 63)) = lN (n * 4294967296 + (b * 16777216 + a * 65536 + d * 256 + c)) := by
    intro n a b c d hn ha hb hc hd hn4
    have e := turn4 hn ha hb hc hd
    dsimp only at e
    rw [show (30064771072 : Int64) = lN 30064771072 from rfl, show (4278255360 : Int64) = lN 4278255360 from rfl, show (16711935 : Int64) = lN 16711935 from rfl, lN_and, lN_and, lN_and, show (8 : Int32) = nI 8 from rfl, l_shr (by omega) (Nat.lt_of_le_of_lt Nat.and_le_right (by omega)), l_shl _ (by omega), lN_or, lN_or]
    exact congrArg lN e
  by_cases h1 : pt < 65536
  · rw [if_pos h1, if_pos h1]
    have := go 2 0 0 (pt / 256) (pt % 256) rfl (by omega) (by omega) (by omega) (by omega) (by omega)
    rw [show 2 * 4294967296 + (0 * 16777216 + 0 * 65536 + pt / 256 * 256 + pt % 256) = 2 * 2 ^ 32 + pt from by omega] at this
    rw [this]
    exact congrArg (fun v => some (lN v)) (by unfold tu; omega)
  · rw [if_neg h1, if_neg h1]
    have u := uHL (by omega) hpt
    generalize uHi pt = A at *
    generalize uLo pt = B at *
    have := go 4 (A / 256) (A % 256) (B / 256) (B % 256) rfl (by omega) (by omega) (by omega) (by omega) (by omega)
    rw [show 4 * 4294967296 + (A / 256 * 16777216 + A % 256 * 65536 + B / 256 * 256 + B % 256) = 4 * 2 ^ 32 + (A * 65536 + B) from by omega] at this
    rw [this]
    exact congrArg (fun v => some (lN v)) (by unfold tu; omega)
