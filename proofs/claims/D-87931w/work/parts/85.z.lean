/-! sums of rows (send, receive) -/
set_option maxRecDepth 100000
def gSum (l : List Nat) : Nat → Nat
  | 0 => 0
  | n + 1 => gSum l n + (n + 1) * bt l n
theorem gSum_le {l : List Nat} (h : isB l) : ∀ n, n ≤ 6000 → gSum l n ≤ n * 1530000
  | 0, _ => Nat.le_refl _
  | n + 1, hn => by
    have ih := gSum_le h n (by omega)
    have hb := h.b n
    have : (n + 1) * bt l n ≤ 6000 * 255 := Nat.mul_le_mul hn (by omega)
    show gSum l n + (n + 1) * bt l n ≤ _
    omega
theorem m_sumOf {h : zH} {r n : Nat} {l : List Nat} (m : rAt h r 0 l) (hn : n ≤ l.length) (h6 : n ≤ 6000) : fX9_sumOf h 92 r (nI n) = some (nI (gSum l n % 65521)) := by
  apply zw_eq
  unfold fX9_sumOf
  refine zw_for (fun i s => s = (lN (gSum l i), nI i)) n ?_ rfl
  rintro i s hi rfl
  have b1 := gSum_le m.2.2.2.2 i (by omega)
  dsimp only
  unfold fX9_sumOf_L5
  by_cases e : i = n
  · subst e
    rw [if_pos (Int32.le_refl _), zw_some, show (65521 : Int64) = lN 65521 from rfl, pk_lRem (by omega) (by omega) (by omega), lN_i]
  · have hb := m.2.2.2.2.b i
    have ar := m.ar (k := i) (by omega)
    have rd := m.2.2.2.1 i (by omega)
    rw [Nat.zero_add] at ar rd
    rw [if_neg (by rw [nI_leI (by omega) (by omega)]; omega), zw_ck, zw_some, nI_clamp (by omega), rd, nI_l (by omega), nI_l (by omega), show (1 : Int64) = lN 1 from rfl, lN_add, lN_mul, lN_add, nI_1]
    exact ⟨ar, by omega, rfl⟩
theorem x_sumOf {h : zH} {r n : Nat} {l : List Nat} (m : rAt h r 0 l) (hn : n ≤ l.length) (h6 : n ≤ 6000) : fX0_sumOf h r (nI n) = some (nI (gSum l n % 65521)) := by
  apply zw_eq
  unfold fX0_sumOf
  refine zw_for (fun i s => s = (nI (gSum l i % 65521), nI i)) n ?_ rfl
  rintro i s hi rfl
  dsimp only
  unfold fX0_sumOf_L4
  by_cases e : i = n
  · subst e
    rw [if_pos (Int32.le_refl _), zw_some]
  · have hb := m.2.2.2.2.b i
    have ar := m.ar (k := i) (by omega)
    have rd := m.2.2.2.1 i (by omega)
    rw [Nat.zero_add] at ar rd
    have hm : (i + 1) * bt l i ≤ 6000 * 255 := Nat.mul_le_mul (by omega) (by omega)
    rw [if_neg (by rw [nI_leI (by omega) (by omega)]; omega), zw_ck, zw_some, nI_clamp (by omega), rd, nI_1, pk_mul, nI_add, show (65521 : Int32) = nI 65521 from rfl, pk_rem (by omega) (by omega) (by omega)]
    refine ⟨ar, by omega, ?_⟩
    show (nI ((gSum l i % 65521 + (i + 1) * bt l i) % 65521), _) = (nI ((gSum l i + (i + 1) * bt l i) % 65521), _)
    rw [Nat.mod_add_mod]
