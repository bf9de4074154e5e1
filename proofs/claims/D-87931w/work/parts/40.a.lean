/-! numbers and searches, for the pure part -/
set_option maxRecDepth 100000
theorem vin {n N : Nat} (h : n < N) (hN : N ≤ 2 ^ 31) : vp_in (nI n) N := by
  unfold vp_in
  rw [nI_clamp (by omega)]
  intro e
  rcases e with e | e
  · exact nI_pos (by omega) e
  · omega
theorem li (n : Nat) : (OfNat.ofNat n : Int32) = nI (OfNat.ofNat n) := congrArg nI (Eq.refl n)
theorem nneg {n : Nat} (h : n < 2 ^ 31) : nI n < 0 ↔ False := ⟨fun e => nI_pos h e, False.elim⟩
theorem nnn {n : Nat} (h : n < 2 ^ 31) : 0 ≤ nI n ↔ True := ⟨fun _ => trivial, fun _ => nI_pos' h⟩
theorem n_0 {n : Nat} (h : n < 2 ^ 31) : nI n = 0 ↔ n = 0 := by
  rw [← nI_0, nI_eq h (by omega)]
theorem i_in {x : Int32} {n : Nat} (h0 : ¬ x < 0) (h : ¬ nI n < x) (hn : n < 2 ^ 31) : ∃ k, k ≤ n ∧ x = nI k := nI_of2 (nI_toInt hn) h0 (by rcases Int32.le_total x (nI n) with e | e; exact e; rcases Int32.le_iff_lt_or_eq.mp e with e | e; exact absurd e h; exact e ▸ Int32.le_refl _)
/-- the first k < n with p k, n if there is none -/
def ff (p : Nat → Bool) : Nat → Nat
  | 0 => 0
  | n + 1 => if ff p n < n then ff p n else if p n then n else n + 1
theorem ff_le (p : Nat → Bool) : ∀ n, ff p n ≤ n
  | 0 => Nat.le_refl 0
  | n + 1 => by
    have ih := ff_le p n
    unfold ff
    split
    · omega
    · split <;> omega
theorem ff_no (p : Nat → Bool) : ∀ n k, k < ff p n → p k = false
  | 0, k, h => absurd h (Nat.not_lt_zero k)
  | n + 1, k, h => by
    have ih := ff_no p n
    have hl := ff_le p n
    unfold ff at h
    split at h
    · exact ih k h
    · split at h
      · exact ih k (by omega)
      · rename_i h2
        by_cases e : k = n
        · subst e
          exact Bool.eq_false_iff.mpr h2
        · exact ih k (by omega)
theorem ff_yes (p : Nat → Bool) : ∀ n, ff p n < n → p (ff p n) = true
  | 0, h => absurd h (Nat.not_lt_zero _)
  | n + 1, h => by
    have ih := ff_yes p n
    have hl := ff_le p n
    unfold ff at h ⊢
    split at h
    · rename_i h1
      rw [if_pos h1]
      exact ih h1
    · rename_i h1
      rw [if_neg h1]
      split at h
      · rename_i h2
        rw [if_pos h2]
        exact h2
      · omega
theorem ff_eq {p : Nat → Bool} {n k : Nat} (hk : k ≤ n) (hn : ∀ j, j < k → p j = false) (hp : k < n → p k = true) : ff p n = k := by
  have h1 := ff_le p n
  rcases Nat.lt_trichotomy (ff p n) k with h | h | h
  · have := hn _ h
    rw [ff_yes p n (by omega)] at this
    cases this
  · exact h
  · have := ff_no p n k h
    rw [hp (by omega)] at this
    cases this
theorem ff_cong {p q : Nat → Bool} {n : Nat} (h : ∀ k, k < n → p k = q k) : ff p n = ff q n := by
  have hl := ff_le q n
  refine ff_eq hl (fun j hj => ?_) (fun hj => ?_)
  · rw [h j (by omega)]; exact ff_no q n j hj
  · rw [h _ hj]; exact ff_yes q n hj
/-- a search: from b on, n places -/
theorem zw_ff {ρ : Type} {body : Int32 → Option (Int32 ⊕ ρ)} {Q : ρ → Prop} (b n : Nat) (p : Nat → Bool)
    (hend : zw (body (nI (b + n))) (fun r => ∃ z, r = .inr z ∧ (ff p n = n → Q z)))
    (hit : ∀ k, k < n → p k = true → zw (body (nI (b + k))) (fun r => ∃ z, r = .inr z ∧ (ff p n = k → Q z)))
    (miss : ∀ k, k < n → p k = false → body (nI (b + k)) = some (.inl (nI (b + k + 1)))) : zw (zlp body (nI b)) Q := by
  refine zw_lp (fun x m => ∃ k, x = nI (b + k) ∧ k ≤ ff p n ∧ m = n - k) ?_ n ⟨0, rfl, Nat.zero_le _, rfl⟩
  rintro x m ⟨k, rfl, hk, rfl⟩
  have hl := ff_le p n
  by_cases hkn : k < n
  · cases hp : p k with
    | true =>
      obtain ⟨r, e, z, rfl, h⟩ := hit k hkn hp
      refine ⟨_, e, h ?_⟩
      by_cases hh : k < ff p n
      · have := ff_no p n k hh
        rw [hp] at this; cases this
      · omega
    | false =>
      refine ⟨_, miss k hkn hp, n - (k + 1), by omega, k + 1, rfl, ?_, rfl⟩
      by_cases hh : k = ff p n
      · have := ff_yes p n (by omega)
        rw [← hh, hp] at this; cases this
      · omega
  · obtain ⟨r, e, z, rfl, h⟩ := hend
    have : k = n := by omega
    subst this
    exact ⟨_, e, h (by omega)⟩
