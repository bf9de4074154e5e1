/-! send: the model -/
set_option maxRecDepth 100000
def catN (F : Nat → List Nat) : Nat → List Nat
  | 0 => []
  | n + 1 => catN F n ++ F n
def bCat (n v i : Nat) : List Nat := catN (fun k => [v / 2 ^ (8 * (n - 1 - k)) % 256]) i
theorem bCat_len (n v : Nat) : ∀ i, (bCat n v i).length = i
  | 0 => rfl
  | i + 1 => by
    show (bCat n v i ++ [_]).length = _
    rw [List.length_append, bCat_len n v i]
    rfl
/-- an entry, a shift as bytes -/
def entL (g : gP) (k : Nat) : List Nat := [g 4 k, g 5 k] ++ bCat (g 5 k) (g 6 k) (g 5 k) ++ bCat 3 (g 7 k) 3 ++ [g 8 k]
def shL (g : gP) (k : Nat) : List Nat := [g 9 k, g 10 k, g 11 k, g 12 k]
def gSnd0 (g : gP) : List Nat := [g 2 0] ++ catN (entL g) (g 2 0) ++ [g 3 0] ++ catN (shL g) (g 3 0)
/-- bytes of a number are put -/
theorem m_sndB {h : zH} {c e n v st pd f : Nat} {o : List Nat} (hc : c = 7 ∨ c = 8) (he : e < 1100) (hn : n ≤ 3) (hv : v < 2 ^ 31) (ev : zI h (92 + c) e = nI v) (r : RD h 119 st pd o f) (ok : obOk h 119) (hl : o.length + n ≤ 6400) : zw (zlp (fun s : zH × Int32 => if s.2 < 0 then (some (.inr s.1) : Option ((zH × Int32) ⊕ zH)) else (zck (vp_in (nI e) 1100) (zb1 (fX9_put s.1 92 (((zI s.1 (92 + c) (nI e).toNatClampNeg) >>> (((8 : Int32) * s.2) &&& 31)) &&& 255)) (fun h_24 => some (.inl ((h_24, s.2 + (-1)))))))) (h, nI n - 1)) (fun h' => RD h' 119 st pd (o ++ bCat n v n) f ∧ fr (fun a j => a = 119 ∨ a = 92 ∧ j = 37) h h') := by
  have x1 : nI n - 1 = nI n + (-1) := Int32.sub_eq_add_neg _ _
  rw [x1]
  refine zw_for (fun i s => s.2 = nI (n - i) + (-1) ∧ RD s.1 119 st pd (o ++ bCat n v i) f ∧ fr (fun a j => a = 119 ∨ a = 92 ∧ j = 37) h s.1) n ?_ ⟨rfl, by show RD h 119 st pd (o ++ []) f; rw [List.append_nil]; exact r, fr.refl _ _⟩
  rintro i ⟨h1, x⟩ hi ⟨e2, R, fq⟩
  dsimp only at e2 R fq ⊢
  subst e2
  by_cases q : i = n
  · subst q
    rw [Nat.sub_self, show nI 0 + (-1) = (-1 : Int32) from by decide, if_pos neg1, zw_some]
    exact ⟨R, fq⟩
  · obtain ⟨m, hm⟩ : ∃ m, n - i = m + 1 := ⟨n - i - 1, by omega⟩
    have d := Nat.div_le_self v (2 ^ (8 * m))
    rw [hm, pk_m1, if_neg (nI_pos (by omega)), zw_ck, nI_clamp (by omega), show zI h1 (92 + c) e = nI v from (fq.I (by omega)).trans ev, show (8 : Int32) = nI 8 from rfl, pk_mul, shrI (by omega) hv, and255 (by omega), zw_b1]
    refine ⟨vin he (by omega), (m_put R (obOk_fr fq ok) ?_).mono ?_⟩
    · rw [fq.T, ok.2, List.length_append, bCat_len]
      show o.length + i < 6400
      omega
    · rintro h2 ⟨R2, f2⟩
      rw [zw_some]
      refine ⟨by omega, ?_, ?_, fq.trans f2⟩
      · show nI m + (-1) = _
        rw [show n - (i + 1) = m from by omega]
      · rw [List.append_assoc] at R2
        have : bCat n v (i + 1) = bCat n v i ++ [v / 2 ^ (8 * m) % 256] := by
          show bCat n v i ++ [v / 2 ^ (8 * (n - 1 - i)) % 256] = _
          rw [show n - 1 - i = m from by omega]
        rw [this]
        exact R2
