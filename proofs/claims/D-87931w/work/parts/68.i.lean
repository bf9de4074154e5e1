/-! the exchange's match: Few; all forms -/
set_option maxRecDepth 100000
theorem x_flen {b : Nat} (hb : b < 256) : fX13_length (nI b) = some (nI (fLen b)) := by
  unfold fX13_length fLen
  simp (disch := omega) only [li, nI_leI]
  by_cases h1 : b < 128
  · rw [if_neg (by omega), if_pos h1]
  rw [if_pos (by omega), if_neg h1]
  by_cases h2 : b < 194
  · rw [if_neg (by omega), if_pos h2]
  rw [if_pos (by omega), if_neg h2]
  by_cases h3 : b < 224
  · rw [if_neg (by omega), if_pos h3]
  rw [if_pos (by omega), if_neg h3]
  by_cases h4 : b < 240
  · rw [if_neg (by omega), if_pos h4]
  rw [if_pos (by omega), if_neg h4]
  by_cases h5 : b < 245
  · rw [if_neg (by omega), if_pos h5]
  rw [if_pos (by omega), if_neg h5]
theorem x_fsec {a b : Nat} (ha : a < 256) (hb : b < 256) : fX13_isSecond (nI a) (nI b) = some (@ite _ (fSec a b) (Classical.propDecidable _) 1 0) := by
  have j : ∀ k, k < 256 → fX13_isSecond_J29 (nI a) (nI b) (nI k) = some (if k ≤ b ∧ b ≤ (if a = 237 then 159 else if a = 244 then 143 else 191) then 1 else 0) := by
    intro k hk
    have z1 : ∀ (c : Prop) [Decidable c], zb1 (some (if c then (1 : Int32) else 0)) (fun v => zck (zB v) (some v)) = some (if c then (1 : Int32) else 0) := by
      intro c _
      rw [zb1_s]
      split
      · exact zck_pos (Or.inr rfl)
      · exact zck_pos (Or.inl rfl)
    unfold fX13_isSecond_J29
    by_cases e1 : a = 237
    · rw [if_pos (by rw [e1]; rfl), if_pos e1, show fX0_in (nI b) (nI k) 159 = _ from xc_in (a := k) (b := 159) (by omega) (by omega) (by omega)]
      exact z1 _
    rw [if_neg (by rw [li, nI_eq (by omega) (by omega)]; exact e1), if_neg e1]
    by_cases e2 : a = 244
    · rw [if_pos (by rw [e2]; rfl), if_pos e2, show fX0_in (nI b) (nI k) 143 = _ from xc_in (a := k) (b := 143) (by omega) (by omega) (by omega)]
      exact z1 _
    rw [if_neg (by rw [li, nI_eq (by omega) (by omega)]; exact e2), if_neg e2, show fX0_in (nI b) (nI k) 191 = _ from xc_in (a := k) (b := 191) (by omega) (by omega) (by omega)]
    exact z1 _
  unfold fX13_isSecond fSec
  by_cases e1 : a = 224
  · rw [if_pos (by rw [e1]; rfl), show fX13_isSecond_J29 (nI a) (nI b) 160 = _ from j 160 (by omega)]
    simp only [e1, if_true]
    try rfl
  rw [if_neg (by rw [li, nI_eq (by omega) (by omega)]; exact e1)]
  by_cases e2 : a = 240
  · rw [if_pos (by rw [e2]; rfl), show fX13_isSecond_J29 (nI a) (nI b) 144 = _ from j 144 (by omega)]
    simp only [e1, e2, if_true, if_false]
    try rfl
  rw [if_neg (by rw [li, nI_eq (by omega) (by omega)]; exact e2), show fX13_isSecond_J29 (nI a) (nI b) 128 = _ from j 128 (by omega)]
  simp only [e1, e2, if_false]
theorem x_fine {h : zH} {r n : Nat} {l : List Nat} (m : rAt h r 0 l) (h1 : 1 ≤ n) (hn : n ≤ l.length) (hn4 : n ≤ 4) : fX13_isFine h r (nI n) = some (@ite _ (fFine l n) (Classical.propDecidable _) 1 0) := by
  have b0 := m.2.2.2.2.b 0
  have b1 := m.2.2.2.2.b 1
  have b2 := m.2.2.2.2.b 2
  have b3 := m.2.2.2.2.b 3
  have stop : ∀ (v : Int32) k, zB v → n ≤ k → k < 6 → fX13_isFine_L25 h r (nI n) v (nI k) = some (.inr v) := fun v k hv hk hk6 => by
    unfold fX13_isFine_L25
    rw [if_pos (by rw [nI_leI (by omega) (by omega)]; exact hk), zck_pos hv]
  have stop0 : ∀ k, k < 6 → fX13_isFine_L25 h r (nI n) 0 (nI k) = some (.inr 0) := fun k hk6 => by
    by_cases hk : n ≤ k
    · exact stop 0 k (Or.inl rfl) hk hk6
    · unfold fX13_isFine_L25
      rw [if_neg (by rw [nI_leI (by omega) (by omega)]; exact hk), if_pos rfl, zck_pos (show zB 0 from Or.inl rfl)]
  have go : ∀ k, k < n → fX13_isFine_L25 h r (nI n) 1 (nI k) = some (.inl ((if 128 ≤ bt l k ∧ bt l k ≤ 191 then 1 else 0), nI (k + 1))) := fun k hk => by
    have c := m.c (k := k) (by omega)
    have := m.2.2.2.2.b k
    unfold fX13_isFine_L25
    rw [if_neg (by rw [nI_leI (by omega) (by omega)]; omega), if_neg (by decide), zck_pos c.2, nI_clamp (by omega), c.1, show fX0_in (nI (bt l k)) 128 191 = _ from xc_in (a := 128) (b := 191) (by omega) (by omega) (by omega), zb1_s, nI_1]
  have rest : fX13_isFine_J17 h r (nI n) = some (@ite _ ((3 ≤ n → 128 ≤ bt l 2 ∧ bt l 2 ≤ 191) ∧ (4 ≤ n → 128 ≤ bt l 3 ∧ bt l 3 ≤ 191)) (Classical.propDecidable _) 1 0) := by
    unfold fX13_isFine_J17 fX13_isFine_J22
    by_cases n2 : n ≤ 2
    · rw [zlp_inr (by exact stop 1 2 (Or.inr rfl) n2 (by omega)), if_pos ⟨fun q => by omega, fun q => by omega⟩]
    rw [zlp_inl (by exact go 2 (by omega))]
    by_cases q2 : 128 ≤ bt l 2 ∧ bt l 2 ≤ 191
    case neg =>
      rw [if_neg q2, zlp_inr (by exact stop0 3 (by omega)), if_neg (fun w => q2 (w.1 (by omega)))]
    rw [if_pos q2]
    by_cases n3 : n ≤ 3
    · rw [zlp_inr (by exact stop 1 3 (Or.inr rfl) n3 (by omega)), if_pos ⟨fun _ => q2, fun q => by omega⟩]
    rw [zlp_inl (by exact go 3 (by omega))]
    by_cases q3 : 128 ≤ bt l 3 ∧ bt l 3 ≤ 191
    · rw [if_pos q3, zlp_inr (by exact stop 1 4 (Or.inr rfl) (by omega) (by omega)), if_pos ⟨fun _ => q2, fun _ => q3⟩]
    · rw [if_neg q3, zlp_inr (by exact stop0 4 (by omega)), if_neg (fun w => q3 (w.2 (by omega)))]
  unfold fX13_isFine
  by_cases n1 : n < 2
  · rw [if_pos (by rw [li, nI_ltI (by omega) (by omega)]; exact n1), rest]
    congr 1
    by_cases q : fFine l n
    · rw [if_pos q, if_pos q.2]
    · rw [if_neg q, if_neg]
      exact fun w => q ⟨fun e => by omega, w.1, w.2⟩
  have c0 := m.c (k := 0) (by omega)
  have c1 := m.c (k := 1) (by omega)
  rw [if_neg (by rw [li, nI_ltI (by omega) (by omega)]; exact n1), zck_pos (show zAr h r 0 from c0.2), zck_pos (show zAr h r 1 from c1.2), show zI h r (0 : Int32).toNatClampNeg = _ from c0.1, show zI h r (1 : Int32).toNatClampNeg = _ from c1.1, x_fsec b0 b1, zb1_s]
  by_cases q1 : fSec (bt l 0) (bt l 1)
  · rw [if_pos q1, if_neg (show ¬ (1 : Int32) = 0 by decide), rest]
    congr 1
    by_cases q : fFine l n
    · rw [if_pos q, if_pos q.2]
    · rw [if_neg q, if_neg]
      exact fun w => q ⟨fun e => q1, w.1, w.2⟩
  · rw [if_neg q1, if_pos (rfl : (0 : Int32) = 0)]
    unfold fX13_isFine_J22
    rw [zlp_inr (by exact stop0 2 (by omega)), if_neg (fun w => q1 (w.1 (by omega)))]
noncomputable def wFw (l : List Nat) (k : Nat) : Option Nat := @ite _ (fLen (bt l 0) = k ∧ fFine l k) (Classical.propDecidable _) (some (fPt l k)) none
theorem x_wholeF {h : zH} {a r k : Nat} {l : List Nat} (m : rAt h r 0 l) (h1 : 1 ≤ k) (hk : k ≤ l.length) (hk4 : k ≤ 4) : fX13_whole h a r (nI k) = some (wO (wFw l k)) := by
  have b0 := m.2.2.2.2.b 0
  have b1 := m.2.2.2.2.b 1
  have b2 := m.2.2.2.2.b 2
  have b3 := m.2.2.2.2.b 3
  have c0 := m.c (k := 0) (by omega)
  have hf4 : fLen (bt l 0) ≤ 4 := by unfold fLen; (repeat' split) <;> omega
  have stop : ∀ v k, k < 6 → fX13_whole_L47 h a r (nI k) v (nI k) = some (.inr v) := fun v k hk => by
    unfold fX13_whole_L47
    rw [if_pos (Int32.le_refl _)]
  have go : ∀ n v j, j < n → n ≤ k → v < 2 ^ 16 → fX13_whole_L47 h a r (nI n) (nI v) (nI j) = some (.inl (nI (v * 64 + bt l j % 64), nI (j + 1))) := fun n v j hj hn hv => by
    have c := m.c (k := j) (by omega)
    have := m.2.2.2.2.b j
    unfold fX13_whole_L47
    rw [if_neg (by rw [nI_leI (by omega) (by omega)]; omega), zck_pos c.2, nI_clamp (by omega), c.1, show (6 : Int32) = nI 6 from rfl, shlI (by omega) (by omega), and63 (by omega), nI_or, or_add (k := 6) v (by omega), nI_1]
  unfold fX13_whole wFw
  rw [zck_pos (show zAr h r 0 from c0.2), show zI h r (0 : Int32).toNatClampNeg = _ from c0.1, x_flen b0, zb1_s]
  by_cases e : fLen (bt l 0) = k
  case neg =>
    rw [if_neg (by rw [nI_eq (by omega) (by omega)]; exact e), if_neg (fun q => e q.1)]
    rfl
  rw [if_pos (by rw [e]), x_fine m h1 hk hk4, zb1_s]
  by_cases q : fFine l k
  case neg =>
    rw [if_neg q, if_pos (rfl : (0 : Int32) = 0), if_neg (fun w => q w.2)]
    rfl
  rw [if_pos q, if_neg (show ¬ (1 : Int32) = 0 by decide), if_pos (show fLen (bt l 0) = k ∧ fFine l k from ⟨e, q⟩)]
  have e4 : k = 1 ∨ k = 2 ∨ k = 3 ∨ k = 4 := by omega
  rcases e4 with rfl | rfl | rfl | rfl
  · rw [if_pos nI1, zck_pos (show zAr h r 0 from c0.2)]
    unfold fX13_whole_J43
    rw [zlp_inr (by exact stop _ 1 (by omega))]
    rfl
  · rw [if_neg (by decide), zck_pos (show zAr h r 0 from c0.2), show (1 : Int32) <<< ((7 : Int32) - nI 2 &&& 31) - 1 = 31 from by decide +kernel, show nI (bt l 0) &&& 31 = nI (bt l 0 % 32) from pk_andN (by omega) 5 (by decide)]
    unfold fX13_whole_J43
    rw [zlp_inl (by exact go 2 _ 1 (by omega) (by omega) (by omega)), zlp_inr (by exact stop _ 2 (by omega))]
    rfl
  · rw [if_neg (by decide), zck_pos (show zAr h r 0 from c0.2), show (1 : Int32) <<< ((7 : Int32) - nI 3 &&& 31) - 1 = 15 from by decide +kernel, show nI (bt l 0) &&& 15 = nI (bt l 0 % 16) from pk_andN (by omega) 4 (by decide)]
    unfold fX13_whole_J43
    rw [zlp_inl (by exact go 3 _ 1 (by omega) (by omega) (by omega)), zlp_inl (by exact go 3 _ 2 (by omega) (by omega) (by omega)), zlp_inr (by exact stop _ 3 (by omega))]
    rfl
  · rw [if_neg (by decide), zck_pos (show zAr h r 0 from c0.2), show (1 : Int32) <<< ((7 : Int32) - nI 4 &&& 31) - 1 = 7 from by decide +kernel, show nI (bt l 0) &&& 7 = nI (bt l 0 % 8) from pk_andN (by omega) 3 (by decide)]
    unfold fX13_whole_J43
    rw [zlp_inl (by exact go 4 _ 1 (by omega) (by omega) (by omega)), zlp_inl (by exact go 4 _ 2 (by omega) (by omega) (by omega)), zlp_inl (by exact go 4 _ 3 (by omega) (by omega) (by omega)), zlp_inr (by exact stop _ 4 (by omega))]
    rfl
theorem x_beginsF {h : zH} {a r : Nat} {l : List Nat} (m : rAt h r 0 l) (h1 : 1 ≤ l.length) (h4 : l.length < 4) : fX13_begins h a r (nI l.length) = some (@ite _ (l.length < fLen (bt l 0) ∧ fFine l l.length) (Classical.propDecidable _) 1 0) := by
  have b0 := m.2.2.2.2.b 0
  have c0 := m.c (k := 0) (by omega)
  have hf4 : fLen (bt l 0) ≤ 4 := by unfold fLen; (repeat' split) <;> omega
  unfold fX13_begins
  rw [zck_pos (show zAr h r 0 from c0.2), show zI h r (0 : Int32).toNatClampNeg = _ from c0.1, x_flen b0, zb1_s]
  by_cases e : fLen (bt l 0) ≤ l.length
  · rw [if_pos (by rw [nI_leI (by omega) (by omega)]; exact e), if_neg]
    rintro ⟨w, -⟩
    omega
  rw [if_neg (by rw [nI_leI (by omega) (by omega)]; exact e), x_fine m h1 (Nat.le_refl _) (by omega), zb1_s]
  by_cases q : fFine l l.length
  · rw [if_pos q, if_neg (show ¬ (1 : Int32) = 0 by decide), if_pos ⟨by omega, q⟩]
  · rw [if_neg q, if_pos (rfl : (0 : Int32) = 0), if_neg (fun w => q w.2)]
theorem fPt_lt {l : List Nat} (hB : isB l) (k : Nat) : fPt l k < 2 ^ 31 := by
  have b0 := hB.b 0
  have b1 := hB.b 1
  have b2 := hB.b 2
  have b3 := hB.b 3
  unfold fPt
  (repeat' split) <;> omega
/-- a form's match -/
theorem x_matchForm {h : zH} {b r : Nat} {g : gP} {l : List Nat} {st pd : Nat} (m : rAt h r 0 l) (hk : 1 ≤ g 0 0 ∧ g 0 0 ≤ 3) (ob : zOb (7 + g 0 0) h b) (hl : 1 ≤ l.length) (hl4 : l.length ≤ 4) (hrb : r ≠ b) (x1 x2 : Int32) : zw (fV_Page_match h b x1 x2 r (nI l.length)) (xkQ h b g (gLk g st pd l)) := by
  have hB := m.2.2.2.2
  have t := ob.t
  have u1 := uAt_lt hB 1 0
  have u2 := uAt_lt hB 1 2
  have u3 := uAt_lt hB 0 0
  have u4 := uAt_lt hB 0 2
  have mm : ∀ h', fr (fun c j => c = b ∧ j = 0) h h' → rAt h' r 0 l := fun h' f => rAt_fr f (fun j q => hrb q.1) m
  have wv : ∀ hi k v, uAt hi l 0 < 65536 → uAt hi l 2 < 65536 → wWh hi l k = some v → v < 2 ^ 31 := by
    intro hi k v h1 h2 hv
    unfold wWh at hv
    split at hv
    · split at hv
      · cases hv
      · rw [← Option.some.inj hv]; omega
    · split at hv
      · split at hv
        · rw [← Option.some.inj hv]; omega
        · cases hv
      · cases hv
  have e3 : g 0 0 = 1 ∨ g 0 0 = 2 ∨ g 0 0 = 3 := by omega
  unfold fV_Page_match gLk
  rcases e3 with e | e | e <;> rw [e] at t ob
  · rw [t, if_neg (by decide), if_pos rfl, zck_pos ob, e]
    simp only [show ¬ (1 : Nat) = 3 by omega, show ¬ (1 : Nat) = 0 by omega, if_false, if_true]
    exact x_form (whole := fX11_whole) (begins := fX11_begins) (wh := wWh 1 l) hl hl4 (fun k v => wv 1 k v u1 u2) (fun h' k f q1 q2 => (x_whole (mm h' f) q1 q2 (by omega)).1) (fun h' f q => x_begins11 (mm h' f) hl q) (fun k v q1 q2 q3 q4 => gLkW_1 (by omega) hB q1 q2 q3 q4) (fun q => gLkW_2 (by omega) hB hl hl4 q (by simp only [show ¬ (1 : Nat) = 0 by omega, if_false]))
  · rw [t, if_neg (by decide), if_neg (by decide), if_pos rfl, zck_pos ob, e]
    simp only [show ¬ (2 : Nat) = 3 by omega, show ¬ (2 : Nat) = 0 by omega, show ¬ (2 : Nat) = 1 by omega, if_false]
    unfold fX12_match
    rw [zw_b2]
    exact (x_form (whole := fX11_whole_9) (begins := fX12_begins) (wh := wWh 0 l) hl hl4 (fun k v => wv 0 k v u3 u4) (fun h' k f q1 q2 => (x_whole (mm h' f) q1 q2 (by omega)).2) (fun h' f q => x_begins12 (mm h' f) hl q) (fun k v q1 q2 q3 q4 => gLkW_1 (by omega) hB q1 q2 q3 q4) (fun q => gLkW_2 (by omega) hB hl hl4 q (by simp only [if_true]))).mono fun y hy => ⟨_, rfl, hy⟩
  · rw [t, if_neg (by decide), if_neg (by decide), if_neg (by decide), if_pos rfl, zck_pos ob, e]
    simp only [if_true]
    have hf4 : fLen (bt l 0) ≤ 4 := by unfold fLen; (repeat' split) <;> omega
    refine x_form (whole := fX13_whole) (begins := fX13_begins) (wh := wFw l) hl hl4 (fun k v hv => ?_) (fun h' k f q1 q2 => x_wholeF (mm h' f) q1 q2 (by omega)) (fun h' f q => x_beginsF (mm h' f) hl q) (fun k v q1 q2 q3 q4 => ?_) (fun q => ?_)
    · unfold wFw at hv
      split at hv
      · rw [← Option.some.inj hv]; exact fPt_lt hB k
      · cases hv
    · unfold wFw at q4
      split at q4
      · rename_i w
        rw [← Option.some.inj q4]
        unfold gLkF
        rw [if_neg (by omega), w.1, if_neg (by omega), Nat.min_eq_right q2, if_pos w.2, if_pos q2]
      · cases q4
    · unfold gLkF
      rw [if_neg (by omega)]
      by_cases f0 : fLen (bt l 0) = 0
      · rw [if_pos f0, if_neg]
        rintro ⟨-, w, -⟩
        omega
      rw [if_neg f0]
      by_cases fl : fLen (bt l 0) ≤ l.length
      · rw [Nat.min_eq_right fl]
        have := q (fLen (bt l 0)) (by omega) fl
        unfold wFw at this
        by_cases ff : fFine l (fLen (bt l 0))
        · rw [if_pos ⟨rfl, ff⟩] at this; cases this
        · rw [if_neg ff, if_neg]
          rintro ⟨-, w, -⟩
          omega
      · rw [Nat.min_eq_left (by omega)]
        by_cases ff : fFine l l.length
        · rw [if_pos ff, if_neg fl, if_pos ⟨by omega, by omega, ff⟩]
        · rw [if_neg ff, if_neg]
          rintro ⟨-, -, w⟩
          exact ff w
