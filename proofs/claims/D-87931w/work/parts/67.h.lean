/-! the exchange's match in forms of all points -/
set_option maxRecDepth 100000
/-- what match says -/
def xkQ (h : zH) (a : Nat) (g : gP) (S : Nat × Nat × Nat) (r : Int32 × zH) : Prop := (S.1 = 2 → r.1 = nI S.2.1 ∧ zI r.2 a 0 = nI S.2.2) ∧ (S.1 = 3 → r.1 = 1 ∧ zI r.2 a 0 = -1 ∧ zI r.2 a 1 = nI (g 11 S.2.1) ∧ zI r.2 a 2 = nI (g 12 S.2.1)) ∧ (S.1 = 1 → r.1 = -1) ∧ (S.1 = 0 → r.1 = 0) ∧ fr (fun b j => b = a ∧ j ≤ 2) h r.2
def wO (o : Option Nat) : Int32 := match o with
  | none => -1
  | some v => nI v
theorem x_form {whole begins : zH → Nat → Nat → Int32 → Option Int32} {h : zH} {a r n : Nat} {g : gP} {wh : Nat → Option Nat} {bg : Prop} {S : Nat × Nat × Nat} (hn1 : 1 ≤ n) (hn : n ≤ 4)
    (hv : ∀ k v, wh k = some v → v < 2 ^ 31)
    (hw : ∀ h' k, fr (fun b j => b = a ∧ j = 0) h h' → 1 ≤ k → k ≤ n → whole h' a r (nI k) = some (wO (wh k)))
    (hb : ∀ h', fr (fun b j => b = a ∧ j = 0) h h' → n < 4 → begins h' a r (nI n) = some (@ite _ bg (Classical.propDecidable _) 1 0))
    (hS1 : ∀ k v, 1 ≤ k → k ≤ n → (∀ j, 1 ≤ j → j < k → wh j = none) → wh k = some v → S = (2, k, v))
    (hS2 : (∀ k, 1 ≤ k → k ≤ n → wh k = none) → S = @ite _ (n < 4 ∧ bg) (Classical.propDecidable _) (1, 0, 0) (0, 0, 0)) :
    zw (zlx (zlp (fun s => if nI n < s.2 then (some (.inr (.inl s.1))) else (if 4 < s.2 then (some (.inr (.inl s.1))) else (zb1 (whole s.1 a r s.2) (fun v_2 => zlet (zsI s.1 a 0 v_2) (fun h_4 => if (zI h_4 a 0) < 0 then (some (.inl ((h_4, s.2 + 1)))) else (some (.inr (.inr ((s.2, h_4))))))))) ) (h, 1)) (fun t_5 => if 4 ≤ nI n then (some ((0, t_5))) else (zb1 (begins t_5 a r (nI n)) (fun v_7 => if v_7 = 0 then (some ((0, t_5))) else (some (((-1), t_5))))))) (xkQ h a g S) := by
  rw [zw_lx]
  refine zw_for (fun i s => s.2 = nI (i + 1) ∧ fr (fun b j => b = a ∧ j = 0) h s.1 ∧ ∀ j, 1 ≤ j → j ≤ i → wh j = none) n ?_ ⟨rfl, fr.refl _ _, fun j h1 h2 => by omega⟩
  rintro i ⟨h1, x⟩ hi ⟨rfl, f, hno⟩
  dsimp only at f ⊢
  by_cases hin : i = n
  · subst hin
    rw [if_pos (by rw [nI_ltI (by omega) (by omega)]; omega), zw_some]
    show zw _ _
    have e := hS2 (fun k h1 h2 => hno k h1 h2)
    by_cases h4 : i < 4
    · rw [if_neg (by rw [li, nI_leI (by omega) (by omega)]; omega), hb h1 f h4, zb1_s]
      by_cases hbg : bg
      · rw [if_pos ⟨h4, hbg⟩] at e
        rw [if_pos hbg, if_neg (by decide), zw_some, e]
        exact ⟨fun q => absurd q (by show ¬ (1 : Nat) = 2; omega), fun q => absurd q (by show ¬ (1 : Nat) = 3; omega), fun _ => rfl, fun q => absurd q (by show ¬ (1 : Nat) = 0; omega), f.mono fun b j hw => by omega⟩
      · rw [if_neg (fun q => hbg q.2)] at e
        rw [if_neg hbg, if_pos rfl, zw_some, e]
        exact ⟨fun q => absurd q (by show ¬ (0 : Nat) = 2; omega), fun q => absurd q (by show ¬ (0 : Nat) = 3; omega), fun q => absurd q (by show ¬ (0 : Nat) = 1; omega), fun _ => rfl, f.mono fun b j hw => by omega⟩
    · rw [if_neg (fun q => h4 q.1)] at e
      rw [if_pos (by rw [li, nI_leI (by omega) (by omega)]; omega), zw_some, e]
      exact ⟨fun q => absurd q (by show ¬ (0 : Nat) = 2; omega), fun q => absurd q (by show ¬ (0 : Nat) = 3; omega), fun q => absurd q (by show ¬ (0 : Nat) = 1; omega), fun _ => rfl, f.mono fun b j hw => by omega⟩
  · rw [if_neg (by rw [nI_ltI (by omega) (by omega)]; omega), if_neg (by rw [li, nI_ltI (by omega) (by omega)]; omega), hw h1 (i + 1) f (by omega) (by omega), zb1_s, zw_let, eIs]
    cases hk : wh (i + 1) with
    | none =>
      rw [if_pos (show wO none < 0 from neg1), zw_some, nI_1]
      refine ⟨by omega, rfl, f.sI ⟨rfl, rfl⟩ _, fun j h1 h2 => ?_⟩
      by_cases e : j = i + 1
      · subst e; exact hk
      · exact hno j h1 (by omega)
    | some v =>
      have hv' := hv _ _ hk
      rw [if_neg (show ¬ wO (some v) < 0 from nI_pos hv'), zw_some]
      have e := hS1 (i + 1) v (by omega) (by omega) (fun j h1 h2 => hno j h1 (by omega)) hk
      rw [e]
      refine ⟨fun _ => ⟨rfl, ?_⟩, fun q => absurd q (by show ¬ (2 : Nat) = 3; omega), fun q => absurd q (by show ¬ (2 : Nat) = 1; omega), fun q => absurd q (by show ¬ (2 : Nat) = 0; omega), (f.sI ⟨rfl, rfl⟩ _).mono fun b j hw => by omega⟩
      show zI (zsI h1 a 0 (nI v)) a 0 = nI v
      rw [eIs]
/-! numbers of the exchange -/
theorem xc_in {x a b : Nat} (ha : a < 2 ^ 31) (hb : b < 2 ^ 31) (hx : x < 2 ^ 31) : fX0_in (nI x) (nI a) (nI b) = some (if a ≤ x ∧ x ≤ b then 1 else 0) := mc_in ha hb hx
theorem xc_lo {x : Nat} (hx : x < 2 ^ 31) : fX0_isLow (nI x) = some (if 56320 ≤ x ∧ x ≤ 57343 then 1 else 0) := mc_lo hx
theorem xc_hi {x : Nat} (hx : x < 2 ^ 31) : fX0_isHigh (nI x) = some (if 55296 ≤ x ∧ x ≤ 56319 then 1 else 0) := mc_hi hx
theorem xc_pt {x : Nat} (hx : x < 2 ^ 31) : fX0_isPoint (nI x) = some (if x ≤ 1114111 ∧ ¬ (55296 ≤ x ∧ x ≤ 57343) then 1 else 0) := by
  rcases pt_cases (nI x) with ⟨-, -, e⟩ | ⟨k, hk, e1, -, -, e⟩
  · rw [e]
    by_cases q : x ≤ 1114111 ∧ ¬ (55296 ≤ x ∧ x ≤ 57343)
    · rw [pt_eq, pt_1 q] at e
      cases e
    · rw [if_neg q]
  · have hk1 := hk.1
    rw [nI_eq hx (by omega)] at e1
    subst e1
    rw [e, if_pos (show x ≤ 1114111 ∧ ¬ (55296 ≤ x ∧ x ≤ 57343) from hk)]
theorem xc_pair {u v : Nat} (hu : 55296 ≤ u ∧ u ≤ 56319) (hv : 56320 ≤ v ∧ v ≤ 57343) : fX0_paired (nI u) (nI v) = some (nI (65536 + (u - 55296) * 1024 + (v - 56320))) := by
  unfold fX0_paired
  rw [show (55296 : Int32) = nI 55296 from rfl, show (10 : Int32) = nI 10 from rfl, show (65536 : Int32) = nI 65536 from rfl, show (56320 : Int32) = nI 56320 from rfl, pk_sub (by omega), shlI (by omega) (by omega), nI_add, nI_add, pk_sub (by omega)]
  exact congrArg some (congrArg nI (by omega))
/-- bytes of a row, by place -/
theorem rAt.c {h : zH} {r k : Nat} {l : List Nat} (m : rAt h r 0 l) (hk : k < l.length) : zI h r k = nI (bt l k) ∧ zAr h r (nI k) := by
  have h1 := m.2.2.2.1 k hk
  have h2 := m.ar hk
  rw [Nat.zero_add] at h1 h2
  exact ⟨h1, h2⟩
theorem rAt_fr {W : Nat → Nat → Prop} {h h' : zH} {r at' : Nat} {l : List Nat} (f : fr W h h') (hw : ∀ j, ¬ W r j) (m : rAt h r at' l) : rAt h' r at' l := ⟨by rw [f.T]; exact m.1, by rw [f.T]; exact m.2.1, by rw [f.T]; exact m.2.2.1, fun i hi => (f.I (hw _)).trans (m.2.2.2.1 i hi), m.2.2.2.2⟩
theorem x_unit11 {h : zH} {a r k : Nat} {l : List Nat} (m : rAt h r 0 l) (hk : k + 1 < l.length) (hk4 : k < 4) : fX11_unit h a r (nI k) = some (nI (uAt 1 l k)) := by
  have c0 := m.c (k := k) (by omega)
  have c1 := m.c (k := k + 1) hk
  have hL := m.2.2.1
  unfold fX11_unit
  rw [nI_1, zck_pos c0.2, zck_pos c1.2, nI_clamp (by omega), nI_clamp (by omega), c0.1, c1.1, unit_hi (m.2.2.2.2.b _) (m.2.2.2.2.b _)]
  rfl
theorem x_unit12 {h : zH} {a r k : Nat} {l : List Nat} (m : rAt h r 0 l) (hk : k + 1 < l.length) (hk4 : k < 4) : fX12_unit h a r (nI k) = some (nI (uAt 0 l k)) := by
  have c0 := m.c (k := k) (by omega)
  have c1 := m.c (k := k + 1) hk
  unfold fX12_unit
  rw [nI_1, zck_pos c1.2, zck_pos c0.2, nI_clamp (by omega), nI_clamp (by omega), c0.1, c1.1, unit_hi (m.2.2.2.2.b _) (m.2.2.2.2.b _)]
  rfl
/-- the point that just k bytes are -/
noncomputable def wWh (hi : Nat) (l : List Nat) (k : Nat) : Option Nat := if k = 2 then (@ite _ (isHi (uAt hi l 0) ∨ isLo (uAt hi l 0)) (Classical.propDecidable _) none (some (uAt hi l 0))) else if k = 4 then (@ite _ (isHi (uAt hi l 0) ∧ isLo (uAt hi l 2)) (Classical.propDecidable _) (some (65536 + (uAt hi l 0 - 55296) * 1024 + (uAt hi l 2 - 56320))) none) else none
theorem x_whole {h : zH} {a r k : Nat} {l : List Nat} (m : rAt h r 0 l) (hk1 : 1 ≤ k) (hk : k ≤ l.length) (hk4 : k ≤ 4) : fX11_whole h a r (nI k) = some (wO (wWh 1 l k)) ∧ fX11_whole_9 h a r (nI k) = some (wO (wWh 0 l k)) := by
  have u1 := uAt_lt m.2.2.2.2 1 0
  have u2 := uAt_lt m.2.2.2.2 1 2
  have u3 := uAt_lt m.2.2.2.2 0 0
  have u4 := uAt_lt m.2.2.2.2 0 2
  have gen : ∀ (U : Int32 → Option Int32) (hi : Nat), uAt hi l 0 < 65536 → uAt hi l 2 < 65536 → (1 < l.length → U 0 = some (nI (uAt hi l 0))) → (3 < l.length → U 2 = some (nI (uAt hi l 2))) → (if (nI k - nI k / 2 * 2) = 1 then (some ((-1))) else (zb1 (U 0) (fun v_2 => if nI k = 2 then (zb1 (fX0_isPoint v_2) (fun v_17 => if v_17 = 0 then (some ((-1))) else (some v_2))) else (zb1 (U 2) (fun v_5 => zb1 (fX0_isHigh v_2) (fun v_8 => if v_8 = 0 then (some ((-1))) else (zb1 (fX0_isLow v_5) (fun v_11 => if v_11 = 0 then (some ((-1))) else (zb1 (fX0_paired v_2 v_5) (fun v_14 => some v_14)))))))))) = some (wO (wWh hi l k)) := by
    intro U hi h0 h2 hU0 hU2
    unfold wWh
    have e : k = 1 ∨ k = 2 ∨ k = 3 ∨ k = 4 := by omega
    rcases e with rfl | rfl | rfl | rfl
    · rw [if_pos (by decide +kernel)]; rfl
    · rw [if_neg (by decide +kernel), hU0 (by omega), zb1_s, if_pos (by rfl), xc_pt (by omega), zb1_s, if_pos rfl]
      by_cases q : isHi (uAt hi l 0) ∨ isLo (uAt hi l 0)
      · rw [if_pos q, if_neg (show ¬ (uAt hi l 0 ≤ 1114111 ∧ ¬ (55296 ≤ uAt hi l 0 ∧ uAt hi l 0 ≤ 57343)) by unfold isHi isLo at q; omega), if_pos (rfl : (0 : Int32) = 0)]; rfl
      · rw [if_neg q, if_pos (show uAt hi l 0 ≤ 1114111 ∧ ¬ (55296 ≤ uAt hi l 0 ∧ uAt hi l 0 ≤ 57343) by unfold isHi isLo at q; omega), if_neg (show ¬ (1 : Int32) = 0 by decide)]; rfl
    · rw [if_pos (by decide +kernel)]; rfl
    · rw [if_neg (by decide +kernel), hU0 (by omega), zb1_s, if_neg (by decide), hU2 (by omega), zb1_s, xc_hi (by omega), zb1_s, if_neg (show ¬ (4 : Nat) = 2 by omega), if_pos (rfl : (4 : Nat) = 4)]
      by_cases q1 : isHi (uAt hi l 0)
      · rw [if_pos q1, if_neg (by decide), xc_lo (by omega), zb1_s]
        by_cases q2 : isLo (uAt hi l 2)
        · rw [if_pos q2, if_neg (by decide), xc_pair q1 q2, zb1_s, if_pos ⟨q1, q2⟩]; rfl
        · rw [if_neg q2, if_pos rfl, if_neg (fun q => q2 q.2)]; rfl
      · rw [if_neg q1, if_pos rfl, if_neg (fun q => q1 q.1)]; rfl
  exact ⟨gen (fun i => fX11_unit h a r i) 1 u1 u2 (fun q => x_unit11 (k := 0) m q (by omega)) (fun q => x_unit11 (k := 2) m q (by omega)), gen (fun i => fX12_unit h a r i) 0 u3 u4 (fun q => x_unit12 (k := 0) m q (by omega)) (fun q => x_unit12 (k := 2) m q (by omega))⟩
theorem x_begins11 {h : zH} {a r : Nat} {l : List Nat} (m : rAt h r 0 l) (h1 : 1 ≤ l.length) (h4 : l.length < 4) : fX11_begins h a r (nI l.length) = some (@ite _ (if l.length = 1 then ¬ (220 ≤ bt l 0 ∧ bt l 0 ≤ 223) else isHi (uAt 1 l 0) ∧ (l.length = 2 ∨ 220 ≤ bt l 2 ∧ bt l 2 ≤ 223)) (Classical.propDecidable _) 1 0) := by
  have u1 := uAt_lt m.2.2.2.2 1 0
  have c0 := m.c (k := 0) (by omega)
  have b0 := m.2.2.2.2.b 0
  have b2 := m.2.2.2.2.b 2
  unfold fX11_begins
  by_cases l1 : l.length = 1
  · rw [if_pos (by rw [l1]; rfl), zck_pos (show zAr h r 0 from c0.2), show zI h r (0 : Int32).toNatClampNeg = _ from c0.1, show fX0_in (nI (bt l 0)) 220 223 = _ from xc_in (a := 220) (b := 223) (by omega) (by omega) (by omega), zb1_s]
    by_cases q : 220 ≤ bt l 0 ∧ bt l 0 ≤ 223
    · rw [if_pos q, if_neg (by decide), if_neg]
      rw [if_pos l1]; exact fun w => w q
    · rw [if_neg q, if_pos rfl, if_pos]
      rw [if_pos l1]; exact q
  rw [if_neg (by rw [li, nI_eq (by omega) (by omega)]; exact l1), show fX11_unit h a r 0 = _ from x_unit11 (k := 0) m (by omega) (by omega), zb1_s, xc_hi (by omega), zb1_s]
  by_cases q1 : isHi (uAt 1 l 0)
  case neg =>
    rw [if_neg q1, if_pos rfl, if_neg]
    rw [if_neg l1]; exact fun w => q1 w.1
  rw [if_pos q1, if_neg (by decide)]
  by_cases l2 : l.length = 2
  · rw [if_pos (by rw [l2]; rfl), if_pos]
    rw [if_neg l1]; exact ⟨q1, Or.inl l2⟩
  have c2 := m.c (k := 2) (by omega)
  rw [if_neg (by rw [li, nI_eq (by omega) (by omega)]; exact l2), zck_pos (show zAr h r 2 from c2.2), show zI h r (2 : Int32).toNatClampNeg = _ from c2.1, show fX0_in (nI (bt l 2)) 220 223 = _ from xc_in (a := 220) (b := 223) (by omega) (by omega) (by omega), zb1_s]
  by_cases q : 220 ≤ bt l 2 ∧ bt l 2 ≤ 223
  · rw [if_pos q, if_neg (by decide), if_pos]
    rw [if_neg l1]; exact ⟨q1, Or.inr q⟩
  · rw [if_neg q, if_pos rfl, if_neg]
    rw [if_neg l1]; rintro ⟨-, w | w⟩
    · exact l2 w
    · exact q w
theorem x_begins12 {h : zH} {a r : Nat} {l : List Nat} (m : rAt h r 0 l) (h1 : 1 ≤ l.length) (h4 : l.length < 4) : fX12_begins h a r (nI l.length) = some (@ite _ (l.length = 1 ∨ isHi (uAt 0 l 0)) (Classical.propDecidable _) 1 0) := by
  have u1 := uAt_lt m.2.2.2.2 0 0
  unfold fX12_begins
  by_cases l1 : l.length = 1
  · rw [if_pos (by rw [l1]; rfl), if_pos (Or.inl l1)]
  rw [if_neg (by rw [li, nI_eq (by omega) (by omega)]; exact l1), show fX12_unit h a r 0 = _ from x_unit12 (k := 0) m (by omega) (by omega), zb1_s, xc_hi (by omega), zb1_s]
  by_cases q1 : isHi (uAt 0 l 0)
  · rw [if_pos q1, if_neg (by decide), if_pos (Or.inr q1)]
  · rw [if_neg q1, if_pos rfl, if_neg]
    rintro (w | w)
    · exact l1 w
    · exact q1 w
/-- both ways say the same of units -/
theorem gLkW_1 {hi : Nat} {l : List Nat} (hhi : hi ≤ 1) (hB : isB l) {k v : Nat} (h1 : 1 ≤ k) (hk : k ≤ l.length) (hno : ∀ j, 1 ≤ j → j < k → wWh hi l j = none) (hv : wWh hi l k = some v) : gLkW hi l = (2, k, v) := by
  have b0 := hB.b 0
  have b1 := hB.b 1
  have b2 := hB.b 2
  have b3 := hB.b 3
  have e0 : uAt hi l 0 = (if hi = 0 then bt l 1 * 256 + bt l 0 else bt l 0 * 256 + bt l 1) := rfl
  have e2 : uAt hi l 2 = (if hi = 0 then bt l 3 * 256 + bt l 2 else bt l 2 * 256 + bt l 3) := rfl
  have hkk : k = 2 ∨ k = 4 := by
    unfold wWh at hv
    by_cases k2 : k = 2
    · exact Or.inl k2
    rw [if_neg k2] at hv
    by_cases k4 : k = 4
    · exact Or.inr k4
    rw [if_neg k4] at hv
    cases hv
  unfold gLkW
  rcases hkk with rfl | rfl
  · unfold wWh at hv
    rw [if_pos rfl] at hv
    by_cases q : isHi (uAt hi l 0) ∨ isLo (uAt hi l 0)
    · rw [if_pos q] at hv; cases hv
    rw [if_neg q] at hv
    cases hv
    unfold isHi isLo at q
    rw [if_neg (by omega), if_neg (by rintro ⟨w1, w2⟩; rw [if_neg w1] at e0; omega), if_neg (by omega), if_neg (by unfold isLo; omega), if_neg (by unfold isHi; omega)]
  · unfold wWh at hv
    rw [if_neg (by omega), if_pos rfl] at hv
    by_cases q : isHi (uAt hi l 0) ∧ isLo (uAt hi l 2)
    case neg => rw [if_neg q] at hv; cases hv
    rw [if_pos q] at hv
    rw [← Option.some.inj hv]
    have q1 := q.1
    have q2 := q.2
    unfold isHi at q1
    unfold isLo at q2
    rw [if_neg (by omega), if_neg (by rintro ⟨w1, w2⟩; rw [if_neg w1] at e0; omega), if_neg (by omega), if_neg (by unfold isLo; omega), if_pos q.1, if_neg (by omega), if_neg (by omega), if_neg (by rintro ⟨w1, w2⟩; rw [if_neg w1] at e2; omega), if_neg (by omega), if_pos q.2]
theorem gLkW_2 {hi : Nat} {l : List Nat} (hhi : hi ≤ 1) (hB : isB l) (hl : 1 ≤ l.length) (hl4 : l.length ≤ 4) (hno : ∀ k, 1 ≤ k → k ≤ l.length → wWh hi l k = none) {bg : Prop} (hbg : bg ↔ if hi = 0 then l.length = 1 ∨ isHi (uAt 0 l 0) else if l.length = 1 then ¬ (220 ≤ bt l 0 ∧ bt l 0 ≤ 223) else isHi (uAt 1 l 0) ∧ (l.length = 2 ∨ 220 ≤ bt l 2 ∧ bt l 2 ≤ 223)) : gLkW hi l = @ite _ (l.length < 4 ∧ bg) (Classical.propDecidable _) (1, 0, 0) (0, 0, 0) := by
  have b0 := hB.b 0
  have b1 := hB.b 1
  have b2 := hB.b 2
  have b3 := hB.b 3
  have e0 : uAt 0 l 0 = bt l 1 * 256 + bt l 0 := rfl
  have e1 : uAt 1 l 0 = bt l 0 * 256 + bt l 1 := rfl
  have e2 : uAt 0 l 2 = bt l 3 * 256 + bt l 2 := rfl
  have e3 : uAt 1 l 2 = bt l 2 * 256 + bt l 3 := rfl
  have n2 : 2 ≤ l.length → isHi (uAt hi l 0) ∨ isLo (uAt hi l 0) := fun h2 => by
    have := hno 2 (by omega) h2
    unfold wWh at this
    rw [if_pos rfl] at this
    by_cases q : isHi (uAt hi l 0) ∨ isLo (uAt hi l 0)
    · exact q
    · rw [if_neg q] at this; cases this
  have n4 : 4 ≤ l.length → ¬ (isHi (uAt hi l 0) ∧ isLo (uAt hi l 2)) := fun h4 q => by
    have := hno 4 (by omega) h4
    unfold wWh at this
    rw [if_neg (by omega), if_pos rfl, if_pos q] at this
    cases this
  have h01 : hi = 0 ∨ hi = 1 := by omega
  unfold gLkW
  rw [if_neg (by omega)]
  rcases h01 with rfl | rfl
  · simp only [if_true] at hbg
    rw [if_neg (fun q => q.1 rfl)]
    by_cases l2 : l.length < 2
    · rw [if_pos l2, if_pos ⟨by omega, hbg.mpr (Or.inl (by omega))⟩]
    rw [if_neg l2]
    have n2' := n2 (by omega)
    by_cases q : isLo (uAt 0 l 0)
    · rw [if_pos q, if_neg]
      rintro ⟨-, w⟩
      rcases hbg.mp w with w | w
      · omega
      · unfold isHi at w; unfold isLo at q; omega
    have qh : isHi (uAt 0 l 0) := n2'.resolve_right q
    rw [if_neg q, if_pos qh]
    by_cases l3 : l.length < 3
    · rw [if_pos l3, if_pos ⟨by omega, hbg.mpr (Or.inr qh)⟩]
    rw [if_neg l3]
    by_cases l4 : l.length < 4
    · rw [if_pos ⟨rfl, l4⟩, if_pos ⟨l4, hbg.mpr (Or.inr qh)⟩]
    rw [if_neg (fun q => l4 q.2), if_neg (fun q => q.1 rfl), if_neg l4, if_neg (fun w => n4 (by omega) ⟨qh, w⟩), if_neg (fun w => l4 w.1)]
  · simp only [show ¬ (1 : Nat) = 0 by omega, if_false] at hbg
    by_cases q0 : 220 ≤ bt l 0 ∧ bt l 0 ≤ 223
    · rw [if_pos ⟨by omega, q0⟩, if_neg]
      rintro ⟨-, w⟩
      have := hbg.mp w
      by_cases l1 : l.length = 1
      · rw [if_pos l1] at this; exact this q0
      · rw [if_neg l1] at this
        have := this.1
        unfold isHi at this
        omega
    rw [if_neg (fun q => q0 q.2)]
    by_cases l2 : l.length < 2
    · rw [if_pos l2, if_pos ⟨by omega, hbg.mpr (by rw [if_pos (by omega)]; exact q0)⟩]
    rw [if_neg l2]
    have hl1 : ¬ l.length = 1 := by omega
    rw [if_neg hl1] at hbg
    have n2' := n2 (by omega)
    have qlo : ¬ isLo (uAt 1 l 0) := by unfold isLo; omega
    have qh : isHi (uAt 1 l 0) := n2'.resolve_right qlo
    rw [if_neg qlo, if_pos qh]
    by_cases l3 : l.length < 3
    · rw [if_pos l3, if_pos ⟨by omega, hbg.mpr ⟨qh, Or.inl (by omega)⟩⟩]
    rw [if_neg l3, if_neg (show ¬ ((1 : Nat) = 0 ∧ l.length < 4) from fun q => absurd q.1 (by omega))]
    by_cases q2 : 220 ≤ bt l 2 ∧ bt l 2 ≤ 223
    · rw [if_neg (fun q => q.2 q2)]
      by_cases l4 : l.length < 4
      · rw [if_pos l4, if_pos ⟨l4, hbg.mpr ⟨qh, Or.inr q2⟩⟩]
      · exact absurd ⟨qh, by show 56320 ≤ uAt 1 l 2 ∧ uAt 1 l 2 ≤ 57343; omega⟩ (n4 (by omega))
    · rw [if_pos ⟨by omega, q2⟩, if_neg]
      rintro ⟨-, w⟩
      rcases (hbg.mp w).2 with w | w
      · omega
      · exact q2 w
