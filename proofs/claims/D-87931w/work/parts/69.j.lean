/-! the exchange's match in tables -/
set_option maxRecDepth 100000
/-- no text begins another one of its state -/
def gPf (g : gP) : Prop := ∀ i j, iOk g i → iOk g j → i ≠ j → iSt g i = iSt g j → ¬ iKey g i / 2 ^ (8 * (3 - min (iLn g i) (iLn g j))) = iKey g j / 2 ^ (8 * (3 - min (iLn g i) (iLn g j)))
theorem iWf {g : gP} (sm : gSm g) {i : Nat} (h : iOk g i) : 1 ≤ iLn g i ∧ iLn g i ≤ 3 ∧ iBy g i < 2 ^ (8 * iLn g i) ∧ iSt g i < 4 ∧ i < 110 := by
  have s2 := sm.2.2.1
  have s3 := sm.2.2.2.1
  unfold iLn iBy iSt
  rcases h with h | h
  · have := sm.2.2.2.2.1 i h
    rw [if_pos (by omega), if_pos (by omega), if_pos (by omega)]
    exact ⟨this.2.1, this.2.2.1, this.2.2.2.1, this.1, by omega⟩
  · have := sm.2.2.2.2.2 _ h.2
    rw [if_neg (by omega), if_neg (by omega), if_neg (by omega)]
    exact ⟨by omega, by omega, this.2.1, this.1, by omega⟩
def iF (g : gP) (l : List Nat) (i : Nat) : Prop := iLn g i ≤ l.length ∧ num l (iLn g i) = iBy g i
def iBg (g : gP) (l : List Nat) (i : Nat) : Prop := l.length < iLn g i ∧ num l l.length = iBy g i / 2 ^ (8 * (iLn g i - l.length))
/-- three bytes of a row, 255 for what isn't there -/
def xb (l : List Nat) (k : Nat) : Nat := if k < l.length then bt l k else 255
def xK (l : List Nat) : Nat := (xb l 0 * 256 + xb l 1) * 256 + xb l 2
theorem xb_lt {l : List Nat} (hB : isB l) (k : Nat) : xb l k < 256 := by
  unfold xb
  split
  · exact hB.b k
  · omega
theorem iF_key {g : gP} {l : List Nat} {i : Nat} (hB : isB l) (hl : 1 ≤ l.length) (w : 1 ≤ iLn g i ∧ iLn g i ≤ 3 ∧ iBy g i < 2 ^ (8 * iLn g i)) (h : iF g l i) : iKey g i ≤ xK l ∧ iKey g i / 2 ^ (8 * (3 - iLn g i)) = xK l / 2 ^ (8 * (3 - iLn g i)) := by
  have b0 := xb_lt hB 0
  have b1 := xb_lt hB 1
  have b2 := xb_lt hB 2
  obtain ⟨w1, w2, w3⟩ := w
  obtain ⟨h1, h2⟩ := h
  unfold iKey xK
  unfold num at h2
  generalize iLn g i = L at *
  generalize iBy g i = B at *
  have e : L = 1 ∨ L = 2 ∨ L = 3 := by omega
  rcases e with rfl | rfl | rfl <;> simp only [Nat.reduceSub, Nat.reduceMul, Nat.reducePow, Nat.reduceEqDiff, if_true, if_false] at w3 h2 ⊢
  · have x0 : xb l 0 = bt l 0 := if_pos (by omega)
    omega
  · have x0 : xb l 0 = bt l 0 := if_pos (by omega)
    have x1 : xb l 1 = bt l 1 := if_pos (by omega)
    omega
  · have x0 : xb l 0 = bt l 0 := if_pos (by omega)
    have x1 : xb l 1 = bt l 1 := if_pos (by omega)
    have x2 : xb l 2 = bt l 2 := if_pos (by omega)
    omega
theorem iB_key {g : gP} {l : List Nat} {i : Nat} (hB : isB l) (hl : 1 ≤ l.length) (w : 1 ≤ iLn g i ∧ iLn g i ≤ 3 ∧ iBy g i < 2 ^ (8 * iLn g i)) (h : iBg g l i) : iKey g i ≤ xK l ∧ iKey g i / 2 ^ (8 * (3 - l.length)) = xK l / 2 ^ (8 * (3 - l.length)) := by
  have b0 := xb_lt hB 0
  have b1 := xb_lt hB 1
  have b2 := xb_lt hB 2
  obtain ⟨w1, w2, w3⟩ := w
  obtain ⟨h1, h2⟩ := h
  unfold iKey xK
  unfold num at h2
  generalize iLn g i = L at *
  generalize iBy g i = B at *
  have e : L = 2 ∨ L = 3 := by omega
  have e2 : l.length = 1 ∨ l.length = 2 := by omega
  have x0 : xb l 0 = bt l 0 := if_pos (by omega)
  rcases e with rfl | rfl <;> rcases e2 with e2 | e2 <;> (try omega) <;> rw [e2] at h2 ⊢ <;> simp only [Nat.reduceSub, Nat.reduceMul, Nat.reducePow, Nat.reduceEqDiff, if_true, if_false] at w3 h2 ⊢
  · have x1 : xb l 1 = 255 := if_neg (by omega)
    omega
  · have x1 : xb l 1 = 255 := if_neg (by omega)
    have x2 : xb l 2 = 255 := if_neg (by omega)
    omega
  · have x1 : xb l 1 = bt l 1 := if_pos (by omega)
    have x2 : xb l 2 = 255 := if_neg (by omega)
    omega
/-- an item that agrees with the row as far as both go -/
theorem key_i {g : gP} {l : List Nat} {i : Nat} (hB : isB l) (hl : 1 ≤ l.length) (w : 1 ≤ iLn g i ∧ iLn g i ≤ 3 ∧ iBy g i < 2 ^ (8 * iLn g i)) (h : iKey g i / 2 ^ (8 * (3 - min (iLn g i) l.length)) = xK l / 2 ^ (8 * (3 - min (iLn g i) l.length))) : (iLn g i ≤ l.length → iF g l i) ∧ (l.length < iLn g i → iBg g l i) := by
  have b0 := xb_lt hB 0
  have b1 := xb_lt hB 1
  have b2 := xb_lt hB 2
  obtain ⟨w1, w2, w3⟩ := w
  unfold iF iBg
  unfold iKey xK at h
  unfold num
  generalize iLn g i = L at *
  generalize iBy g i = B at *
  have x0 : xb l 0 = bt l 0 := if_pos (by omega)
  refine ⟨fun hL => ⟨hL, ?_⟩, fun hL => ⟨hL, ?_⟩⟩
  · rw [Nat.min_eq_left hL] at h
    have e : L = 1 ∨ L = 2 ∨ L = 3 := by omega
    rcases e with rfl | rfl | rfl <;> simp only [Nat.reduceSub, Nat.reduceMul, Nat.reducePow, Nat.reduceEqDiff, if_true, if_false] at w3 h ⊢
    · omega
    · have x1 : xb l 1 = bt l 1 := if_pos (by omega)
      omega
    · have x1 : xb l 1 = bt l 1 := if_pos (by omega)
      have x2 : xb l 2 = bt l 2 := if_pos (by omega)
      omega
  · rw [Nat.min_eq_right (by omega)] at h
    have e : L = 2 ∨ L = 3 := by omega
    have e2 : l.length = 1 ∨ l.length = 2 := by omega
    rcases e with rfl | rfl <;> rcases e2 with e2 | e2 <;> (try omega) <;> rw [e2] at h ⊢ <;> simp only [Nat.reduceSub, Nat.reduceMul, Nat.reducePow, Nat.reduceEqDiff, if_true, if_false] at w3 h ⊢
    · have x1 : xb l 1 = 255 := if_neg (by omega)
      omega
    · have x1 : xb l 1 = 255 := if_neg (by omega)
      omega
    · have x1 : xb l 1 = bt l 1 := if_pos (by omega)
      omega
/-- the last item that isn't behind the row's key is what is looked for, if anything is -/
theorem last_F {g : gP} {l : List Nat} {c t : Nat} (sm : gSm g) (pf : gPf g) (hB : isB l) (hl : 1 ≤ l.length) (hc : iOk g c) (ht : iOk g t) (hst : iSt g c = iSt g t) (hct : iKey g c ≤ iKey g t) (htK : iKey g t ≤ xK l) (hF : iF g l c) : c = t := by
  have wc := iWf sm hc
  have wt := iWf sm ht
  obtain ⟨k1, k2⟩ := iF_key hB hl ⟨wc.1, wc.2.1, wc.2.2.1⟩ hF
  by_cases e : c = t
  · exact e
  refine absurd ?_ (pf c t hc ht e hst)
  have d1 : iKey g c / 2 ^ (8 * (3 - iLn g c)) ≤ iKey g t / 2 ^ (8 * (3 - iLn g c)) := Nat.div_le_div_right hct
  have d2 : iKey g t / 2 ^ (8 * (3 - iLn g c)) ≤ xK l / 2 ^ (8 * (3 - iLn g c)) := Nat.div_le_div_right htK
  have d3 : iKey g c / 2 ^ (8 * (3 - iLn g c)) = iKey g t / 2 ^ (8 * (3 - iLn g c)) := by omega
  have e1 : 2 ^ (8 * (3 - min (iLn g c) (iLn g t))) = 2 ^ (8 * (3 - iLn g c)) * 2 ^ (8 * (iLn g c - min (iLn g c) (iLn g t))) := by
    rw [← Nat.pow_add]; congr 1; omega
  rw [e1, ← Nat.div_div_eq_div_mul, ← Nat.div_div_eq_div_mul, d3]
theorem last_B {g : gP} {l : List Nat} {c t : Nat} (sm : gSm g) (pf : gPf g) (hB : isB l) (hl : 1 ≤ l.length) (hc : iOk g c) (ht : iOk g t) (hst : iSt g c = iSt g t) (hct : iKey g c ≤ iKey g t) (htK : iKey g t ≤ xK l) (hb : iBg g l c) : iBg g l t := by
  have wc := iWf sm hc
  have wt := iWf sm ht
  obtain ⟨k1, k2⟩ := iB_key hB hl ⟨wc.1, wc.2.1, wc.2.2.1⟩ hb
  have d1 : iKey g c / 2 ^ (8 * (3 - l.length)) ≤ iKey g t / 2 ^ (8 * (3 - l.length)) := Nat.div_le_div_right hct
  have d2 : iKey g t / 2 ^ (8 * (3 - l.length)) ≤ xK l / 2 ^ (8 * (3 - l.length)) := Nat.div_le_div_right htK
  have d3 : iKey g c / 2 ^ (8 * (3 - l.length)) = iKey g t / 2 ^ (8 * (3 - l.length)) := by omega
  have hlc := hb.1
  by_cases hlt : l.length < iLn g t
  · refine (key_i hB hl ⟨wt.1, wt.2.1, wt.2.2.1⟩ ?_).2 hlt
    rw [Nat.min_eq_right (by omega)]
    omega
  · have e : c ≠ t := fun q => by rw [q] at hlc; exact hlt hlc
    refine absurd ?_ (pf c t hc ht e hst)
    rw [Nat.min_eq_right (by omega)]
    have e1 : 2 ^ (8 * (3 - iLn g t)) = 2 ^ (8 * (3 - l.length)) * 2 ^ (8 * (l.length - iLn g t)) := by
      rw [← Nat.pow_add]; congr 1; omega
    rw [e1, ← Nat.div_div_eq_div_mul, ← Nat.div_div_eq_div_mul, d3]
section XMT
variable {h : zH} {a : Nat} {g : gP}
theorem x_keyOf (tb : xTab h a g) (sm : gSm g) {i : Nat} (hi : iOk g i) : fX3_keyOf h a (nI i) = some (nI (iKey g i)) ∧ fX3_lengthOf h a (nI i) = some (nI (iLn g i)) ∧ iKey g i < 2 ^ 24 := by
  have wi := iWf sm hi
  have hk : iKey g i < 2 ^ 24 := by
    unfold iKey
    have e : iLn g i = 1 ∨ iLn g i = 2 ∨ iLn g i = 3 := by omega
    have w3 := wi.2.2.1
    rcases e with e | e | e <;> rw [e] at w3 ⊢ <;> simp only [Nat.reduceSub, Nat.reduceMul, Nat.reducePow] at w3 ⊢ <;> omega
  refine ⟨?_, ?_, hk⟩
  · unfold fX3_keyOf
    rcases hi with hi | hi
    · have s2 := sm.2.2.1
      have we := sm.2.2.2.2.1 i hi
      have wl := we.lt
      rw [if_neg (by rw [li, nI_leI (by omega) (by omega)]; omega), zck_pos (vin (by omega) (by omega)), zck_pos (vin (by omega) (by omega)), nI_clamp (by omega), tb.e2 hi, tb.e1 hi, show (3 : Int32) = nI 3 from rfl, pk_sub wl.2.1, show (8 : Int32) = nI 8 from rfl, pk_mul]
      have e : iKey g i = g 6 i * 2 ^ (8 * (3 - g 5 i)) := by
        unfold iKey iBy iLn; rw [if_pos (by omega), if_pos (by omega)]
      rw [shlI (by omega) (by rw [← e]; omega), e]
    · have s3 := sm.2.2.2.1
      have ws := sm.2.2.2.2.2 _ hi.2
      rw [if_pos (by rw [li, nI_leI (by omega) (by omega)]; omega), show (100 : Int32) = nI 100 from rfl, pk_sub (by omega), zck_pos (vin (by omega) (by omega)), nI_clamp (by omega), tb.s1 hi.2, show (16 : Int32) = nI 16 from rfl, shlI (by omega) (by have := ws.2.1; omega)]
      unfold iKey iBy iLn
      rw [if_neg (by omega), if_neg (by omega)]
  · unfold fX3_lengthOf iLn
    rcases hi with hi | hi
    · have s2 := sm.2.2.1
      rw [if_neg (by rw [li, nI_leI (by omega) (by omega)]; omega), zck_pos (vin (by omega) (by omega)), nI_clamp (by omega), tb.e1 hi, if_pos (by omega)]
    · have s3 := sm.2.2.2.1
      rw [if_pos (by rw [li, nI_leI (by omega) (by omega)]; omega), if_neg (by omega)]
      rfl
theorem x_key {r : Nat} {l : List Nat} {x2 x5 : Int32} (m : rAt h r 0 l) (hl4 : l.length ≤ 4) : zlp (fun s => fX3_match_L18 h a x2 r (nI l.length) x5 s.1 s.2) (0, 0) = some (nI (xK l)) := by
  have hB := m.2.2.2.2
  have b0 := xb_lt hB 0
  have b1 := xb_lt hB 1
  have b2 := xb_lt hB 2
  have go : ∀ k v, k < 3 → v < 2 ^ 16 → fX3_match_L18 h a x2 r (nI l.length) x5 (nI v) (nI k) = some (.inl (nI (v * 256 + xb l k), nI (k + 1))) := by
    intro k v hk hv
    have bk := xb_lt hB k
    unfold fX3_match_L18
    rw [if_neg (by rw [li, nI_leI (by omega) (by omega)]; omega)]
    by_cases hkl : k < l.length
    · have c := m.c hkl
      have e : xb l k = bt l k := if_pos hkl
      rw [if_neg (by rw [nI_leI (by omega) (by omega)]; omega), zck_pos c.2, nI_clamp (by omega), c.1, show (8 : Int32) = nI 8 from rfl, shlI (by omega) (by omega), nI_or, or_add (k := 8) v (by rw [← e]; exact bk), nI_1, e]
    · have e : xb l k = 255 := if_neg hkl
      rw [if_pos (by rw [nI_leI (by omega) (by omega)]; omega), show (8 : Int32) = nI 8 from rfl, shlI (by omega) (by omega), show (255 : Int32) = nI 255 from rfl, nI_or, or_add (k := 8) v (by omega), nI_1, e]
  rw [show ((0, 0) : Int32 × Int32) = (nI 0, nI 0) from rfl, zlp_inl (by exact go 0 0 (by omega) (by omega)), zlp_inl (by exact go 1 _ (by omega) (by omega)), zlp_inl (by exact go 2 _ (by omega) (by omega)), zlp_inr (r := nI (xK l))]
  show fX3_match_L18 h a x2 r (nI l.length) x5 (nI (((0 * 256 + xb l 0) * 256 + xb l 1) * 256 + xb l 2)) (nI 3) = _
  unfold fX3_match_L18 xK
  rw [if_pos (by exact Int32.le_refl _), Nat.zero_mul, Nat.zero_add]
end XMT
