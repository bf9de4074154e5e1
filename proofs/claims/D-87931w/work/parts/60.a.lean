/-! bits; what stands at a place of a row (the model's look) -/
set_option maxRecDepth 100000
theorem nI_and (a b : Nat) : nI a &&& nI b = nI (a &&& b) := by
  apply Int32.toBitVec_inj.mp
  show (BitVec.ofNat 32 a) &&& (BitVec.ofNat 32 b) = BitVec.ofNat 32 (a &&& b)
  exact BitVec.ofNat_and.symm
theorem nI_or (a b : Nat) : nI a ||| nI b = nI (a ||| b) := by
  apply Int32.toBitVec_inj.mp
  show (BitVec.ofNat 32 a) ||| (BitVec.ofNat 32 b) = BitVec.ofNat 32 (a ||| b)
  exact BitVec.ofNat_or.symm
theorem lN_or (a b : Nat) : lN a ||| lN b = lN (a ||| b) := by
  apply Int64.toBitVec_inj.mp
  show (BitVec.ofNat 64 a) ||| (BitVec.ofNat 64 b) = BitVec.ofNat 64 (a ||| b)
  exact BitVec.ofNat_or.symm
theorem lN_and (a b : Nat) : lN a &&& lN b = lN (a &&& b) := by
  apply Int64.toBitVec_inj.mp
  show (BitVec.ofNat 64 a) &&& (BitVec.ofNat 64 b) = BitVec.ofNat 64 (a &&& b)
  exact BitVec.ofNat_and.symm
theorem or_add {k b : Nat} (a : Nat) (h : b < 2 ^ k) : (a * 2 ^ k) ||| b = a * 2 ^ k + b := by rw [Nat.mul_comm, ← Nat.two_pow_add_eq_or_of_lt h]
theorem or_add' {k b : Nat} (a : Nat) (h : b < 2 ^ k) : b ||| (a * 2 ^ k) = a * 2 ^ k + b := by rw [Nat.or_comm, or_add a h]
/-- a shift by k -/
theorem shlI {n k : Nat} (hk : k < 32) (h : n * 2 ^ k < 2 ^ 32) : nI n <<< (nI k &&& 31) = nI (n * 2 ^ k) := by
  refine pk_shlN _ k ?_ h
  have : ∀ k, k < 32 → ((nI k &&& 31).toBitVec.smod 32).toNat = k := by decide +kernel
  exact this k hk
theorem shrI {n k : Nat} (hk : k < 32) (h : n < 2 ^ 31) : nI n >>> (nI k &&& 31) = nI (n / 2 ^ k) := by
  refine pk_shrN h _ k ?_
  have : ∀ k, k < 32 → ((nI k &&& 31).toBitVec.smod 32).toNat = k := by decide +kernel
  exact this k hk
theorem and31 {n : Nat} (h : n < 32) : (nI n &&& 31) = nI n := by
  have : ∀ k, k < 32 → (nI k &&& 31) = nI k := by decide +kernel
  exact this n h
theorem and255 {n : Nat} (h : n < 2 ^ 31) : nI n &&& 255 = nI (n % 256) := by
  have := pk_andN (n := n) (m := 255) (by omega) 8 (by decide)
  exact this
theorem and63 {n : Nat} (h : n < 2 ^ 31) : nI n &&& 63 = nI (n % 64) := by
  have := pk_andN (n := n) (m := 63) (by omega) 6 (by decide)
  exact this
theorem unit_hi {a b : Nat} (ha : a < 256) (hb : b < 256) : (nI a <<< ((8 : Int32) &&& 31)) ||| nI b = nI (a * 256 + b) := by
  rw [show (8 : Int32) = nI 8 from rfl, shlI (by omega) (by omega), nI_or, or_add (k := 8) a (by omega)]
theorem unit_lo {a b : Nat} (ha : a < 256) (hb : b < 256) : nI a ||| (nI b <<< ((8 : Int32) &&& 31)) = nI (b * 256 + a) := by
  rw [show (8 : Int32) = nI 8 from rfl, shlI (by omega) (by omega), nI_or, or_add' (k := 8) b (by omega)]
/-! what bytes are, in a form of all points -/
def bt (l : List Nat) (k : Nat) : Nat := l.getD k 0
def isB (l : List Nat) : Prop := ∀ k, k < l.length → bt l k < 256
theorem isB.b {l : List Nat} (h : isB l) (k : Nat) : bt l k < 256 := by
  by_cases hk : k < l.length
  · exact h k hk
  · unfold bt
    rw [List.getD_eq_getElem?_getD, List.getElem?_eq_none (by omega)]
    decide
def fLen (b : Nat) : Nat := if b < 128 then 1 else if b < 194 then 0 else if b < 224 then 2 else if b < 240 then 3 else if b < 245 then 4 else 0
def fSec (a b : Nat) : Prop := (if a = 224 then 160 else if a = 240 then 144 else 128) ≤ b ∧ b ≤ (if a = 237 then 159 else if a = 244 then 143 else 191)
def fFine (l : List Nat) (n : Nat) : Prop := (2 ≤ n → fSec (bt l 0) (bt l 1)) ∧ (3 ≤ n → 128 ≤ bt l 2 ∧ bt l 2 ≤ 191) ∧ (4 ≤ n → 128 ≤ bt l 3 ∧ bt l 3 ≤ 191)
def fPt (l : List Nat) (n : Nat) : Nat := if n = 1 then bt l 0 else if n = 2 then bt l 0 % 32 * 64 + bt l 1 % 64 else if n = 3 then (bt l 0 % 16 * 64 + bt l 1 % 64) * 64 + bt l 2 % 64 else ((bt l 0 % 8 * 64 + bt l 1 % 64) * 64 + bt l 2 % 64) * 64 + bt l 3 % 64
/-- one to four bytes a point: 0 nothing, 1 the beginning of something, 2 so many bytes and their point -/
noncomputable def gLkF (l : List Nat) : Nat × Nat × Nat := if l.length = 0 then (1, 0, 0) else if fLen (bt l 0) = 0 then (0, 0, 0) else @ite _ (fFine l (min l.length (fLen (bt l 0)))) (Classical.propDecidable _) (if fLen (bt l 0) ≤ l.length then (2, fLen (bt l 0), fPt l (fLen (bt l 0))) else (1, 0, 0)) (0, 0, 0)
/-- units: low byte first (0), high byte first (1) -/
def uAt (hi : Nat) (l : List Nat) (k : Nat) : Nat := if hi = 0 then bt l (k + 1) * 256 + bt l k else bt l k * 256 + bt l (k + 1)
abbrev isHi (u : Nat) : Prop := 55296 ≤ u ∧ u ≤ 56319
abbrev isLo (u : Nat) : Prop := 56320 ≤ u ∧ u ≤ 57343
noncomputable def gLkW (hi : Nat) (l : List Nat) : Nat × Nat × Nat := @ite _ (l.length < 1) (Classical.propDecidable _) (1, 0, 0) (@ite _ (hi ≠ 0 ∧ 220 ≤ bt l 0 ∧ bt l 0 ≤ 223) (Classical.propDecidable _) (0, 0, 0) (if l.length < 2 then (1, 0, 0) else @ite _ (isLo (uAt hi l 0)) (Classical.propDecidable _) (0, 0, 0) (@ite _ (isHi (uAt hi l 0)) (Classical.propDecidable _)
  (if l.length < 3 then (1, 0, 0) else if hi = 0 ∧ l.length < 4 then (1, 0, 0) else @ite _ (hi ≠ 0 ∧ ¬ (220 ≤ bt l 2 ∧ bt l 2 ≤ 223)) (Classical.propDecidable _) (0, 0, 0) (if l.length < 4 then (1, 0, 0) else @ite _ (isLo (uAt hi l 2)) (Classical.propDecidable _) (2, 4, 65536 + (uAt hi l 0 - 55296) * 1024 + (uAt hi l 2 - 56320)) (0, 0, 0)))
  (2, 2, uAt hi l 0))))
/-! the model's side -/
theorem mc_in {x : Nat} {a b : Nat} (ha : a < 2 ^ 31) (hb : b < 2 ^ 31) (hx : x < 2 ^ 31) : fX9_in (nI x) (nI a) (nI b) = some (if a ≤ x ∧ x ≤ b then 1 else 0) := by
  unfold fX9_in
  simp only [nI_ltI hx ha, nI_ltI hb hx]
  by_cases h1 : x < a
  · rw [if_pos h1, if_neg (by omega)]
  · rw [if_neg h1]
    by_cases h2 : b < x
    · rw [if_pos h2, if_neg (by omega)]
    · rw [if_neg h2, if_pos (by omega)]
theorem mc_lo {x : Nat} (hx : x < 2 ^ 31) : fX9_isLow (nI x) = some (if 56320 ≤ x ∧ x ≤ 57343 then 1 else 0) := by
  unfold fX9_isLow
  rw [show fX9_in (nI x) 56320 57343 = _ from mc_in (a := 56320) (b := 57343) (by omega) (by omega) hx]
  split
  · exact zck_pos (Or.inr rfl)
  · exact zck_pos (Or.inl rfl)
theorem mc_hi {x : Nat} (hx : x < 2 ^ 31) : fX9_isHigh (nI x) = some (if 55296 ≤ x ∧ x ≤ 56319 then 1 else 0) := by
  unfold fX9_isHigh
  rw [show fX9_in (nI x) 55296 56319 = _ from mc_in (a := 55296) (b := 56319) (by omega) (by omega) hx]
  split
  · exact zck_pos (Or.inr rfl)
  · exact zck_pos (Or.inl rfl)
/-- a row r of which the bytes l stand from at on -/
def rAt (h : zH) (r at' : Nat) (l : List Nat) : Prop := (zT h r).1 = 100 ∧ at' + l.length ≤ (zT h r).2 ∧ (zT h r).2 < 2 ^ 30 ∧ (∀ i, i < l.length → zI h r (at' + i) = nI (bt l i)) ∧ isB l
theorem rAt.ar {h : zH} {r at' k : Nat} {l : List Nat} (m : rAt h r at' l) (hk : k < l.length) : zAr h r (nI (at' + k)) := ⟨m.1, vin (by have := m.2.1; omega) (by have := m.2.2.1; omega)⟩
/-- what look says -/
def lkQ (h : zH) (p : Nat) (s : Nat × Nat × Nat) (r : Int32 × zH) : Prop := r.1 = nI s.1 ∧ (s.1 = 2 → zI r.2 92 40 = nI s.2.1 ∧ zI r.2 92 41 = nI s.2.2) ∧ (s.1 = 3 → zI r.2 92 42 = nI (10 * p + s.2.1)) ∧ fr (fun a j => a = 92 ∧ 40 ≤ j ∧ j ≤ 42) h r.2
theorem lkQ_no {h : zH} {p c : Nat} {v : Int32} (hc : c ≠ 2 ∧ c ≠ 3) (hv : v = nI c) : lkQ h p (c, 0, 0) (v, h) := ⟨hv, fun e => absurd e hc.1, fun e => absurd e hc.2, fr.refl _ _⟩
theorem lkQ_hit {h : zH} {p a b : Nat} {x y : Int32} (hx : x = nI a) (hy : y = nI b) : lkQ h p (2, a, b) (2, zsI (zsI h 92 40 x) 92 41 y) := by
  refine ⟨rfl, fun _ => ⟨?_, ?_⟩, fun e => absurd e (by show ¬ (2 : Nat) = 3; omega), ((fr.refl _ h).sI (by omega) _).sI (by omega) _⟩
  · show zI (zsI (zsI h 92 40 x) 92 41 y) 92 40 = nI a
    rw [eI, if_neg (by omega), eI, if_pos ⟨rfl, rfl⟩, hx]
  · show zI (zsI (zsI h 92 40 x) 92 41 y) 92 41 = nI b
    rw [eI, if_pos ⟨rfl, rfl⟩, hy]
theorem uAt_lt {l : List Nat} (h : isB l) (hi k : Nat) : uAt hi l k < 65536 := by
  have h1 := h.b k
  have h2 := h.b (k + 1)
  unfold uAt
  split <;> omega
theorem ff_top {p : Nat → Bool} {n : Nat} : ff p n = n ↔ ∀ i, i < n → p i = false := ⟨fun e i hi => ff_no p n i (by omega), fun h => ff_eq (Nat.le_refl _) h (fun q => absurd q (Nat.lt_irrefl _))⟩
theorem eIs (h : zH) (a k : Nat) (v : Int32) : zI (zsI h a k v) a k = v := by rw [eI, if_pos ⟨rfl, rfl⟩]
theorem ff_s {p : Nat → Bool} {i : Nat} : ff p (i + 1) < i + 1 ↔ ff p i < i ∨ p i = true := by
  have := ff_le p i
  show (if ff p i < i then ff p i else if p i then i else i + 1) < i + 1 ↔ _
  by_cases h : ff p i < i
  · rw [if_pos h]; exact ⟨fun _ => Or.inl h, fun _ => by omega⟩
  · rw [if_neg h]
    cases p i with
    | true => simp
    | false => simp; omega
theorem ff_hit {p : Nat → Bool} {i n : Nat} (h : ff p i = i) (hp : p i = true) (hi : i < n) : ff p n = i := ff_eq (by omega) (fun j hj => ff_no p i j (by omega)) (fun _ => hp)
theorem ff_n {p : Nat → Bool} {i : Nat} (h : ff p i = i) (hp : p i = false) : ff p (i + 1) = i + 1 := by
  show (if ff p i < i then ff p i else if p i then i else i + 1) = i + 1
  rw [if_neg (by omega), hp]
  rfl
