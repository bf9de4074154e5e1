/-! THE GHOST STATE, and the model's cells (the model stands at 92) -/
set_option maxRecDepth 100000
/-- a page: columns 0 kind, 1 closed, 2 entries, 3 shifts (place 0); 4 state, 5 many, 6 bytes, 7 point, 8 preferred (entries); 9 state, 10 byte, 11 to, 12 sticky (shifts) -/
abbrev gP : Type := Nat → Nat → Nat
def isPt (v : Nat) : Prop := v ≤ 1114111 ∧ ¬ (55296 ≤ v ∧ v ≤ 57343)
def eWf (g : gP) (k : Nat) : Prop := g 4 k < 4 ∧ 1 ≤ g 5 k ∧ g 5 k ≤ 3 ∧ g 6 k < 2 ^ (8 * g 5 k) ∧ isPt (g 7 k) ∧ g 8 k ≤ 1
def sWf (g : gP) (k : Nat) : Prop := g 9 k < 4 ∧ g 10 k < 256 ∧ g 11 k < 4 ∧ g 9 k ≠ g 11 k ∧ g 12 k ≤ 1
theorem eWf.lt {g : gP} {k : Nat} (h : eWf g k) : g 4 k < 4 ∧ g 5 k ≤ 3 ∧ 1 ≤ g 5 k ∧ g 6 k < 2 ^ 24 ∧ g 7 k < 1114112 ∧ g 8 k ≤ 1 := by
  obtain ⟨h1, h2, h3, h4, h5, h6⟩ := h
  have : 2 ^ (8 * g 5 k) ≤ 2 ^ 24 := Nat.pow_le_pow_right (by decide) (by omega)
  unfold isPt at h5
  omega
/-- a page's numbers are small; no text stands twice -/
def gSm (g : gP) : Prop := g 0 0 ≤ 3 ∧ g 1 0 ≤ 1 ∧ g 2 0 ≤ 100 ∧ g 3 0 ≤ 10 ∧ (∀ k, k < g 2 0 → eWf g k) ∧ ∀ k, k < g 3 0 → sWf g k
/-- the cells of the page p of the model -/
def mPg (h : zH) (p : Nat) (g : gP) : Prop := (∀ c, c < 4 → zI h (93 + c) p = nI (g c 0)) ∧ (∀ c k, c < 5 → k < g 2 0 → zI h (97 + c) (100 * p + k) = nI (g (4 + c) k)) ∧ ∀ c k, c < 4 → k < g 3 0 → zI h (102 + c) (10 * p + k) = nI (g (9 + c) k)
section MPG
variable {h : zH} {p k : Nat} {g : gP}
theorem mPg.c0 (m : mPg h p g) : zI h 93 p = nI (g 0 0) := m.1 0 (by omega)
theorem mPg.c1 (m : mPg h p g) : zI h 94 p = nI (g 1 0) := m.1 1 (by omega)
theorem mPg.c2 (m : mPg h p g) : zI h 95 p = nI (g 2 0) := m.1 2 (by omega)
theorem mPg.c3 (m : mPg h p g) : zI h 96 p = nI (g 3 0) := m.1 3 (by omega)
theorem mPg.e0 (m : mPg h p g) (hk : k < g 2 0) : zI h 97 (100 * p + k) = nI (g 4 k) := m.2.1 0 k (by omega) hk
theorem mPg.e1 (m : mPg h p g) (hk : k < g 2 0) : zI h 98 (100 * p + k) = nI (g 5 k) := m.2.1 1 k (by omega) hk
theorem mPg.e2 (m : mPg h p g) (hk : k < g 2 0) : zI h 99 (100 * p + k) = nI (g 6 k) := m.2.1 2 k (by omega) hk
theorem mPg.e3 (m : mPg h p g) (hk : k < g 2 0) : zI h 100 (100 * p + k) = nI (g 7 k) := m.2.1 3 k (by omega) hk
theorem mPg.e4 (m : mPg h p g) (hk : k < g 2 0) : zI h 101 (100 * p + k) = nI (g 8 k) := m.2.1 4 k (by omega) hk
theorem mPg.s0 (m : mPg h p g) (hk : k < g 3 0) : zI h 102 (10 * p + k) = nI (g 9 k) := m.2.2 0 k (by omega) hk
theorem mPg.s1 (m : mPg h p g) (hk : k < g 3 0) : zI h 103 (10 * p + k) = nI (g 10 k) := m.2.2 1 k (by omega) hk
theorem mPg.s2 (m : mPg h p g) (hk : k < g 3 0) : zI h 104 (10 * p + k) = nI (g 11 k) := m.2.2 2 k (by omega) hk
theorem mPg.s3 (m : mPg h p g) (hk : k < g 3 0) : zI h 105 (10 * p + k) = nI (g 12 k) := m.2.2 3 k (by omega) hk
end MPG
/-- a machine: numbers 0 begun, 1 page, 2 writes, 3 rule, 4 state, 5 pending, 6 fed, 7 mode; what it keeps, what waits -/
abbrev gM : Type := (Nat → Nat) × List Nat × List Nat
/-- pages, bytes, units, result, signs, falls, machines, place, broken, findings -/
abbrev gZ : Type := (Nat × (Nat → gP)) × List Nat × List Nat × (Nat × List Nat) × (Nat × Nat) × (Nat × (Nat → List Nat)) × (Nat → gM) × Nat × (Nat × Nat × Nat) × Nat
abbrev gZ.pg (z : gZ) : Nat × (Nat → gP) := z.1
abbrev gZ.by (z : gZ) : List Nat := z.2.1
abbrev gZ.un (z : gZ) : List Nat := z.2.2.1
abbrev gZ.re (z : gZ) : Nat × List Nat := z.2.2.2.1
abbrev gZ.sg (z : gZ) : Nat × Nat := z.2.2.2.2.1
abbrev gZ.fa (z : gZ) : Nat × (Nat → List Nat) := z.2.2.2.2.2.1
abbrev gZ.ma (z : gZ) : Nat → gM := z.2.2.2.2.2.2.1
abbrev gZ.pl (z : gZ) : Nat := z.2.2.2.2.2.2.2.1
abbrev gZ.br (z : gZ) : Nat × Nat × Nat := z.2.2.2.2.2.2.2.2.1
abbrev gZ.fi (z : gZ) : Nat := z.2.2.2.2.2.2.2.2.2
def qP (z : gZ) (v : Nat × (Nat → gP)) : gZ := (v, z.2)
def qB (z : gZ) (v : List Nat) : gZ := (z.1, v, z.2.2)
def qU (z : gZ) (v : List Nat) : gZ := (z.1, z.2.1, v, z.2.2.2)
def qR (z : gZ) (v : Nat × List Nat) : gZ := (z.1, z.2.1, z.2.2.1, v, z.2.2.2.2)
def qS (z : gZ) (v : Nat × Nat) : gZ := (z.1, z.2.1, z.2.2.1, z.2.2.2.1, v, z.2.2.2.2.2)
def qL (z : gZ) (v : Nat × (Nat → List Nat)) : gZ := (z.1, z.2.1, z.2.2.1, z.2.2.2.1, z.2.2.2.2.1, v, z.2.2.2.2.2.2)
def qM (z : gZ) (v : Nat → gM) : gZ := (z.1, z.2.1, z.2.2.1, z.2.2.2.1, z.2.2.2.2.1, z.2.2.2.2.2.1, v, z.2.2.2.2.2.2.2)
def qA (z : gZ) (v : Nat) : gZ := (z.1, z.2.1, z.2.2.1, z.2.2.2.1, z.2.2.2.2.1, z.2.2.2.2.2.1, z.2.2.2.2.2.2.1, v, z.2.2.2.2.2.2.2.2)
def qK (z : gZ) (v : Nat × Nat × Nat) : gZ := (z.1, z.2.1, z.2.2.1, z.2.2.2.1, z.2.2.2.2.1, z.2.2.2.2.2.1, z.2.2.2.2.2.2.1, z.2.2.2.2.2.2.2.1, v, z.2.2.2.2.2.2.2.2.2)
def qF (z : gZ) (v : Nat) : gZ := (z.1, z.2.1, z.2.2.1, z.2.2.2.1, z.2.2.2.2.1, z.2.2.2.2.2.1, z.2.2.2.2.2.2.1, z.2.2.2.2.2.2.2.1, z.2.2.2.2.2.2.2.2.1, v)
/-- a finding is told -/
def qT (z : gZ) (v : Int32) : Int32 × gZ := (v, qF z (z.fi + 1))
/-- a row of a cell -/
def rw (h : zH) (a : Nat) (l : List Nat) : Prop := ∀ k, k < l.length → zI h a k = nI (l.getD k 0)
def mC1 (h : zH) (v : Nat × (Nat → gP)) : Prop := zI h 92 0 = nI v.1 ∧ ∀ p, p < v.1 → mPg h p (v.2 p)
def mC2 (h : zH) (v : List Nat) : Prop := zI h 92 14 = nI v.length ∧ rw h 106 v
def mC3 (h : zH) (v : List Nat) : Prop := zI h 92 16 = nI v.length ∧ rw h 107 v
def mC4 (h : zH) (v : Nat × List Nat) : Prop := zI h 92 19 = nI v.1 ∧ zI h 92 18 = nI v.2.length ∧ rw h 108 v.2
def mC5 (h : zH) (v : Nat × Nat) : Prop := zI h 109 0 = nI v.1 ∧ zI h 109 1 = nI v.2
/-- the fallbacks as they lie: n places with the points pt -/
def mFa (h : zH) (n : Nat) (pt : Nat → Nat) (F : Nat → List Nat) : Prop := zI h 92 25 = nI n ∧ (∀ k, k < n → zI h 111 k = nI (pt k) ∧ zI h 112 k = nI (F (pt k)).length ∧ ∀ i, i < (F (pt k)).length → zI h 113 (4 * k + i) = nI ((F (pt k)).getD i 0))
/-- n places with the points pt are all points that F has a text for -/
def gFa (n : Nat) (pt : Nat → Nat) (F : Nat → List Nat) : Prop := (∀ k, k < n → F (pt k) ≠ []) ∧ (∀ j k, j < n → k < n → pt j = pt k → j = k) ∧ ∀ v, F v ≠ [] → ∃ k, k < n ∧ pt k = v
def mC6 (h : zH) (v : Nat × (Nat → List Nat)) : Prop := ∃ pt, mFa h v.1 pt v.2 ∧ gFa v.1 pt v.2
def mMa (h : zH) (d : Nat) (m : gM) : Prop := zI h 124 d = nI (m.1 0) ∧ (m.1 0 = 1 → (∀ c, c < 6 → zI h (124 + c) d = nI (m.1 c)) ∧ zI h 130 d = nI m.2.1.length ∧ (∀ i, i < m.2.1.length → zI h 131 (8 * d + i) = nI (m.2.1.getD i 0)) ∧ zI h 132 d = nI (m.1 6) ∧ zI h 133 d = nI (m.1 7) ∧ zI h 134 d = nI m.2.2.length ∧ ∀ i, i < m.2.2.length → zI h 135 (1200 * d + i) = nI (m.2.2.getD i 0))
def mC7 (h : zH) (v : Nat → gM) : Prop := ∀ d, d < 4 → mMa h d (v d)
def mC8 (h : zH) (v : Nat) : Prop := zI h 92 22 = nI v
def mC9 (h : zH) (v : Nat × Nat × Nat) : Prop := zI h 110 0 = nI v.1 ∧ zI h 110 1 = nI v.2.1 ∧ zI h 110 2 = nI v.2.2
def mC0 (h : zH) (v : Nat) : Prop := zI h 92 24 = nI v
/-- what stays of the model -/
def mSt (h : zH) : Prop := zCt [(mB, mP, 92)] [] h
/-- THE MODEL's CELLS -/
def MR (h : zH) (z : gZ) : Prop := mSt h ∧ zI h 92 48 = 0 ∧ mC1 h z.pg ∧ mC2 h z.by ∧ mC3 h z.un ∧ mC4 h z.re ∧ mC5 h z.sg ∧ mC6 h z.fa ∧ mC7 h z.ma ∧ mC8 h z.pl ∧ mC9 h z.br ∧ mC0 h z.fi
/-! components under a frame -/
section FRM
variable {W : Nat → Nat → Prop} {h h' : zH}
theorem mSt.T (m : mSt h) (i : Nat) {kd : Nat × Nat} (hi : mB[i]? = some kd) : zT h (92 + i) = kd := (zCt.b m 0 rfl).t i hi
theorem mSt.fr (f : fr W h h') (m : mSt h) : mSt h' := zCt.ext m f.lx
theorem mPg.fr (f : fr W h h') {p : Nat} {g : gP} (w : ∀ a j, 93 ≤ a → a ≤ 105 → ¬ W a j) (m : mPg h p g) : mPg h' p g :=
  ⟨fun c hc => (f.I (w _ _ (by omega) (by omega))).trans (m.1 c hc), fun c k hc hk => (f.I (w _ _ (by omega) (by omega))).trans (m.2.1 c k hc hk), fun c k hc hk => (f.I (w _ _ (by omega) (by omega))).trans (m.2.2 c k hc hk)⟩
theorem mC1.fr (f : fr W h h') {v} (w0 : ¬ W 92 0) (w : ∀ a j, 93 ≤ a → a ≤ 105 → ¬ W a j) (m : mC1 h v) : mC1 h' v := ⟨(f.I w0).trans m.1, fun p hp => (m.2 p hp).fr f w⟩
theorem rw.fr (f : fr W h h') {a : Nat} {l : List Nat} (w : ∀ j, ¬ W a j) (m : rw h a l) : rw h' a l := fun k hk => (f.I (w k)).trans (m k hk)
theorem mC2.fr (f : fr W h h') {v} (w0 : ¬ W 92 14) (w : ∀ j, ¬ W 106 j) (m : mC2 h v) : mC2 h' v := ⟨(f.I w0).trans m.1, m.2.fr f w⟩
theorem mC3.fr (f : fr W h h') {v} (w0 : ¬ W 92 16) (w : ∀ j, ¬ W 107 j) (m : mC3 h v) : mC3 h' v := ⟨(f.I w0).trans m.1, m.2.fr f w⟩
theorem mC4.fr (f : fr W h h') {v} (w0 : ¬ W 92 19) (w1 : ¬ W 92 18) (w : ∀ j, ¬ W 108 j) (m : mC4 h v) : mC4 h' v := ⟨(f.I w0).trans m.1, (f.I w1).trans m.2.1, m.2.2.fr f w⟩
theorem mC5.fr (f : fr W h h') {v} (w : ∀ j, ¬ W 109 j) (m : mC5 h v) : mC5 h' v := ⟨(f.I (w _)).trans m.1, (f.I (w _)).trans m.2⟩
theorem mFa.fr (f : fr W h h') {n pt F} (w0 : ¬ W 92 25) (w : ∀ a j, 111 ≤ a → a ≤ 113 → ¬ W a j) (m : mFa h n pt F) : mFa h' n pt F :=
  ⟨(f.I w0).trans m.1, fun k hk => ⟨(f.I (w _ _ (by omega) (by omega))).trans (m.2 k hk).1, (f.I (w _ _ (by omega) (by omega))).trans (m.2 k hk).2.1, fun i hi => (f.I (w _ _ (by omega) (by omega))).trans ((m.2 k hk).2.2 i hi)⟩⟩
theorem mC6.fr (f : fr W h h') {v} (w0 : ¬ W 92 25) (w : ∀ a j, 111 ≤ a → a ≤ 113 → ¬ W a j) (m : mC6 h v) : mC6 h' v := by
  obtain ⟨pt, m1, m2⟩ := m
  exact ⟨pt, m1.fr f w0 w, m2⟩
theorem mMa.fr (f : fr W h h') {d v} (w : ∀ a j, 124 ≤ a → a ≤ 135 → ¬ W a j) (m : mMa h d v) : mMa h' d v := by
  have e : ∀ a j, 124 ≤ a → a ≤ 135 → zI h' a j = zI h a j := fun a j h1 h2 => f.I (w a j h1 h2)
  refine ⟨by rw [e _ _ (by omega) (by omega)]; exact m.1, fun hb => ?_⟩
  obtain ⟨a1, a2, a3, a4, a5, a6, a7⟩ := m.2 hb
  refine ⟨fun c hc => ?_, ?_, fun i hi => ?_, ?_, ?_, ?_, fun i hi => ?_⟩ <;> rw [e _ _ (by omega) (by omega)] <;> first | assumption | exact a1 c hc | exact a3 i hi | exact a7 i hi
theorem mC7.fr (f : fr W h h') {v} (w : ∀ a j, 124 ≤ a → a ≤ 135 → ¬ W a j) (m : mC7 h v) : mC7 h' v := fun d hd => (m d hd).fr f w
theorem mC8.fr (f : fr W h h') {v} (w : ¬ W 92 22) (m : mC8 h v) : mC8 h' v := (f.I w).trans m
theorem mC9.fr (f : fr W h h') {v} (w : ∀ j, ¬ W 110 j) (m : mC9 h v) : mC9 h' v := ⟨(f.I (w _)).trans m.1, (f.I (w _)).trans m.2.1, (f.I (w _)).trans m.2.2⟩
theorem mC0.fr (f : fr W h h') {v} (w : ¬ W 92 24) (m : mC0 h v) : mC0 h' v := (f.I w).trans m
end FRM
