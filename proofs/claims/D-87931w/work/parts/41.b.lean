/-! THE PURE PART anew: reads, frames, loops (no row here is by plain rfl: the kernel must not unfold heaps) -/
set_option maxRecDepth 100000
theorem eI (h : zH) (a k : Nat) (v : Int32) (b j : Nat) : zI (zsI h a k v) b j = if b = a ∧ j = k then v else zI h b j := Eq.trans rfl rfl
theorem eIT (h : zH) (a k : Nat) (v : Int32) : zT (zsI h a k v) = zT h := Eq.trans rfl rfl
theorem eIP (h : zH) (a k : Nat) (v : Int32) : zP (zsI h a k v) = zP h := Eq.trans rfl rfl
theorem eIL (h : zH) (a k : Nat) (v : Int32) : zL (zsI h a k v) = zL h := Eq.trans rfl rfl
theorem eIn (h : zH) (a k : Nat) (v : Int32) : zn (zsI h a k v) = zn h := Eq.trans rfl rfl
theorem ePI (h : zH) (a k : Nat) (v : Option Nat) : zI (zsP h a k v) = zI h := Eq.trans rfl rfl
theorem ePT (h : zH) (a k : Nat) (v : Option Nat) : zT (zsP h a k v) = zT h := Eq.trans rfl rfl
theorem ePL (h : zH) (a k : Nat) (v : Option Nat) : zL (zsP h a k v) = zL h := Eq.trans rfl rfl
theorem ePn (h : zH) (a k : Nat) (v : Option Nat) : zn (zsP h a k v) = zn h := Eq.trans rfl rfl
theorem ePP (h : zH) (a k : Nat) (v : Option Nat) (b j : Nat) : zP (zsP h a k v) b j = if b = a ∧ j = k then v else zP h b j := Eq.trans rfl rfl
theorem eLI (h : zH) (a k : Nat) (v : Int64) : zI (zsL h a k v) = zI h := Eq.trans rfl rfl
theorem eLT (h : zH) (a k : Nat) (v : Int64) : zT (zsL h a k v) = zT h := Eq.trans rfl rfl
theorem eLP (h : zH) (a k : Nat) (v : Int64) : zP (zsL h a k v) = zP h := Eq.trans rfl rfl
theorem eLn (h : zH) (a k : Nat) (v : Int64) : zn (zsL h a k v) = zn h := Eq.trans rfl rfl
theorem eLL (h : zH) (a k : Nat) (v : Int64) (b j : Nat) : zL (zsL h a k v) b j = if b = a ∧ j = k then v else zL h b j := Eq.trans rfl rfl
theorem eCI (h : zH) (a : Nat) (f : Nat → Int32) (b j : Nat) : zI (zsC h a f) b j = if b = a then f j else zI h b j := Eq.trans rfl rfl
theorem eCT (h : zH) (a : Nat) (f : Nat → Int32) : zT (zsC h a f) = zT h := Eq.trans rfl rfl
theorem eCP (h : zH) (a : Nat) (f : Nat → Int32) : zP (zsC h a f) = zP h := Eq.trans rfl rfl
theorem eCL (h : zH) (a : Nat) (f : Nat → Int32) : zL (zsC h a f) = zL h := Eq.trans rfl rfl
/-- only places of W were changed, nothing was made -/
def fr (W : Nat → Nat → Prop) (h h' : zH) : Prop := (zn h' = zn h ∧ zc h' = zc h ∧ zu h' = zu h) ∧ zT h' = zT h ∧ (∀ a j, ¬ W a j → zI h' a j = zI h a j ∧ zP h' a j = zP h a j ∧ zL h' a j = zL h a j) ∧ ∀ a j, zFn (zT h a) j = true → zP h' a j = zP h a j
section FR
variable {W V : Nat → Nat → Prop} {h h1 h2 : zH} {a k : Nat}
theorem fr.refl (W : Nat → Nat → Prop) (h : zH) : fr W h h := ⟨⟨rfl, rfl, rfl⟩, rfl, fun _ _ _ => ⟨rfl, rfl, rfl⟩, fun _ _ _ => rfl⟩
theorem fr.trans (f : fr W h h1) (g : fr W h1 h2) : fr W h h2 :=
  ⟨⟨g.1.1.trans f.1.1, g.1.2.1.trans f.1.2.1, g.1.2.2.trans f.1.2.2⟩, g.2.1.trans f.2.1, fun a j n => ⟨(g.2.2.1 a j n).1.trans (f.2.2.1 a j n).1, (g.2.2.1 a j n).2.1.trans (f.2.2.1 a j n).2.1, (g.2.2.1 a j n).2.2.trans (f.2.2.1 a j n).2.2⟩, fun a j e => (g.2.2.2 a j (by rw [f.2.1]; exact e)).trans (f.2.2.2 a j e)⟩
theorem fr.mono (f : fr W h h1) (hv : ∀ a j, W a j → V a j) : fr V h h1 := ⟨f.1, f.2.1, fun a j n => f.2.2.1 a j (fun w => n (hv a j w)), f.2.2.2⟩
theorem fr.I (f : fr W h h1) (hw : ¬ W a k) : zI h1 a k = zI h a k := (f.2.2.1 a k hw).1
theorem fr.P (f : fr W h h1) (hw : ¬ W a k) : zP h1 a k = zP h a k := (f.2.2.1 a k hw).2.1
theorem fr.L (f : fr W h h1) (hw : ¬ W a k) : zL h1 a k = zL h a k := (f.2.2.1 a k hw).2.2
theorem fr.T (f : fr W h h1) : zT h1 = zT h := f.2.1
theorem fr.n (f : fr W h h1) : zn h1 = zn h := f.1.1
theorem fr.sI (f : fr W h h1) (hw : W a k) (v : Int32) : fr W h (zsI h1 a k v) :=
  ⟨f.1, f.2.1, fun x j n => ⟨by rw [eI, if_neg (fun e => n (by rw [e.1, e.2]; exact hw))]; exact (f.2.2.1 x j n).1, (f.2.2.1 x j n).2⟩, f.2.2.2⟩
theorem fr.sL (f : fr W h h1) (hw : W a k) (v : Int64) : fr W h (zsL h1 a k v) :=
  ⟨f.1, f.2.1, fun x j n => ⟨(f.2.2.1 x j n).1, (f.2.2.1 x j n).2.1, by rw [eLL, if_neg (fun e => n (by rw [e.1, e.2]; exact hw))]; exact (f.2.2.1 x j n).2.2⟩, f.2.2.2⟩
theorem fr.sP (f : fr W h h1) (hw : W a k) (hf : zFn (zT h a) k = false) (v : Option Nat) : fr W h (zsP h1 a k v) :=
  ⟨f.1, f.2.1, fun x j n => ⟨(f.2.2.1 x j n).1, by rw [ePP, if_neg (fun e => n (by rw [e.1, e.2]; exact hw))]; exact (f.2.2.1 x j n).2.1, (f.2.2.1 x j n).2.2⟩, fun x j e => by
    rw [ePP, if_neg (fun q => by rw [q.1, q.2, hf] at e; cases e)]; exact f.2.2.2 x j e⟩
theorem fr.sC (f : fr W h h1) (hw : ∀ j, W a j) (g : Nat → Int32) : fr W h (zsC h1 a g) :=
  ⟨f.1, f.2.1, fun x j n => ⟨by rw [eCI, if_neg (fun e => n (by rw [e]; exact hw j))]; exact (f.2.2.1 x j n).1, (f.2.2.1 x j n).2⟩, f.2.2.2⟩
theorem fr.lx (f : fr W h h1) : zLx h h1 := by
  obtain ⟨⟨h1, h2, h3⟩, h4, h5, h6⟩ := f
  exact ⟨⟨by omega, by omega, by omega⟩, fun a _ => by rw [h4], fun a j b _ e1 e2 => (h6 a j e1).trans e2⟩
end FR
/-- a loop with a counter of its turns -/
theorem zw_for {σ ρ : Type} {body : σ → Option (σ ⊕ ρ)} {Q : ρ → Prop} (I : Nat → σ → Prop) (n : Nat)
    (st : ∀ i s, i ≤ n → I i s → zw (body s) (fun r => match r with
      | .inl s' => i < n ∧ I (i + 1) s'
      | .inr z => Q z)) {s : σ} (h0 : I 0 s) : zw (zlp body s) Q := by
  refine zw_lp (fun s m => ∃ i, i ≤ n ∧ I i s ∧ m = n - i) ?_ n ⟨0, Nat.zero_le _, h0, rfl⟩
  rintro s m ⟨i, hi, hI, rfl⟩
  refine (st i s hi hI).mono fun r hr => ?_
  cases r with
  | inl s' => exact ⟨n - (i + 1), by have := hr.1; omega, i + 1, hr.1, hr.2, rfl⟩
  | inr z => exact hr
theorem zw_and {α : Type} {x : Option α} {Q R : α → Prop} (h : zw x Q) (g : zw x R) : zw x (fun y => Q y ∧ R y) := by
  obtain ⟨y, e, q⟩ := h
  obtain ⟨y', e', r⟩ := g
  rw [e] at e'
  cases e'
  exact ⟨y, e, q, r⟩
theorem zw_eqn {α : Type} {x : Option α} {y : α} : zw x (fun z => z = y) ↔ x = some y := ⟨zw_eq, fun e => ⟨y, e, rfl⟩⟩
/-! numbers -/
theorem nl {x : Int32} {k : Nat} (h : x = nI k) (hk : k < 2 ^ 31) : x.toNatClampNeg = k := by rw [h, nI_clamp hk]
theorem neg_lit {n : Nat} (h0 : 0 < n) (h : n < 2 ^ 31) : (-nI n : Int32) < 0 := by
  rw [Int32.lt_iff_toInt_lt, show (-nI n : Int32) = nI 0 - nI n from by rw [nI_0, Int32.zero_sub]]
  by_cases hn : n < 2 ^ 30
  · rw [pk_sub_toInt (by omega) hn]
    show (0 : Int) - n < 0
    omega
  · rw [Int32.toInt_sub, nI_toInt (by omega), nI_toInt h, Int.bmod_eq_of_le (by omega) (by omega)]
    show ((0 : Nat) : Int) - n < 0
    omega
theorem neg1 : (-1 : Int32) < 0 := by rw [Int32.lt_iff_toInt_lt]; decide
theorem neg2 : (-2 : Int32) < 0 := by rw [Int32.lt_iff_toInt_lt]; decide
theorem neg3 : (-3 : Int32) < 0 := by rw [Int32.lt_iff_toInt_lt]; decide
theorem neg4 : (-4 : Int32) < 0 := by rw [Int32.lt_iff_toInt_lt]; decide
theorem neg5 : (-5 : Int32) < 0 := by rw [Int32.lt_iff_toInt_lt]; decide
theorem neg6 : (-6 : Int32) < 0 := by rw [Int32.lt_iff_toInt_lt]; decide
theorem neg7 : (-7 : Int32) < 0 := by rw [Int32.lt_iff_toInt_lt]; decide
theorem neg8 : (-8 : Int32) < 0 := by rw [Int32.lt_iff_toInt_lt]; decide
theorem neg9 : (-9 : Int32) < 0 := by rw [Int32.lt_iff_toInt_lt]; decide
theorem neg10 : (-10 : Int32) < 0 := by rw [Int32.lt_iff_toInt_lt]; decide
theorem neg11 : (-11 : Int32) < 0 := by rw [Int32.lt_iff_toInt_lt]; decide
theorem neg12 : (-12 : Int32) < 0 := by rw [Int32.lt_iff_toInt_lt]; decide
theorem neg13 : (-13 : Int32) < 0 := by rw [Int32.lt_iff_toInt_lt]; decide
theorem i10 : ((1 : Int32) = 0) = False := eq_false (by decide)
theorem i01 : ((0 : Int32) = 1) = False := eq_false (by decide)
theorem i_lt {x y : Int32} : (¬ x < y) ↔ y ≤ x := by rw [Int32.lt_iff_toInt_lt, Int32.le_iff_toInt_le]; omega
theorem i_le {x y : Int32} : (¬ x ≤ y) ↔ y < x := by rw [Int32.lt_iff_toInt_lt, Int32.le_iff_toInt_le]; omega
theorem neg_nn {x : Int32} (h : x < 0) : (0 ≤ x) = False := eq_false (fun e => by rw [Int32.lt_iff_toInt_lt] at h; rw [Int32.le_iff_toInt_le] at e; omega)
/-- in a range that begins at a: what it is -/
theorem in_rng {x : Int32} {a b : Nat} (h1 : ¬ x < nI a) (h2 : ¬ nI b < x) (hb : b < 2 ^ 31) (ha : a < 2 ^ 31) : ∃ k, a ≤ k ∧ k ≤ b ∧ x = nI k := by
  have h0 : ¬ x < 0 := by
    rw [Int32.lt_iff_toInt_lt, nI_toInt ha] at h1
    rw [Int32.lt_iff_toInt_lt]
    show ¬ x.toInt < 0
    omega
  obtain ⟨k, hk, rfl⟩ := i_in h0 h2 hb
  rw [nI_ltI (by omega) ha] at h1
  exact ⟨k, by omega, hk, rfl⟩
/-- the value of an int from a to b -/
noncomputable def vR (x : Int32) (a b : Nat) : Option Nat := if x < nI a ∨ nI b < x then none else some x.toNatClampNeg
theorem vR_cases (x : Int32) (a b : Nat) (ha : a < 2 ^ 31) (hb : b < 2 ^ 31) : (vR x a b = none ∧ fX9_in x (nI a) (nI b) = some 0 ∧ fX0_in x (nI a) (nI b) = some 0) ∨ ∃ k, a ≤ k ∧ k ≤ b ∧ x = nI k ∧ vR x a b = some k ∧ fX9_in x (nI a) (nI b) = some 1 ∧ fX0_in x (nI a) (nI b) = some 1 := by
  by_cases h1 : x < nI a
  · left
    refine ⟨if_pos (Or.inl h1), ?_, ?_⟩
    · unfold fX9_in; rw [if_pos h1]
    · unfold fX0_in; rw [if_pos h1]
  by_cases h2 : nI b < x
  · left
    refine ⟨if_pos (Or.inr h2), ?_, ?_⟩
    · unfold fX9_in; rw [if_neg h1, if_pos h2]
    · unfold fX0_in; rw [if_neg h1, if_pos h2]
  right
  obtain ⟨k, k1, k2, rfl⟩ := in_rng h1 h2 hb ha
  refine ⟨k, k1, k2, rfl, ?_, ?_, ?_⟩
  · unfold vR; rw [if_neg (by rintro (e | e); exact h1 e; exact h2 e), nI_clamp (by omega)]
  · unfold fX9_in; rw [if_neg h1, if_neg h2]
  · unfold fX0_in; rw [if_neg h1, if_neg h2]
