/-! THE PURE PART: what a function answers -/
set_option maxRecDepth 100000
def zw {α : Type} (x : Option α) (Q : α → Prop) : Prop := ∃ y, x = some y ∧ Q y
theorem zw_some {α : Type} {y : α} {Q : α → Prop} : zw (some y) Q ↔ Q y := ⟨fun ⟨_, e, h⟩ => by cases e; exact h, fun h => ⟨y, rfl, h⟩⟩
theorem zw_ck {α : Type} {c : Prop} {x : Option α} {Q : α → Prop} : zw (zck c x) Q ↔ c ∧ zw x Q := by
  constructor
  · intro ⟨y, e, h⟩
    obtain ⟨hc, e⟩ := zck_some e
    exact ⟨hc, y, e, h⟩
  · intro ⟨hc, y, e, h⟩
    exact ⟨y, by rw [zck_pos hc]; exact e, h⟩
theorem zw_let {α β : Type} {a : α} {k : α → Option β} {Q : β → Prop} : zw (zlet a k) Q ↔ zw (k a) Q := Iff.rfl
theorem zw_b1 {α γ : Type} {x : Option α} {k : α → Option γ} {Q : γ → Prop} : zw (zb1 x k) Q ↔ zw x (fun a => zw (k a) Q) := by
  constructor
  · intro ⟨y, e, h⟩
    obtain ⟨a, e1, e2⟩ := zb1_some e
    exact ⟨a, e1, y, e2, h⟩
  · intro ⟨a, e1, y, e2, h⟩
    exact ⟨y, by rw [e1]; exact e2, h⟩
theorem zw_b2 {α β γ : Type} {x : Option (α × β)} {k : α → β → Option γ} {Q : γ → Prop} : zw (zb2 x k) Q ↔ zw x (fun a => zw (k a.1 a.2) Q) := by
  constructor
  · intro ⟨y, e, h⟩
    obtain ⟨a, b, e1, e2⟩ := zb2_some e
    exact ⟨(a, b), e1, y, e2, h⟩
  · intro ⟨a, e1, y, e2, h⟩
    exact ⟨y, by rw [e1]; exact e2, h⟩
theorem zw_ite {α : Type} {c : Prop} [Decidable c] {x y : Option α} {Q : α → Prop} : zw (if c then x else y) Q ↔ if c then zw x Q else zw y Q := by
  split <;> exact Iff.rfl
theorem zw_cs {α : Type} {c : Prop} {x y : Option α} {Q : α → Prop} : zw (zcs c x y) Q ↔ (c → zw x Q) ∧ (¬ c → zw y Q) := by
  unfold zcs
  split
  · rename_i h; exact ⟨fun q => ⟨fun _ => q, fun n => absurd h n⟩, fun q => q.1 h⟩
  · rename_i h; exact ⟨fun q => ⟨fun n => absurd n h, fun _ => q⟩, fun q => q.2 h⟩
theorem zw_rq {γ : Type} {o : Option Nat} {n : Option γ} {k : Nat → Option γ} {Q : γ → Prop} : zw (zrq o n k) Q ↔ match o with
    | none => zw n Q
    | some a => zw (k a) Q := by
  cases o <;> exact Iff.rfl
theorem zw_lx {τ X : Type} {e : Option (τ ⊕ X)} {k : τ → Option X} {Q : X → Prop} : zw (zlx e k) Q ↔ zw e (fun r => match r with
    | .inl t => zw (k t) Q
    | .inr z => Q z) := by
  constructor
  · intro ⟨y, e1, h⟩
    obtain ⟨r, e2, h2⟩ := zlx_some e1
    refine ⟨r, e2, ?_⟩
    rcases h2 with ⟨t, rfl, h2⟩ | rfl
    · exact ⟨y, h2, h⟩
    · exact h
  · intro ⟨r, e1, h⟩
    cases r with
    | inl t => obtain ⟨y, e2, h⟩ := h; exact ⟨y, by rw [e1]; exact e2, h⟩
    | inr z => exact ⟨z, by rw [e1]; rfl, h⟩
theorem zw_xi {γ : Type} {x : Option zX} {k : Int32 → zH → Option γ} {t : Nat → zH → Option γ} {Q : γ → Prop} (h : zw x (fun r => (∃ v h1, r = (.inl (some (.int v)), h1) ∧ zw (k v h1) Q) ∨ ∃ a h1, r = (.inr a, h1) ∧ zw (t a h1) Q)) : zw (zxi x k t) Q := by
  obtain ⟨r, e, h⟩ := h
  rcases h with ⟨v, h1, rfl, y, e2, h⟩ | ⟨a, h1, rfl, y, e2, h⟩
  · exact ⟨y, by rw [e]; exact e2, h⟩
  · exact ⟨y, by rw [e]; exact e2, h⟩
theorem zw_xv {γ : Type} {x : Option zX} {k : zH → Option γ} {t : Nat → zH → Option γ} {Q : γ → Prop} (h : zw x (fun r => (∃ h1, r = (.inl none, h1) ∧ zw (k h1) Q) ∨ ∃ a h1, r = (.inr a, h1) ∧ zw (t a h1) Q)) : zw (zxv x k t) Q := by
  obtain ⟨r, e, h⟩ := h
  rcases h with ⟨h1, rfl, y, e2, h⟩ | ⟨a, h1, rfl, y, e2, h⟩
  · exact ⟨y, by rw [e]; exact e2, h⟩
  · exact ⟨y, by rw [e]; exact e2, h⟩
theorem zw_xr {γ : Type} {x : Option zX} {k : Option Nat → zH → Option γ} {t : Nat → zH → Option γ} {Q : γ → Prop} (h : zw x (fun r => (∃ v h1, r = (.inl (some (va_rf v)), h1) ∧ zw (k v h1) Q) ∨ ∃ a h1, r = (.inr a, h1) ∧ zw (t a h1) Q)) : zw (zxr x k t) Q := by
  obtain ⟨r, e, h⟩ := h
  rcases h with ⟨v, h1, rfl, y, e2, h⟩ | ⟨a, h1, rfl, y, e2, h⟩
  · refine ⟨y, ?_, h⟩
    rw [e]
    cases v <;> exact e2
  · exact ⟨y, by rw [e]; exact e2, h⟩
theorem zw.mono {α : Type} {x : Option α} {Q R : α → Prop} (h : zw x Q) (hm : ∀ y, Q y → R y) : zw x R := by
  obtain ⟨y, e, h⟩ := h
  exact ⟨y, e, hm y h⟩
theorem zw_of {α : Type} {x : Option α} {y : α} (h : x = some y) {Q : α → Prop} (hQ : Q y) : zw x Q := ⟨y, h, hQ⟩
theorem zw_eq {α : Type} {x : Option α} {y : α} (h : zw x (fun z => z = y)) : x = some y := by
  obtain ⟨z, e, rfl⟩ := h
  exact e
/-- a loop: what holds at its head, how far it still goes -/
theorem zw_lp {σ ρ : Type} {body : σ → Option (σ ⊕ ρ)} {Q : ρ → Prop} (Inv : σ → Nat → Prop) (hb : ∀ s n, Inv s n → zw (body s) (fun r => match r with
    | .inl s' => ∃ n', n' < n ∧ Inv s' n'
    | .inr r => Q r)) : ∀ (n : Nat) {s : σ}, Inv s n → zw (zlp body s) Q := by
  intro n
  induction n using Nat.strongRecOn with
  | ind n ih =>
    intro s hs
    obtain ⟨r, e, h⟩ := hb s n hs
    rw [zlp_eq, e]
    cases r with
    | inl s' =>
      obtain ⟨n', hlt, h'⟩ := h
      exact ih n' hlt h'
    | inr r => exact ⟨r, rfl, h⟩
/-! reading what was written -/
theorem rI_sI (h : zH) (a k : Nat) (v : Int32) (b j : Nat) : zI (zsI h a k v) b j = if b = a ∧ j = k then v else zI h b j := rfl
theorem rT_sI (h : zH) (a k : Nat) (v : Int32) : zT (zsI h a k v) = zT h := rfl
theorem rP_sI (h : zH) (a k : Nat) (v : Int32) : zP (zsI h a k v) = zP h := rfl
theorem rL_sI (h : zH) (a k : Nat) (v : Int32) : zL (zsI h a k v) = zL h := rfl
theorem rI_sP (h : zH) (a k : Nat) (v : Option Nat) : zI (zsP h a k v) = zI h := rfl
theorem rT_sP (h : zH) (a k : Nat) (v : Option Nat) : zT (zsP h a k v) = zT h := rfl
theorem rL_sP (h : zH) (a k : Nat) (v : Option Nat) : zL (zsP h a k v) = zL h := rfl
theorem rP_sP (h : zH) (a k : Nat) (v : Option Nat) (b j : Nat) : zP (zsP h a k v) b j = if b = a ∧ j = k then v else zP h b j := rfl
theorem rI_sL (h : zH) (a k : Nat) (v : Int64) : zI (zsL h a k v) = zI h := rfl
theorem rT_sL (h : zH) (a k : Nat) (v : Int64) : zT (zsL h a k v) = zT h := rfl
theorem rP_sL (h : zH) (a k : Nat) (v : Int64) : zP (zsL h a k v) = zP h := rfl
theorem rL_sL (h : zH) (a k : Nat) (v : Int64) (b j : Nat) : zL (zsL h a k v) b j = if b = a ∧ j = k then v else zL h b j := rfl
