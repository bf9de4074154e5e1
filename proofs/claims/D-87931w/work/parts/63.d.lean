/-! reading: what it is, and the model's readOne -/
set_option maxRecDepth 100000
def units (v : Nat) : List Nat := if v < 65536 then [v] else [55296 + (v - 65536) / 1024, 56320 + (v - 65536) % 1024]
/-- one step of reading: how many bytes, what comes of it, state, pending, faults -/
noncomputable def gR1 (g : gP) (rule sg st pd : Nat) (l : List Nat) : Nat × List Nat × Nat × Nat × Nat :=
  if (gLk g st pd l).1 = 2 then ((gLk g st pd l).2.1, units (gLk g st pd l).2.2, st, 4, 0)
  else if (gLk g st pd l).1 = 3 then (if g 12 (gLk g st pd l).2.1 = 0 then (1, [], st, g 11 (gLk g st pd l).2.1, 0) else (1, [], g 11 (gLk g st pd l).2.1, pd, 0))
  else (1, (if rule = 1 then units sg else if rule = 3 then [56320 + bt l 0] else []), st, 4, 1)
/-- all steps: refused (1) or not (0), state, pending, what is left, what came, faults -/
noncomputable def gRun (g : gP) (rule sg : Nat) (last : Bool) : Nat → Nat → Nat → List Nat → List Nat → Nat → Nat × Nat × Nat × List Nat × List Nat × Nat
  | 0, st, pd, l, o, f => (0, st, pd, l, o, f)
  | n + 1, st, pd, l, o, f => if l = [] then (0, st, pd, l, o, f) else if (gLk g st pd l).1 = 1 ∧ last = false then (0, st, pd, l, o, f) else if (gLk g st pd l).1 ≤ 1 ∧ rule = 0 then (1, st, pd, l, o, f)
    else gRun g rule sg last n (gR1 g rule sg st pd l).2.2.1 (gR1 g rule sg st pd l).2.2.2.1 (l.drop (gR1 g rule sg st pd l).1) (o ++ (gR1 g rule sg st pd l).2.1) (f + (gR1 g rule sg st pd l).2.2.2.2)
theorem fPt_le {l : List Nat} (hB : isB l) {n : Nat} (hn : n = fLen (bt l 0)) (h0 : n ≠ 0) (hf : fFine l n) : fPt l n ≤ 1114111 := by
  have b0 := hB.b 0
  have b1 := hB.b 1
  have b2 := hB.b 2
  have b3 := hB.b 3
  obtain ⟨f1, f2, f3⟩ := hf
  unfold fLen at hn
  unfold fPt
  by_cases n1 : n = 1
  · rw [if_pos n1]; omega
  rw [if_neg n1]
  by_cases n2 : n = 2
  · rw [if_pos n2]; omega
  rw [if_neg n2]
  by_cases n3 : n = 3
  · rw [if_pos n3]; omega
  rw [if_neg n3]
  have n4 : n = 4 := by (repeat' split at hn) <;> omega
  have f1 := f1 (by omega)
  unfold fSec at f1
  have : 240 ≤ bt l 0 ∧ bt l 0 < 245 := by (repeat' split at hn) <;> omega
  by_cases e : bt l 0 = 244
  · rw [e] at f1
    simp only [Nat.reduceEqDiff, if_false, if_true] at f1
    omega
  · omega
/-- what is hit: how far, and a point -/
theorem gLk_hit {g : gP} {st pd : Nat} {l : List Nat} (sm : gSm g) (hB : isB l) (h2 : (gLk g st pd l).1 = 2) : 1 ≤ (gLk g st pd l).2.1 ∧ (gLk g st pd l).2.1 ≤ l.length ∧ (gLk g st pd l).2.1 ≤ 4 ∧ (gLk g st pd l).2.2 ≤ 1114111 := by
  have b0 := hB.b 0
  have b1 := hB.b 1
  unfold gLk at h2 ⊢
  by_cases k3 : g 0 0 = 3
  · rw [if_pos k3] at h2 ⊢
    unfold gLkF at h2 ⊢
    by_cases h0 : l.length = 0
    · rw [if_pos h0] at h2; cases h2
    rw [if_neg h0] at h2 ⊢
    by_cases hf : fLen (bt l 0) = 0
    · rw [if_pos hf] at h2; cases h2
    rw [if_neg hf] at h2 ⊢
    by_cases hff : fFine l (min l.length (fLen (bt l 0)))
    case neg => rw [if_neg hff] at h2; cases h2
    rw [if_pos hff] at h2 ⊢
    by_cases hl : fLen (bt l 0) ≤ l.length
    case neg => rw [if_neg hl] at h2; cases h2
    rw [if_pos hl]
    rw [Nat.min_eq_right hl] at hff
    refine ⟨by show 1 ≤ fLen (bt l 0); omega, hl, ?_, fPt_le hB rfl hf hff⟩
    show fLen (bt l 0) ≤ 4
    unfold fLen
    (repeat' split) <;> omega
  rw [if_neg k3] at h2 ⊢
  by_cases k0 : g 0 0 = 0
  · rw [if_pos k0] at h2 ⊢
    by_cases h1 : ff (gFm g (if pd = 4 then st else pd) l) (g 2 0) < g 2 0
    · rw [if_pos h1]
      have hy := ff_yes _ _ h1
      have we := sm.2.2.2.2.1 _ h1
      unfold gFm at hy
      simp only [Bool.and_eq_true, decide_eq_true_eq, beq_iff_eq] at hy
      exact ⟨we.2.1, hy.1.2, by have := we.2.2.1; show g 5 _ ≤ 4; omega, we.2.2.2.2.1.1⟩
    · rw [if_neg h1] at h2
      (repeat' split at h2) <;> cases h2
  rw [if_neg k0] at h2 ⊢
  generalize hhi : (if g 0 0 = 1 then 1 else 0) = hi at *
  have u0 := uAt_lt hB hi 0
  have u2 := uAt_lt hB hi 2
  unfold gLkW at h2 ⊢
  by_cases c1 : l.length < 1
  · rw [if_pos c1] at h2; cases h2
  rw [if_neg c1] at h2 ⊢
  by_cases c2 : hi ≠ 0 ∧ 220 ≤ bt l 0 ∧ bt l 0 ≤ 223
  · rw [if_pos c2] at h2; cases h2
  rw [if_neg c2] at h2 ⊢
  by_cases c3 : l.length < 2
  · rw [if_pos c3] at h2; cases h2
  rw [if_neg c3] at h2 ⊢
  by_cases c4 : isLo (uAt hi l 0)
  · rw [if_pos c4] at h2; cases h2
  rw [if_neg c4] at h2 ⊢
  by_cases c5 : isHi (uAt hi l 0)
  case neg =>
    rw [if_neg c5]
    exact ⟨by show 1 ≤ 2; omega, by show 2 ≤ l.length; omega, by show 2 ≤ 4; omega, by show uAt hi l 0 ≤ _; omega⟩
  rw [if_pos c5] at h2 ⊢
  by_cases c6 : l.length < 3
  · rw [if_pos c6] at h2; cases h2
  rw [if_neg c6] at h2 ⊢
  by_cases c7 : hi = 0 ∧ l.length < 4
  · rw [if_pos c7] at h2; cases h2
  rw [if_neg c7] at h2 ⊢
  by_cases c8 : hi ≠ 0 ∧ ¬ (220 ≤ bt l 2 ∧ bt l 2 ≤ 223)
  · rw [if_pos c8] at h2; cases h2
  rw [if_neg c8] at h2 ⊢
  by_cases c9 : l.length < 4
  · rw [if_pos c9] at h2; cases h2
  rw [if_neg c9] at h2 ⊢
  by_cases c10 : isLo (uAt hi l 2)
  case neg => rw [if_neg c10] at h2; cases h2
  rw [if_pos c10]
  unfold isHi at c5
  unfold isLo at c10
  exact ⟨by show 1 ≤ 4; omega, by show 4 ≤ l.length; omega, by show 4 ≤ 4; omega, by show 65536 + (uAt hi l 0 - 55296) * 1024 + (uAt hi l 2 - 56320) ≤ _; omega⟩
/-- a shift: which, and that none was pending -/
theorem gLk_sh {g : gP} {st pd : Nat} {l : List Nat} (h3 : (gLk g st pd l).1 = 3) : g 0 0 = 0 ∧ pd = 4 ∧ (gLk g st pd l).2.1 < g 3 0 ∧ 0 < l.length := by
  unfold gLk at h3 ⊢
  by_cases k3 : g 0 0 = 3
  · rw [if_pos k3] at h3
    unfold gLkF at h3
    (repeat' split at h3) <;> cases h3
  rw [if_neg k3] at h3 ⊢
  by_cases k0 : g 0 0 = 0
  · rw [if_pos k0] at h3 ⊢
    by_cases h1 : ff (gFm g (if pd = 4 then st else pd) l) (g 2 0) < g 2 0
    · rw [if_pos h1] at h3; cases h3
    rw [if_neg h1] at h3 ⊢
    by_cases h2 : pd = 4 ∧ 0 < l.length ∧ gSh g st (bt l 0) < g 3 0
    · rw [if_pos h2]
      exact ⟨k0, h2.1, h2.2.2, h2.2.1⟩
    · rw [if_neg h2] at h3
      (repeat' split at h3) <;> cases h3
  · rw [if_neg k0] at h3
    unfold gLkW at h3
    (repeat' split at h3) <;> cases h3
theorem gLk_c {g : gP} {st pd : Nat} {l : List Nat} : (gLk g st pd l).1 ≤ 3 := by
  unfold gLk
  split
  · unfold gLkF
    (repeat' split) <;> (dsimp only; omega)
  · split
    · (repeat' split) <;> (dsimp only; omega)
    · unfold gLkW
      (repeat' split) <;> (dsimp only; omega)
theorem gR1_n {g : gP} {rule sg st pd : Nat} {l : List Nat} (sm : gSm g) (hB : isB l) (hl : l ≠ []) : 1 ≤ (gR1 g rule sg st pd l).1 ∧ (gR1 g rule sg st pd l).1 ≤ l.length := by
  have hl' : 0 < l.length := List.length_pos_iff.mpr hl
  unfold gR1
  split
  · rename_i h; have := gLk_hit sm hB h; exact ⟨this.1, this.2.1⟩
  · split
    · split <;> exact ⟨Nat.le_refl _, hl'⟩
    · exact ⟨Nat.le_refl _, hl'⟩
theorem isB.drop {l : List Nat} (h : isB l) (k : Nat) : isB (l.drop k) := by
  intro i hi
  rw [List.length_drop] at hi
  have := h (k + i) (by omega)
  unfold bt at this ⊢
  rw [List.getD_eq_getElem?_getD] at this ⊢
  rw [List.getElem?_drop]
  exact this
theorem gRun_fuel {g : gP} {rule sg : Nat} {last : Bool} (sm : gSm g) : ∀ (n m st pd : Nat) (l o : List Nat) (f : Nat), isB l → l.length ≤ n → l.length ≤ m → gRun g rule sg last n st pd l o f = gRun g rule sg last m st pd l o f := by
  intro n
  induction n with
  | zero =>
    intro m st pd l o f hB h1 h2
    have : l = [] := List.length_eq_zero_iff.mp (by omega)
    subst this
    cases m with
    | zero => rfl
    | succ m => simp only [gRun, if_true]
  | succ n ih =>
    intro m st pd l o f hB h1 h2
    by_cases hl : l = []
    · subst hl
      cases m with
      | zero => simp only [gRun, if_true]
      | succ m => simp only [gRun, if_true]
    cases m with
    | zero => exact absurd (List.length_eq_zero_iff.mp (by omega)) hl
    | succ m =>
      simp only [gRun, hl, if_false]
      split
      · rfl
      · split
        · rfl
        · have := gR1_n (rule := rule) (sg := sg) (st := st) (pd := pd) sm hB hl
          exact ih m _ _ _ _ _ (hB.drop _) (by rw [List.length_drop]; omega) (by rw [List.length_drop]; omega)
noncomputable def gRead (g : gP) (rule sg : Nat) (last : Bool) (st pd : Nat) (l o : List Nat) (f : Nat) : Nat × Nat × Nat × List Nat × List Nat × Nat := gRun g rule sg last l.length st pd l o f
theorem gRead_nil (g : gP) (rule sg : Nat) (last : Bool) (st pd : Nat) (o : List Nat) (f : Nat) : gRead g rule sg last st pd [] o f = (0, st, pd, [], o, f) := rfl
theorem gRead_wait {g : gP} {rule sg st pd f : Nat} {l o : List Nat} (hl : l ≠ []) (h1 : (gLk g st pd l).1 = 1) : gRead g rule sg false st pd l o f = (0, st, pd, l, o, f) := by
  unfold gRead
  obtain ⟨n, hn⟩ : ∃ n, l.length = n + 1 := ⟨l.length - 1, by have := List.length_pos_iff.mpr hl; omega⟩
  rw [hn]
  simp only [gRun, hl, if_false, h1, true_and, if_true]
theorem gRead_ref {g : gP} {sg st pd f : Nat} {last : Bool} {l o : List Nat} (hl : l ≠ []) (h1 : (gLk g st pd l).1 ≤ 1) (h2 : ¬ ((gLk g st pd l).1 = 1 ∧ last = false)) : gRead g 0 sg last st pd l o f = (1, st, pd, l, o, f) := by
  unfold gRead
  obtain ⟨n, hn⟩ : ∃ n, l.length = n + 1 := ⟨l.length - 1, by have := List.length_pos_iff.mpr hl; omega⟩
  rw [hn]
  simp only [gRun, hl, if_false, h1, h2, and_self, if_true]
theorem gRead_step {g : gP} {rule sg st pd f : Nat} {last : Bool} {l o : List Nat} (sm : gSm g) (hB : isB l) (hl : l ≠ []) (h1 : ¬ ((gLk g st pd l).1 ≤ 1 ∧ rule = 0)) (h2 : ¬ ((gLk g st pd l).1 = 1 ∧ last = false)) : gRead g rule sg last st pd l o f = gRead g rule sg last (gR1 g rule sg st pd l).2.2.1 (gR1 g rule sg st pd l).2.2.2.1 (l.drop (gR1 g rule sg st pd l).1) (o ++ (gR1 g rule sg st pd l).2.1) (f + (gR1 g rule sg st pd l).2.2.2.2) := by
  have nn := gR1_n (rule := rule) (sg := sg) (st := st) (pd := pd) sm hB hl
  have e : gRead g rule sg last st pd l o f = gRun g rule sg last (l.length - 1) (gR1 g rule sg st pd l).2.2.1 (gR1 g rule sg st pd l).2.2.2.1 (l.drop (gR1 g rule sg st pd l).1) (o ++ (gR1 g rule sg st pd l).2.1) (f + (gR1 g rule sg st pd l).2.2.2.2) := by
    unfold gRead
    obtain ⟨n, hn⟩ : ∃ n, l.length = n + 1 := ⟨l.length - 1, by have := List.length_pos_iff.mpr hl; omega⟩
    rw [hn]
    simp only [gRun, hl, if_false, h1, h2, Nat.add_sub_cancel]
  rw [e]
  exact gRun_fuel sm _ _ _ _ _ _ _ (hB.drop _) (by rw [List.length_drop]; omega) (Nat.le_refl _)
/-! the model's side: what comes goes to a row -/
def RD (h : zH) (ob st pd : Nat) (o : List Nat) (f : Nat) : Prop := zP h 92 36 = some ob ∧ zI h 92 34 = nI st ∧ zI h 92 35 = nI pd ∧ zI h 92 37 = nI o.length ∧ rw h ob o ∧ zI h 92 39 = nI f
/-- a row that takes what comes -/
def obOk (h : zH) (ob : Nat) : Prop := (ob = 117 ∨ ob = 118 ∨ ob = 119 ∨ ob = 137) ∧ zT h ob = (100, if ob = 119 then 6400 else if ob = 137 then 1200 else 4000)
theorem obOk_fr {W : Nat → Nat → Prop} {h h' : zH} {ob : Nat} (f : fr W h h') (o : obOk h ob) : obOk h' ob := ⟨o.1, by rw [f.T]; exact o.2⟩
theorem m_put {h : zH} {ob st pd f v : Nat} {o : List Nat} (r : RD h ob st pd o f) (ok : obOk h ob) (hl : o.length < (zT h ob).2) : zw (fX9_put h 92 (nI v)) (fun h' => RD h' ob st pd (o ++ [v]) f ∧ fr (fun a j => a = ob ∨ a = 92 ∧ j = 37) h h') := by
  obtain ⟨r1, r2, r3, r4, r5, r6⟩ := r
  have ho := ok.1
  have hc : (zT h ob).2 ≤ 6400 := by rw [ok.2]; show (if ob = 119 then 6400 else if ob = 137 then 1200 else 4000) ≤ 6400; (repeat' split) <;> omega
  unfold fX9_put
  rw [r1, zb1_s, zw_ck, zw_let, zw_let, zw_some, r4, nI_clamp (by omega), eI, if_neg (by omega), r4, nI_1]
  refine ⟨⟨by omega, by rw [ok.2], vin hl (by omega)⟩, ⟨?_, ?_, ?_, ?_, ?_, ?_⟩, ?_⟩
  · exact r1
  · rw [eI, if_neg (by omega), eI, if_neg (by omega)]; exact r2
  · rw [eI, if_neg (by omega), eI, if_neg (by omega)]; exact r3
  · rw [eIs, List.length_append]; rfl
  · refine r5.app (fun j hj => ?_) ?_
    · rw [eI, if_neg (by omega), eI, if_neg (by omega)]
    · rw [eI, if_neg (by omega), eIs]
  · rw [eI, if_neg (by omega), eI, if_neg (by omega)]; exact r6
  · exact ((fr.refl _ h).sI (Or.inl rfl) _).sI (Or.inr ⟨rfl, rfl⟩) _
theorem m_first {v : Nat} (h1 : 65536 ≤ v) (h2 : v ≤ 1114111) : fX9_first (nI v) = some (nI (55296 + (v - 65536) / 1024)) ∧ fX9_second (nI v) = some (nI (56320 + (v - 65536) % 1024)) := by
  unfold fX9_first fX9_second
  rw [show (65536 : Int32) = nI 65536 from rfl, pk_sub h1, show (10 : Int32) = nI 10 from rfl, shrI (by omega) (by omega), show (55296 : Int32) = nI 55296 from rfl, nI_add, show (56320 : Int32) = nI 56320 from rfl, show nI (v - 65536) &&& 1023 = nI ((v - 65536) % 1024) from pk_andN (by omega) 10 (by decide), nI_add]
  exact ⟨rfl, rfl⟩
theorem m_putUnits {h : zH} {ob st pd f v : Nat} {o : List Nat} (r : RD h ob st pd o f) (ok : obOk h ob) (hl : o.length + 1 < (zT h ob).2) (hv : v ≤ 1114111) : zw (fX9_putUnits h 92 (nI v)) (fun h' => RD h' ob st pd (o ++ units v) f ∧ fr (fun a j => a = ob ∨ a = 92 ∧ j = 37) h h') := by
  unfold fX9_putUnits units
  by_cases h1 : v < 65536
  · rw [if_neg (by rw [li, nI_leI (by omega) (by omega)]; omega), if_pos h1, zw_b1]
    exact (m_put r ok (by omega)).mono fun h' hh => ⟨_, rfl, hh⟩
  · obtain ⟨e1, e2⟩ := m_first (by omega) hv
    rw [if_pos (by rw [li, nI_leI (by omega) (by omega)]; omega), if_neg h1, e1, zb1_s, zw_b1]
    refine (m_put r ok (by omega)).mono ?_
    rintro h2 ⟨r2, f2⟩
    rw [e2, zb1_s, zw_b1]
    refine (m_put r2 (obOk_fr f2 ok) (by rw [List.length_append, f2.T]; exact hl)).mono ?_
    rintro h3 ⟨r3, f3⟩
    rw [zw_some]
    refine ⟨?_, f2.trans f3⟩
    rw [List.append_assoc] at r3
    exact r3
