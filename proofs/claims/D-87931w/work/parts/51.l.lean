/-! what a closed table has beside: items, sorted rows, ways -/
set_option maxRecDepth 100000
/-- an item: an entry, or a shift and 100 -/
def iOk (g : gP) (i : Nat) : Prop := i < g 2 0 ∨ 100 ≤ i ∧ i - 100 < g 3 0
def iSt (g : gP) (i : Nat) : Nat := if i < 100 then g 4 i else g 9 (i - 100)
def iLn (g : gP) (i : Nat) : Nat := if i < 100 then g 5 i else 1
def iBy (g : gP) (i : Nat) : Nat := if i < 100 then g 6 i else g 10 (i - 100)
def iKey (g : gP) (i : Nat) : Nat := iBy g i * 2 ^ (8 * (3 - iLn g i))
def gSorted (g : gP) (sn : Nat → Nat) (so : Nat → Nat → Nat) : Prop := ∀ s, s < 4 → sn s ≤ 110 ∧ (∀ i, i < sn s → iOk g (so s i) ∧ iSt g (so s i) = s) ∧ (∀ i j, i < j → j < sn s → iKey g (so s i) ≤ iKey g (so s j)) ∧ ∀ t, iOk g t → iSt g t = s → ∃ i, i < sn s ∧ so s i = t
def gTurned (g : gP) (tn : Nat) (tu : Nat → Nat) : Prop := tn ≤ 100 ∧ (∀ i, i < tn → tu i < g 2 0 ∧ g 8 (tu i) = 1) ∧ (∀ i j, i < j → j < tn → g 7 (tu i) < g 7 (tu j)) ∧ ∀ k, k < g 2 0 → g 8 k = 1 → ∃ i, i < tn ∧ tu i = k
/-- just n shifts from s to t, by the least bytes: these shifts -/
def gLd (g : gP) (sg : Bool) : Nat → Nat → Nat → Option (List Nat)
  | 0, s, t => if s = t then some [] else none
  | n + 1, s, t =>
    let b := ff (fun b => decide (gSh g s b < g 3 0) && (if n = 0 then g 11 (gSh g s b) == t && (g 12 (gSh g s b) == 1 || sg) else g 12 (gSh g s b) == 1 && (gLd g sg n (g 11 (gSh g s b)) t).isSome)) 256
    if b < 256 then some (gSh g s b :: (if n = 0 then [] else (gLd g sg n (g 11 (gSh g s b)) t).getD [])) else none
/-- the fewest shifts -/
def gGo (g : gP) (sg : Bool) (s t : Nat) : Option (List Nat) := gLd g sg (ff (fun n => (gLd g sg n s t).isSome) 7) s t
/-- a number of bytes, the highest first -/
def bNum (l : List Nat) : Nat := l.foldl (fun a b => a * 256 + b) 0
/-- the state behind shifts -/
def gEnd (g : gP) (s : Nat) (l : List Nat) : Nat := l.foldl (fun s k => if g 12 k = 1 then g 11 k else s) s
def wI (o : Option (List Nat)) : Int32 := match o with
  | none => -1
  | some l => nI l.length
/-- the ways of a table at a -/
def xWay (h : zH) (a : Nat) (g : gP) : Prop := ∀ s t, s < 4 → t < 4 → zI h (a + 17) (4 * s + t) = wI (gGo g false s t) ∧ (∀ l, gGo g false s t = some l → zL h (a + 18) (4 * s + t) = lN (bNum (l.map (g 10)))) ∧ zI h (a + 19) (4 * s + t) = wI (gGo g true s t) ∧ ∀ l, gGo g true s t = some l → zL h (a + 20) (4 * s + t) = lN (bNum (l.map (g 10))) ∧ zI h (a + 21) (4 * s + t) = nI (gEnd g s l)
def xSor (h : zH) (a : Nat) (g : gP) : Prop := ∃ (sn : Nat → Nat) (so : Nat → Nat → Nat), (∀ s, s < 4 → zI h (a + 15) s = nI (sn s) ∧ ∀ i, i < sn s → zI h (a + 11 + s) i = nI (so s i)) ∧ gSorted g sn so
def xTur (h : zH) (a : Nat) (g : gP) : Prop := ∃ (tn : Nat) (tu : Nat → Nat), zI h a 18 = nI tn ∧ (∀ i, i < tn → zI h (a + 16) i = nI (tu i)) ∧ gTurned g tn tu
/-- where a column of entries lies in a table -/
def xo (c : Nat) : Nat := if c = 0 then 1 else if c = 1 then 3 else if c = 2 then 2 else c + 1
/-- a table's own cells -/
def xTab (h : zH) (a : Nat) (g : gP) : Prop := zI h a 3 = nI (g 1 0) ∧ zI h a 4 = nI (g 2 0) ∧ zI h a 10 = nI (g 3 0) ∧ (∀ c k, c < 5 → k < g 2 0 → zI h (a + xo c) k = nI (g (4 + c) k)) ∧ ∀ c k, c < 4 → k < g 3 0 → zI h (a + 6 + c) k = nI (g (9 + c) k)
def xCl (h : zH) (a : Nat) (g : gP) : Prop := xWay h a g ∧ xSor h a g ∧ xTur h a g
/-- a page at a -/
def xPg (h : zH) (a : Nat) (g : gP) : Prop := (g 0 0 = 0 → zTb h a ∧ xTab h a g ∧ (g 1 0 = 1 → xCl h a g)) ∧ (g 0 0 ≠ 0 → zOb (7 + g 0 0) h a ∧ g 1 0 = 1 ∧ g 2 0 = 0 ∧ g 3 0 = 0)
section XTB
variable {h : zH} {a k : Nat} {g : gP}
theorem xTab.e0 (m : xTab h a g) (hk : k < g 2 0) : zI h (a + 1) k = nI (g 4 k) := m.2.2.2.1 0 k (by omega) hk
theorem xTab.e1 (m : xTab h a g) (hk : k < g 2 0) : zI h (a + 3) k = nI (g 5 k) := m.2.2.2.1 1 k (by omega) hk
theorem xTab.e2 (m : xTab h a g) (hk : k < g 2 0) : zI h (a + 2) k = nI (g 6 k) := m.2.2.2.1 2 k (by omega) hk
theorem xTab.e3 (m : xTab h a g) (hk : k < g 2 0) : zI h (a + 4) k = nI (g 7 k) := m.2.2.2.1 3 k (by omega) hk
theorem xTab.e4 (m : xTab h a g) (hk : k < g 2 0) : zI h (a + 5) k = nI (g 8 k) := m.2.2.2.1 4 k (by omega) hk
theorem xTab.s0 (m : xTab h a g) (hk : k < g 3 0) : zI h (a + 6) k = nI (g 9 k) := m.2.2.2.2 0 k (by omega) hk
theorem xTab.s1 (m : xTab h a g) (hk : k < g 3 0) : zI h (a + 7) k = nI (g 10 k) := m.2.2.2.2 1 k (by omega) hk
theorem xTab.s2 (m : xTab h a g) (hk : k < g 3 0) : zI h (a + 8) k = nI (g 11 k) := m.2.2.2.2 2 k (by omega) hk
theorem xTab.s3 (m : xTab h a g) (hk : k < g 3 0) : zI h (a + 9) k = nI (g 12 k) := m.2.2.2.2 3 k (by omega) hk
end XTB
/-! a frame that lets new things be made -/
def fx (W : Nat → Nat → Prop) (h h' : zH) : Prop := zLe h h' ∧ (∀ a, a < zn h → zT h' a = zT h a) ∧ (∀ a j, a < zn h → ¬ W a j → zI h' a j = zI h a j ∧ zP h' a j = zP h a j ∧ zL h' a j = zL h a j) ∧ ∀ a j, a < zn h → zFn (zT h a) j = true → zP h' a j = zP h a j
section FX
variable {W V : Nat → Nat → Prop} {h h1 h2 : zH} {a k : Nat}
theorem fr.fx (f : fr W h h1) : fx W h h1 := ⟨f.lx.1, fun a _ => by rw [f.T], fun a j _ n => f.2.2.1 a j n, fun a j _ e => f.2.2.2 a j e⟩
theorem fx.refl (W : Nat → Nat → Prop) (h : zH) : fx W h h := (fr.refl W h).fx
theorem fx.trans (f : fx W h h1) (g : fx W h1 h2) : fx W h h2 :=
  have lt : ∀ {a}, a < zn h → a < zn h1 := fun ha => Nat.lt_of_lt_of_le ha f.1.1
  ⟨zLe_tr f.1 g.1, fun a ha => (g.2.1 a (lt ha)).trans (f.2.1 a ha), fun a j ha n => ⟨(g.2.2.1 a j (lt ha) n).1.trans (f.2.2.1 a j ha n).1, (g.2.2.1 a j (lt ha) n).2.1.trans (f.2.2.1 a j ha n).2.1, (g.2.2.1 a j (lt ha) n).2.2.trans (f.2.2.1 a j ha n).2.2⟩, fun a j ha e => (g.2.2.2 a j (lt ha) (by rw [f.2.1 a ha]; exact e)).trans (f.2.2.2 a j ha e)⟩
theorem fx.mono (f : fx W h h1) (hv : ∀ a j, W a j → V a j) : fx V h h1 := ⟨f.1, f.2.1, fun a j ha n => f.2.2.1 a j ha (fun w => n (hv a j w)), f.2.2.2⟩
/-- what was changed beyond the old cells needs no leave -/
theorem fx.monoN (f : fx W h h1) (hv : ∀ a j, a < zn h → W a j → V a j) : fx V h h1 := ⟨f.1, f.2.1, fun a j ha n => f.2.2.1 a j ha (fun w => n (hv a j ha w)), f.2.2.2⟩
theorem fx.I (f : fx W h h1) (ha : a < zn h) (hw : ¬ W a k) : zI h1 a k = zI h a k := (f.2.2.1 a k ha hw).1
theorem fx.P (f : fx W h h1) (ha : a < zn h) (hw : ¬ W a k) : zP h1 a k = zP h a k := (f.2.2.1 a k ha hw).2.1
theorem fx.L (f : fx W h h1) (ha : a < zn h) (hw : ¬ W a k) : zL h1 a k = zL h a k := (f.2.2.1 a k ha hw).2.2
theorem fx.lx (f : fx W h h1) : zLx h h1 := ⟨f.1, f.2.1, fun a j b ha e1 e2 => (f.2.2.2 a j ha e1).trans e2⟩
theorem fx.mk (h : zH) (t : Nat × Nat) (n : Nat) : fx W h (zmk h t n) :=
  ⟨⟨Nat.le_succ _, Nat.le_succ _, Nat.le_add_right _ _⟩, fun a ha => by rw [mk_T, if_neg (by omega)], fun a j ha _ => ⟨by rw [mk_I, if_neg (by omega)], by rw [mk_P, if_neg (by omega)], by rw [mk_L, if_neg (by omega)]⟩, fun a j ha _ => by rw [mk_P, if_neg (by omega)]⟩
theorem fx.mke (h : zH) (nc nu : Nat) : fx W h (zmke h nc nu) :=
  ⟨⟨Nat.le_succ _, Nat.le_add_right _ _, Nat.le_add_right _ _⟩, fun a ha => va_up_ne _ _ (Nat.ne_of_lt ha), fun a j ha _ => ⟨congrFun (va_up_ne (zI h) _ (Nat.ne_of_lt ha)) j, congrFun (va_up_ne (zP h) _ (Nat.ne_of_lt ha)) j, congrFun (va_up_ne (zL h) _ (Nat.ne_of_lt ha)) j⟩, fun a j ha _ => congrFun (va_up_ne (zP h) _ (Nat.ne_of_lt ha)) j⟩
theorem zBl.fx (b : zBl h h1 (zn h)) (hl : zLe h h1) : fx W h h1 := ⟨hl, fun a ha => (b a ha).1, fun a j ha _ => ⟨by rw [(b a ha).2.2.1], by rw [(b a ha).2.1], by rw [(b a ha).2.2.2]⟩, fun a j ha _ => by rw [(b a ha).2.1]⟩
end FX
