/-! the exchange: blocks of its cells -/
set_option maxRecDepth 100000
def xB : List (Nat × Nat) := [(1, 0), (2, 0), (103, 10), (3, 0), (100, 100), (100, 100), (100, 100), (100, 100), (101, 100), (100, 10), (100, 10), (100, 10), (101, 10), (106, 4), (100, 110), (100, 110), (100, 110), (100, 110), (100, 4), (100, 100), (100, 16), (102, 16), (100, 16), (102, 16), (100, 16), (100, 1000), (100, 1000), (100, 2), (100, 41), (100, 41), (100, 164), (100, 41), (103, 4), (104, 4), (105, 4), (4, 0), (100, 700), (100, 4), (5, 0), (100, 700), (100, 16), (6, 0), (100, 6000), (6, 0), (100, 6000), (6, 0), (100, 6000), (100, 6), (6, 0), (100, 6000), (6, 0), (100, 6000), (100, 2), (7, 0), (7, 0), (7, 0), (7, 0), (7, 0), (7, 0), (7, 0), (7, 0), (7, 0), (7, 0), (7, 0), (4, 0), (100, 700), (100, 4), (5, 0), (100, 700), (100, 16), (7, 0), (4, 0), (100, 700), (100, 4), (5, 0), (100, 700), (100, 16), (7, 0), (4, 0), (100, 700), (100, 4), (5, 0), (100, 700), (100, 16), (7, 0), (4, 0), (100, 700), (100, 4), (5, 0), (100, 700), (100, 16)]
def xP : List (Nat × Nat × Nat) := [(0, 0, 1), (0, 1, 2), (0, 4, 25), (0, 6, 26), (0, 8, 27), (0, 10, 28), (0, 11, 29), (0, 12, 30), (0, 13, 31), (0, 14, 32), (0, 15, 33), (0, 16, 34), (0, 17, 35), (0, 18, 38), (0, 26, 45), (0, 28, 47), (0, 29, 48), (0, 30, 50), (0, 31, 52), (2, 0, 53), (2, 1, 54), (2, 2, 55), (2, 3, 56), (2, 4, 57), (2, 5, 58), (2, 6, 59), (2, 7, 60), (2, 8, 61), (2, 9, 62), (3, 5, 4), (3, 6, 5), (3, 7, 6), (3, 8, 7), (3, 9, 8), (3, 11, 9), (3, 12, 10), (3, 13, 11), (3, 14, 12), (3, 15, 13), (3, 16, 18), (3, 17, 19), (3, 19, 20), (3, 20, 21), (3, 21, 22), (3, 22, 23), (3, 23, 24), (13, 0, 14), (13, 1, 15), (13, 2, 16), (13, 3, 17), (32, 0, 63), (32, 1, 70), (32, 2, 77), (32, 3, 84), (33, 0, 64), (33, 1, 71), (33, 2, 78), (33, 3, 85), (34, 0, 67), (34, 1, 74), (34, 2, 81), (34, 3, 88), (35, 0, 36), (35, 11, 0), (35, 12, 37), (35, 14, 0), (38, 0, 39), (38, 11, 0), (38, 13, 40), (38, 15, 0), (41, 0, 42), (41, 3, 0), (43, 0, 44), (43, 3, 0), (45, 0, 46), (45, 3, 0), (48, 0, 49), (48, 3, 0), (50, 0, 51), (50, 3, 0), (64, 0, 65), (64, 11, 0), (64, 12, 66), (64, 14, 0), (67, 0, 68), (67, 11, 0), (67, 13, 69), (67, 15, 0), (71, 0, 72), (71, 11, 0), (71, 12, 73), (71, 14, 0), (74, 0, 75), (74, 11, 0), (74, 13, 76), (74, 15, 0), (78, 0, 79), (78, 11, 0), (78, 12, 80), (78, 14, 0), (81, 0, 82), (81, 11, 0), (81, 13, 83), (81, 15, 0), (85, 0, 86), (85, 11, 0), (85, 12, 87), (85, 14, 0), (88, 0, 89), (88, 11, 0), (88, 13, 90), (88, 15, 0)]
def rB : List (Nat × Nat) := [(6, 0), (100, 6000)]
def rP : List (Nat × Nat × Nat) := [(0, 0, 1)]
def dB : List (Nat × Nat) := [(4, 0), (100, 700), (100, 4)]
def dP : List (Nat × Nat × Nat) := [(0, 0, 1), (0, 12, 2)]
def wB : List (Nat × Nat) := [(5, 0), (100, 700), (100, 16)]
def wP : List (Nat × Nat × Nat) := [(0, 0, 1), (0, 13, 2)]
def zOb (ci : Nat) (h : zH) (a : Nat) : Prop := zCt [([(ci + 1, 0)], [], a)] [] h
def zXx (h : zH) (a : Nat) : Prop := zCt [(xB, xP, a)] [] h
def zTb (h : zH) (a : Nat) : Prop := zCt [(tB, tP, a)] [] h
def zRw (h : zH) (a xx : Nat) : Prop := zCt [(rB, rP, a), (xB, xP, xx)] [(a, 3, xx)] h
def zRd (h : zH) (a xx : Nat) : Prop := zCt [(dB, dP, a), (xB, xP, xx)] [(a, 11, xx), (a, 14, xx)] h
def zWr (h : zH) (a xx : Nat) : Prop := zCt [(wB, wP, a), (xB, xP, xx)] [(a, 11, xx), (a, 15, xx)] h
/-! what is known of a cell of one of several classes; their rows -/
theorem zdsp {α : Type} {c : Prop} [Decidable c] {A B : Option α} {y : α} {P : Prop} (hf : (if c then A else B) = some y) (ht : c → A = some y → P) (he : ¬ c → B = some y → P) : P := by
  by_cases h : c
  · rw [if_pos h] at hf; exact ht h hf
  · rw [if_neg h] at hf; exact he h hf
theorem zrq_some {γ : Type} {o : Option Nat} {n : Option γ} {k : Nat → Option γ} {y : γ} (h : zrq o n k = some y) : (o = none ∧ n = some y) ∨ ∃ a, o = some a ∧ k a = some y := by
  cases o with
  | none => exact Or.inl ⟨rfl, h⟩
  | some a => exact Or.inr ⟨a, rfl, h⟩
theorem zLx_F {h h' : zH} {x k : Nat} {v : Option Nat} (hn : zP h x k = none) (he : h' = zsP h x k v) : zLx h h' := by
  subst he
  exact ⟨⟨Nat.le_refl _, Nat.le_refl _, Nat.le_refl _⟩, fun _ _ => rfl, fun a j b _ hf' e => zPk_F hn a j b hf' e⟩
theorem zLx_I {h h' : zH} {x k : Nat} {v : Int32} (he : h' = zsI h x k v) : zLx h h' := by
  subst he
  exact ⟨⟨Nat.le_refl _, Nat.le_refl _, Nat.le_refl _⟩, fun _ _ => rfl, fun _ _ _ _ _ e => e⟩
theorem zLx_L {h h' : zH} {x k : Nat} {v : Int64} (he : h' = zsL h x k v) : zLx h h' := by
  subst he
  exact ⟨⟨Nat.le_refl _, Nat.le_refl _, Nat.le_refl _⟩, fun _ _ => rfl, fun _ _ _ _ _ e => e⟩
theorem zLx_mk' {h h' : zH} {t : Nat × Nat} {N : Nat} (he : h' = zmk h t N) : zLx h h' := by
  subst he
  exact zLx_mk (zLx_rf _)
def zPg (h : zH) (a : Nat) : Prop := ∃ ci, ci ∈ [2, 8, 9, 10] ∧ zOb ci h a
def zMc (h : zH) (a : Nat) : Prop := ∃ ci, ci ∈ [3, 4] ∧ zOb ci h a
section ZPG
variable {h h' : zH} {a x k : Nat}
theorem zPg.ext (hp : zPg h a) (hx : zLx h h') : zPg h' a := by obtain ⟨ci, h1, h2⟩ := hp; exact ⟨ci, h1, zCt.ext h2 hx⟩
theorem zMc.ext (hp : zMc h a) (hx : zLx h h') : zMc h' a := by obtain ⟨ci, h1, h2⟩ := hp; exact ⟨ci, h1, zCt.ext h2 hx⟩
theorem zPg.I {v : Int32} (hp : zPg h a) (he : h' = zsI h x k v) : zPg h' a := hp.ext (zLx_I he)
theorem zMc.I {v : Int32} (hp : zMc h a) (he : h' = zsI h x k v) : zMc h' a := hp.ext (zLx_I he)
theorem zPg.L {v : Int64} (hp : zPg h a) (he : h' = zsL h x k v) : zPg h' a := hp.ext (zLx_L he)
theorem zMc.L {v : Int64} (hp : zMc h a) (he : h' = zsL h x k v) : zMc h' a := hp.ext (zLx_L he)
theorem zPg.P {v : Option Nat} (hp : zPg h a) (hf : zFn (zT h x) k = false) (he : h' = zsP h x k v) : zPg h' a := hp.ext (zLx_P hf he)
theorem zMc.P {v : Option Nat} (hp : zMc h a) (hf : zFn (zT h x) k = false) (he : h' = zsP h x k v) : zMc h' a := hp.ext (zLx_P hf he)
theorem zPg.mk {t : Nat × Nat} {N : Nat} (hp : zPg h a) (he : h' = zmk h t N) : zPg h' a := hp.ext (zLx_mk' he)
theorem zMc.mk {t : Nat × Nat} {N : Nat} (hp : zMc h a) (he : h' = zmk h t N) : zMc h' a := hp.ext (zLx_mk' he)
theorem zOb.t {ci : Nat} (ho : zOb ci h a) : zT h a = (ci + 1, 0) := (zCt.b ho 0 rfl).t 0 rfl
end ZPG
section ZGP
variable {F : zF} {nL : Nat} {cc : ByteArray} {own nm : String} {ret : Option FieldType} {hh : List (Nat × Nat × Nat × Nat)} {h : zH} {pc : Nat} {lc : List (Nat × Value)} {st : List Value} {index k a : Nat} {fin : Bool}
theorem z_getqv {ci : Nat} {ty : FieldType} {q : Option Nat} (hf : zFd own index ci k ty fin) (hty : (∃ n, ty = .object n) ∨ ∃ t, ty = .array t) (ha : zT h a = (ci + 1, 0)) (hq : q = zP h a k) (hd : decode cc pc = .ok (.getfield index, 3)) (kk : Z F nL cc own nm ret hh h (pc + 3) lc (va_rf q :: st)) : Z F nL cc own nm ret hh h pc lc (.ref a :: st) := by
  subst hq
  exact z_getq hf hty ha hd kk
theorem z_getiP (hf : ∀ ci ∈ [2, 8, 9, 10], zFd own index ci k .int fin) (hp : zPg h a) (hd : decode cc pc = .ok (.getfield index, 3)) (kk : Z F nL cc own nm ret hh h (pc + 3) lc (.int (zI h a k) :: st)) : Z F nL cc own nm ret hh h pc lc (.ref a :: st) := by
  obtain ⟨ci, h1, h2⟩ := hp; exact z_geti (hf ci h1) h2.t hd kk
theorem z_getzP (hf : ∀ ci ∈ [2, 8, 9, 10], zFd own index ci k .boolean fin) (hp : zPg h a) (hd : decode cc pc = .ok (.getfield index, 3)) (kk : Z F nL cc own nm ret hh h (pc + 3) lc (.int (zI h a k) :: st)) : Z F nL cc own nm ret hh h pc lc (.ref a :: st) := by
  obtain ⟨ci, h1, h2⟩ := hp; exact z_getz (hf ci h1) h2.t hd kk
theorem z_getiM (hf : ∀ ci ∈ [3, 4], zFd own index ci k .int fin) (hp : zMc h a) (hd : decode cc pc = .ok (.getfield index, 3)) (kk : Z F nL cc own nm ret hh h (pc + 3) lc (.int (zI h a k) :: st)) : Z F nL cc own nm ret hh h pc lc (.ref a :: st) := by
  obtain ⟨ci, h1, h2⟩ := hp; exact z_geti (hf ci h1) h2.t hd kk
theorem z_castP (hc : ∀ ci ∈ [2, 8, 9, 10], zCa own index ci) (hp : zPg h a) (hd : decode cc pc = .ok (.checkcast index, 3)) (kk : Z F nL cc own nm ret hh h (pc + 3) lc (.ref a :: st)) : Z F nL cc own nm ret hh h pc lc (.ref a :: st) := by
  obtain ⟨ci, h1, h2⟩ := hp; exact z_cast (hc ci h1) h2.t hd kk
theorem z_castM (hc : ∀ ci ∈ [3, 4], zCa own index ci) (hp : zMc h a) (hd : decode cc pc = .ok (.checkcast index, 3)) (kk : Z F nL cc own nm ret hh h (pc + 3) lc (.ref a :: st)) : Z F nL cc own nm ret hh h pc lc (.ref a :: st) := by
  obtain ⟨ci, h1, h2⟩ := hp; exact z_cast (hc ci h1) h2.t hd kk
theorem z_instP (hl : Cond.classLink own index "CodeExchange$Table" ∈ lw_all) (hp : zPg h a) (hd : decode cc pc = .ok (.instanceof index, 3)) (kk : Z F nL cc own nm ret hh h (pc + 3) lc (.int (if zT h a = (3, 0) then 1 else 0) :: st)) : Z F nL cc own nm ret hh h pc lc (.ref a :: st) := by
  obtain ⟨ci, h1, h2⟩ := hp
  have ht := h2.t
  simp only [List.mem_cons, List.not_mem_nil, or_false] at h1
  rcases h1 with rfl | rfl | rfl | rfl
  · rw [if_pos ht] at kk; exact z_inst ⟨_, _, _, rfl, rfl, hl, Or.inl rfl⟩ ht hd kk
  · rw [if_neg (by rw [ht]; decide)] at kk; exact z_instNo (ci := 8) rfl rfl hl (by decide) ht hd kk
  · rw [if_neg (by rw [ht]; decide)] at kk; exact z_instNo (ci := 9) rfl rfl hl (by decide) ht hd kk
  · rw [if_neg (by rw [ht]; decide)] at kk; exact z_instNo (ci := 10) rfl rfl hl (by decide) ht hd kk
theorem z_instM (hl : Cond.classLink own index "CodeExchange$Writer" ∈ lw_all) (hp : zMc h a) (hd : decode cc pc = .ok (.instanceof index, 3)) (kk : Z F nL cc own nm ret hh h (pc + 3) lc (.int (if zT h a = (5, 0) then 1 else 0) :: st)) : Z F nL cc own nm ret hh h pc lc (.ref a :: st) := by
  obtain ⟨ci, h1, h2⟩ := hp
  have ht := h2.t
  simp only [List.mem_cons, List.not_mem_nil, or_false] at h1
  rcases h1 with rfl | rfl
  · rw [if_neg (by rw [ht]; decide)] at kk; exact z_instNo (ci := 3) rfl rfl hl (by decide) ht hd kk
  · rw [if_pos ht] at kk; exact z_inst (ci := 4) ⟨_, _, _, rfl, rfl, hl, Or.inl rfl⟩ ht hd kk
end ZGP
/-! Throwable's constructor without a trace and without suppressed ones: behind it a Refusal's cell is as it was -/
section ZTH
/-- a cell is another but for some slots -/
def zEq (S : List Nat) (c c' : Cell) : Prop := c' = { c with slots := c'.slots } ∧ c'.slots.size = c.slots.size ∧ ∀ i, i ∉ S → c'.slots[i]? = c.slots[i]?
theorem zEq.w {S : List Nat} {c c' : Cell} (h : zEq S c c') (i : Nat) (v : Value) : zEq (i :: S) c (c'.setSlot i v) := by
  obtain ⟨h1, h2, h3⟩ := h
  refine ⟨by rw [h1]; rfl, by simp [Cell.setSlot, h2], fun j hj => ?_⟩
  simp only [List.mem_cons, not_or] at hj
  rw [← h3 j hj.2]
  simp [Cell.setSlot, Array.getElem?_setIfInBounds, Ne.symm hj.1]
theorem zEq.b {S : List Nat} {c c' : Cell} (h : zEq S c c') (i : Nat) {v : Value} (hv : c.slots[i]? = some v) : zEq (S.filter (fun j => decide (j ≠ i))) c (c'.setSlot i v) := by
  obtain ⟨h1, h2, h3⟩ := h
  refine ⟨by rw [h1]; rfl, by simp [Cell.setSlot, h2], fun j hj => ?_⟩
  have hlt : i < c.slots.size := (Array.getElem?_eq_some_iff.mp hv).1
  by_cases e : j = i
  · subst e
    rw [hv]
    simp [Cell.setSlot, Array.getElem?_setIfInBounds, h2, hlt]
  · have : j ∉ S := fun hm => hj (List.mem_filter.mpr ⟨hm, by simp [e]⟩)
    rw [← h3 j this]
    simp [Cell.setSlot, Array.getElem?_setIfInBounds, Ne.symm e]
theorem zEq.e {c c' : Cell} (h : zEq [] c c') : c' = c := by
  obtain ⟨h1, h2, h3⟩ := h
  have e : c'.slots = c.slots := Array.ext_getElem? (fun i => h3 i (by simp))
  rw [h1, e]
theorem zEq.cls {S : List Nat} {c c' : Cell} (h : zEq S c c') : c'.cls = c.cls := by rw [h.1]
theorem zEq.vm {S : List Nat} {c c' : Cell} (h : zEq S c c') : c'.vm = c.vm := by rw [h.1]
/-- a static of Throwable's -/
theorem zThrS {args : Array Value} {s : State} {D : zD} {bs : Nat} {r : Nat → Nat} {h : zH} {H : Heap} {n d : String} (hts : ∀ w ∈ lw_all, w.before args s = true) (hKn : zKn D s) (z3 : zSim D bs r h H) (h1 : Cond.laysStatic "java/lang/Throwable" n d ∈ zSt) (h2 : Cond.isRef (.static "java/lang/Throwable" n d) ∈ zSt) :
    ∃ (cf : ClassId) (k : Class) (i : Nat) (f : Field) (a : Addr) (cell : Cell) (u : RefV), s.fieldFound? "java/lang/Throwable" n d = some (cf, k, i, f) ∧ f.isStatic = true ∧ k.init = .initialized ∧ k.statics = some a ∧ a < bs ∧ H[a]? = some cell ∧ cell.vm ≠ .unknown ∧ cell.slots[f.slot]? = some u.v := by
  have hV := (hKn.2.2.2.2.2 { s with heap := D.2.2.2 } (Vm.Alike.refl _) (fun q _ => rfl)).1
  obtain ⟨c, k, i, f, a, cell, hc, hf, hst, ha, hcell, hiss, hcls, hlt, hty⟩ := Cond.laysStatic_spec (hV _ h1 args)
  obtain ⟨u, hu⟩ := Cond.staticRefV hf hst ha hcell hiss (hV _ h2 args)
  have hf : s.fieldFound? "java/lang/Throwable" n d = some (c, k, i, f) := hf
  have hk : s.vm.classes[c]? = some k := zfound_cls hf
  have hc : s.vm.findClass "java/lang/Throwable" = some c := hc
  have hi0 : (Cond.initialized "java/lang/Throwable").holds args s none s [] = true := hts _ q98
  have hin := Cond.initialized_spec hc hk hi0
  have hcell : D.2.2.2[a]? = some cell := hcell
  obtain ⟨s11, s12⟩ : D.2.2.2.size ≤ bs ∧ ∀ q : Nat, q < bs → H[q]? = D.2.2.2[q]? := z3.2.2.2.2.2.2.2.2.2.2
  have hab : a < bs := Nat.lt_of_lt_of_le (Array.getElem?_eq_some_iff.mp hcell).1 s11
  exact ⟨c, k, i, f, a, cell, u, hf, hst, hin, ha, hab, (by rw [s12 a hab]; exact hcell), (fun e => by rw [e] at hiss; cases hiss), hu⟩
theorem zRefV_fits (u : RefV) {ty : FieldType} (hty : (∃ n, ty = .object n) ∨ ∃ t, ty = .array t) : narrow ty u.v = u.v ∧ fits ty u.v = true := by
  obtain ⟨v, hv⟩ := u
  rcases hty with ⟨n, rfl⟩ | ⟨t, rfl⟩ <;> cases v <;> first | exact ⟨rfl, rfl⟩ | cases hv
theorem zThr {F : zF} {nm : String} {ret : Option FieldType} {hh : List (Nat × Nat × Nat × Nat)} {h : zH} {a : Nat} (hT : zT h a = (2, 0)) (h0 : a ≠ 0) (hN : ∀ k, k < 4 → zP h a k = none) (kk : Z F 5 cJ0_init_2 RJ0 nm ret hh h 60 [(0, .ref a), (1, .null), (2, .null), (3, .int 0), (4, .int 0)] []) :
    Z F 5 cJ0_init_2 RJ0 nm ret hh h 4 [(0, .ref a), (1, .null), (2, .null), (3, .int 0), (4, .int 0)] [] := by
  refine ⟨kk.1, fun K hC r H locs ls hz => ?_⟩
  have hw := fun locs' hz' => kk.2 K hC r H locs' ls hz'
  obtain ⟨l, d, h0', x⟩ := F
  obtain ⟨p, e, s, m, args, below, meth, c, D, bs, r0⟩ := K
  obtain ⟨z1, z2, z3, z4, z5, z6, z7⟩ := hz
  obtain ⟨hx1, hb, hml, hown, hts, hKn, -⟩ := hC
  have han : a < zn h := z5 (0, .ref a) List.mem_cons_self a rfl
  have hbs : bs ≤ r a := z3.2.1 a han h0
  have g0 : ls[0]? = some (.val (.ref (r a))) := lv_at z7 0 rfl
  have g1 : ls[1]? = some (.val .null) := lv_at z7 1 rfl
  have g2 : ls[2]? = some (.val .null) := lv_at z7 2 rfl
  have g3 : ls[3]? = some (.val (.int 0)) := lv_at z7 3 rfl
  have g4 : ls[4]? = some (.val (.int 0)) := lv_at z7 4 rfl
  obtain ⟨cell, q1, q2, q3, q4⟩ := z3.2.2.2.2.2.1 a 1 (RX1, TX1, 7) tyX1 han hT rfl rfl
  obtain ⟨hSl, hfc, kC, hkC, hkind⟩ := hKn.1 1 (RX1, TX1, 7) rfl
  have hap := zapart (ci := 1) (q := (RX1, TX1, 7)) (ty := tyX1) hts hKn rfl rfl
  have fld : ∀ k, k < 4 → (∃ n, tyX1 k = .object n) ∨ ∃ t, tyX1 k = .array t := by
    intro k hk
    match k, hk with
    | 0, _ => exact Or.inl ⟨_, rfl⟩
    | 1, _ => exact Or.inr ⟨_, rfl⟩
    | 2, _ => exact Or.inl ⟨_, rfl⟩
    | 3, _ => exact Or.inl ⟨_, rfl⟩
  have val : ∀ k, k < 4 → cell.slots[D.2.1 1 k]? = some .null := by
    intro k hk
    have e := q4 k (show k < 7 by omega)
    rw [e]
    show some (zfv r h (tyX1 k) a k) = _
    rcases fld k hk with ⟨n, e1⟩ | ⟨t, e1⟩ <;> rw [e1] <;> show some (zv r (va_rf (zP h a k))) = _ <;> rw [hN k hk] <;> rfl
  have all : ∀ k, k < 4 → ∃ (cf : ClassId) (kf : Class) (fi : Nat) (f : Field), s.fieldFound? (TX1 k).1 (TX1 k).2.1 (TX1 k).2.2.1 = some (cf, kf, fi, f) ∧ f.slot = D.2.1 1 k ∧ f.isStatic = false ∧ ∀ v : Value, narrow (tyX1 k) v = v ∧ fits (tyX1 k) v = true → k2_Sd s f cell.cls v := by
    intro k hk
    obtain ⟨cf, kf, fi, f, hi, hsl⟩ := hSl k (show k < 7 by omega)
    refine ⟨cf, kf, fi, f, hi, hsl, (u_facts hfc hkC (u_lays hts in_X1 (show k < 7 by omega)) hi).1, fun v hv => ?_⟩
    have hlay := hts _ (in_X1 _ (u_in_lay (C := RX1) (T := TX1) (show k < 7 by omega)))
    have hfi : (TX1 k).2.2.2 = false := by
      match k, hk with
      | 0, _ => rfl
      | 1, _ => rfl
      | 2, _ => rfl
      | 3, _ => rfl
    unfold u_lay at hlay
    rw [if_neg (by rw [hfi]; decide)] at hlay
    rw [q2]
    exact u_store hfc hkC hkind hlay hi (tyX1_ok k (by omega)) hv.1 hv.2
  obtain ⟨c0, k0, i0, f0, hi0, hs0, st0, sd0⟩ := all 0 (by decide)
  obtain ⟨c1, k1, i1, f1, hi1, hs1, st1, sd1⟩ := all 1 (by decide)
  obtain ⟨c2, k2, i2, f2, hi2, hs2, st2, sd2⟩ := all 2 (by decide)
  obtain ⟨c3, k3, i3, f3, hi3, hs3, st3, sd3⟩ := all 3 (by decide)
  have v0 := val 0 (by decide)
  have v1 := val 1 (by decide)
  have v2 := val 2 (by decide)
  have v3 := val 3 (by decide)
  rw [← hs0] at v0
  rw [← hs1] at v1
  rw [← hs2] at v2
  rw [← hs3] at v3
  obtain ⟨cu, ku, iu, fu, au, cellu, u, hfu, hstu, hinu, hsau, hau, hHu, hknu, hslu⟩ := zThrS (n := "UNASSIGNED_STACK") (d := "[Ljava/lang/StackTraceElement;") hts hKn z3 (by simp) (by simp)
  obtain ⟨cv, kv, iv, fv, av, cellv, w, hfv, hstv, hinv, hsav, hav, hHv, hknv, hslv⟩ := zThrS (n := "SUPPRESSED_SENTINEL") (d := "Ljava/util/List;") hts hKn z3 (by simp) (by simp)
  have nul : ∀ k, k < 4 → narrow (tyX1 k) .null = .null ∧ fits (tyX1 k) .null = true := fun k hk => by
    rcases fld k hk with ⟨n, e1⟩ | ⟨t, e1⟩ <;> rw [e1] <;> exact ⟨rfl, rfl⟩
  have lt : ∀ {S : List Nat} {c' : Cell} {i : Nat} {v : Value}, zEq S cell c' → cell.slots[i]? = some v → i < c'.slots.size := fun h hv => by rw [h.2.1]; exact (Array.getElem?_eq_some_iff.mp hv).1
  have E0 : zEq [] cell cell := ⟨rfl, rfl, fun _ _ => rfl⟩
  refine lv_aload_n hx1 hb dJ0_init_2_4 rfl g0 ?_
  refine lv_aload_n hx1 hb dJ0_init_2_5 rfl g0 ?_
  refine W.putK hx1 hb (f := f0) ⟨hown, hts _ q199, ⟨_, _, _, hi0⟩, st0⟩ (sd0 _ ⟨rfl, rfl⟩) q1 q3 (lt E0 v0) rfl rfl dJ0_init_2_6 (fun H1 p1 s1 o1 => ?_)
  have E1 := E0.w f0.slot (.ref (r a))
  generalize cell.setSlot f0.slot (.ref (r a)) = cell1 at p1 E1
  refine lv_aload_n hx1 hb dJ0_init_2_9 rfl g0 ?_
  refine W.gets hx1 hb hown (hts _ q155) hfu hstu hinu hsau (by rw [o1 au (Nat.ne_of_lt (Nat.lt_of_lt_of_le hau hbs))]; exact hHu) hknu hslu rfl dJ0_init_2_10 ?_
  refine W.putK hx1 hb (f := f1) ⟨hown, hts _ q200, ⟨_, _, _, hi1⟩, st1⟩ (by rw [E1.cls]; exact sd1 _ (zRefV_fits u (fld 1 (by decide)))) p1 (by rw [E1.vm]; exact q3) (lt E1 v1) rfl rfl dJ0_init_2_13 (fun H2 p2 s2 o2 => ?_)
  have E2 := E1.w f1.slot u.v
  generalize cell1.setSlot f1.slot u.v = cell2 at p2 E2
  refine lv_aload_n hx1 hb dJ0_init_2_16 rfl g0 ?_
  refine W.gets hx1 hb hown (hts _ q157) hfv hstv hinv hsav (by rw [o2 av (Nat.ne_of_lt (Nat.lt_of_lt_of_le hav hbs)), o1 av (Nat.ne_of_lt (Nat.lt_of_lt_of_le hav hbs))]; exact hHv) hknv hslv rfl dJ0_init_2_17 ?_
  refine W.putK hx1 hb (f := f2) ⟨hown, hts _ q201, ⟨_, _, _, hi2⟩, st2⟩ (by rw [E2.cls]; exact sd2 _ (zRefV_fits w (fld 2 (by decide)))) p2 (by rw [E2.vm]; exact q3) (lt E2 v2) rfl rfl dJ0_init_2_20 (fun H3 p3 s3 o3 => ?_)
  have E3 := E2.w f2.slot w.v
  generalize cell2.setSlot f2.slot w.v = cell3 at p3 E3
  refine lv_iload hx1 hb dJ0_init_2_23 g4 ?_
  refine lv_if_eq (tgt := 36) hx1 hb dJ0_init_2_25 rfl (fun _ => ?_) (fun hne => absurd rfl hne)
  refine lv_aload_n hx1 hb dJ0_init_2_36 rfl g0 ?_
  refine lv_null hx1 hb dJ0_init_2_37 ?_
  refine W.putK hx1 hb (f := f1) ⟨hown, hts _ q200, ⟨_, _, _, hi1⟩, st1⟩ (by rw [E3.cls]; exact sd1 _ (nul 1 (by decide))) p3 (by rw [E3.vm]; exact q3) (lt E3 v1) rfl rfl dJ0_init_2_38 (fun H4 p4 s4 o4 => ?_)
  have E4 := E3.b f1.slot v1
  generalize cell3.setSlot f1.slot .null = cell4 at p4 E4
  refine lv_aload_n hx1 hb dJ0_init_2_41 rfl g0 ?_
  refine lv_aload_nN hx1 hb dJ0_init_2_42 rfl g1 ?_
  refine W.putK hx1 hb (f := f3) ⟨hown, hts _ q198, ⟨_, _, _, hi3⟩, st3⟩ (by rw [E4.cls]; exact sd3 _ (nul 3 (by decide))) p4 (by rw [E4.vm]; exact q3) (lt E4 v3) rfl rfl dJ0_init_2_43 (fun H5 p5 s5 o5 => ?_)
  have E5 := E4.b f3.slot v3
  generalize cell4.setSlot f3.slot .null = cell5 at p5 E5
  refine lv_aload_n hx1 hb dJ0_init_2_46 rfl g0 ?_
  refine lv_aload_nN hx1 hb dJ0_init_2_47 rfl g2 ?_
  refine W.putK hx1 hb (f := f0) ⟨hown, hts _ q199, ⟨_, _, _, hi0⟩, st0⟩ (by rw [E5.cls]; exact sd0 _ (nul 0 (by decide))) p5 (by rw [E5.vm]; exact q3) (lt E5 v0) rfl rfl dJ0_init_2_48 (fun H6 p6 s6 o6 => ?_)
  have E6 := E5.b f0.slot v0
  generalize cell5.setSlot f0.slot .null = cell6 at p6 E6
  refine lv_iload_n hx1 hb dJ0_init_2_51 rfl g3 ?_
  refine lv_if_ne (tgt := 60) hx1 hb dJ0_init_2_52 rfl (fun hne => absurd rfl hne) (fun _ => ?_)
  refine lv_aload_n hx1 hb dJ0_init_2_55 rfl g0 ?_
  refine lv_null hx1 hb dJ0_init_2_56 ?_
  refine W.putK hx1 hb (f := f2) ⟨hown, hts _ q201, ⟨_, _, _, hi2⟩, st2⟩ (by rw [E6.cls]; exact sd2 _ (nul 2 (by decide))) p6 (by rw [E6.vm]; exact q3) (lt E6 v2) rfl rfl dJ0_init_2_57 (fun H7 p7 s7 o7 => ?_)
  have E7 := E6.b f2.slot v2
  generalize cell6.setSlot f2.slot .null = cell7 at p7 E7
  have E8 : cell7 = cell := by
    refine zEq.e ?_
    refine ⟨E7.1, E7.2.1, fun i _ => E7.2.2 i ?_⟩
    simp only [List.mem_filter, List.mem_cons, List.not_mem_nil, or_false, decide_eq_true_eq]
    intro hi
    omega
  rw [E8] at p7
  have hH : H7 = H := by
    refine Array.ext_getElem? (fun i => ?_)
    by_cases e : i = r a
    · rw [e, p7, q1]
    · rw [o7 i e, o6 i e, o5 i e, o4 i e, o3 i e, o2 i e, o1 i e]
  subst hH
  refine hw _ ⟨z1, z2, z3, ⟨z4.1, z4.2.1, fun q hq => ?_⟩, z5, (fun v hv => by cases hv), z7⟩
  simp only [List.mem_append, List.mem_singleton] at hq
  rcases hq with ((((((hq | rfl) | rfl) | rfl) | rfl) | rfl) | rfl) | rfl
  · exact z4.2.2 q hq
  all_goals exact hbs
theorem zJ0_init {F : zF} {h : zH} {a : Nat} (hD : 2 ≤ F.2.1) (hL : zOb 1 h a) (hN : ∀ k, k < 4 → zP h a k = none) (hM : ((.inl none, h) : zX) = zEnd F) : Z F 5 cJ0_init_2 RJ0 "<init>" none [] h 0 [(0, .ref a), (1, .null), (2, .null), (3, .int 0), (4, .int 0)] [] := by
  refine z_aload_n 0 dJ0_init_2_0 rfl rfl ?_
  refine z_obj q154 q127 q128 (Nat.le_trans (by decide) hD) (Nat.le_of_ble_eq_true rfl) dJ0_init_2_1 ?_
  refine zThr ((hL.b 0 rfl).t 0 rfl) ((hL.b 0 rfl).nz 0) hN ?_
  exact z_vret dJ0_init_2_60 rfl hM
theorem ctJ0_init {l : Launch} {h : zH} {a : Nat} (hL : zOb 1 h a) (hN : ∀ k, k < 4 → zP h a k = none) : zC l yJ0_init_2 (ws_ yJ0_init_2 cJ0_init_2 5 none) 2 [.ref a, .null, .null, .int 0, .int 0] h (.inl none, h) :=
  z_start (by decide) (Nat.le_of_ble_eq_true rfl) (zJ0_init (F := (l, 2, h, (.inl none, h))) (Nat.le_refl _) hL hN rfl)
theorem siJ1_16 : zIi RJ1 16 yJ0_init_2 cJ0_init_2 5 4 := ⟨(zGood_c q195 q98), rfl, (Or.inl q193), q194, q195, ⟨by decide, by decide⟩, by decide +kernel⟩
theorem zJ1_init {F : zF} {h : zH} {a : Nat} (hD : 3 ≤ F.2.1) (hL : zOb 1 h a) (hN : ∀ k, k < 4 → zP h a k = none) (hM : ((.inl none, h) : zX) = zEnd F) : Z F 5 cJ1_init RJ1 "<init>" none [] h 0 [(0, .ref a), (1, .null), (2, .null), (3, .int 0), (4, .int 0)] [] := by
  refine z_aload_n 0 dJ1_init_0 rfl rfl ?_
  refine z_aload_nq (x := none) 1 dJ1_init_1 rfl rfl ?_
  refine z_aload_nq (x := none) 2 dJ1_init_2 rfl rfl ?_
  refine z_iload_n 3 dJ1_init_3 rfl rfl ?_
  refine z_iload 4 dJ1_init_4 rfl ?_
  refine z_invIv siJ1_16 (ctJ0_init (l := F.1) hL hN) ⟨Nat.le_trans (by decide) hD, by decide⟩ rfl rfl (Nat.le_of_ble_eq_true rfl) dJ1_init_6 ?_
  exact z_vret dJ1_init_9 rfl hM
theorem ctJ1_init {l : Launch} {h : zH} {a : Nat} (hL : zOb 1 h a) (hN : ∀ k, k < 4 → zP h a k = none) : zC l yJ1_init (ws_ yJ1_init cJ1_init 5 none) 3 [.ref a, .null, .null, .int 0, .int 0] h (.inl none, h) :=
  z_start (by decide) (Nat.le_of_ble_eq_true rfl) (zJ1_init (F := (l, 3, h, (.inl none, h))) (Nat.le_refl _) hL hN rfl)
theorem siJ2_16 : zIi RJ2 16 yJ1_init cJ1_init 5 4 := ⟨(zGood_c q192 q99), rfl, (Or.inl q190), q191, q192, ⟨by decide, by decide⟩, by decide +kernel⟩
theorem zJ2_init {F : zF} {h : zH} {a : Nat} (hD : 4 ≤ F.2.1) (hL : zOb 1 h a) (hN : ∀ k, k < 4 → zP h a k = none) (hM : ((.inl none, h) : zX) = zEnd F) : Z F 5 cJ2_init RJ2 "<init>" none [] h 0 [(0, .ref a), (1, .null), (2, .null), (3, .int 0), (4, .int 0)] [] := by
  refine z_aload_n 0 dJ2_init_0 rfl rfl ?_
  refine z_aload_nq (x := none) 1 dJ2_init_1 rfl rfl ?_
  refine z_aload_nq (x := none) 2 dJ2_init_2 rfl rfl ?_
  refine z_iload_n 3 dJ2_init_3 rfl rfl ?_
  refine z_iload 4 dJ2_init_4 rfl ?_
  refine z_invIv siJ2_16 (ctJ1_init (l := F.1) hL hN) ⟨Nat.le_trans (by decide) hD, by decide⟩ rfl rfl (Nat.le_of_ble_eq_true rfl) dJ2_init_6 ?_
  exact z_vret dJ2_init_9 rfl hM
theorem ctJ2_init {l : Launch} {h : zH} {a : Nat} (hL : zOb 1 h a) (hN : ∀ k, k < 4 → zP h a k = none) : zC l yJ2_init (ws_ yJ2_init cJ2_init 5 none) 4 [.ref a, .null, .null, .int 0, .int 0] h (.inl none, h) :=
  z_start (by decide) (Nat.le_of_ble_eq_true rfl) (zJ2_init (F := (l, 4, h, (.inl none, h))) (Nat.le_refl _) hL hN rfl)
theorem siX1_1 : zIi RX1 1 yJ2_init cJ2_init 5 4 := ⟨(zGood_c q189 q100), rfl, (Or.inl q187), q188, q189, ⟨by decide, by decide⟩, by decide +kernel⟩
noncomputable def fX1_init (h : zH) (a : Nat) : Option (zH) := zck (∀ k, k < 4 → zP h a k = none) (some h)
theorem zX1_init {F : zF} {h : zH} {a : Nat} {y : zH} (hD : 5 ≤ F.2.1) (hL : zOb 1 h a) (hf : fX1_init h a = some y) (hM : ((.inl none, y) : zX) = zEnd F) : Z F 1 cX1_init RX1 "<init>" none [] h 0 [(0, .ref a)] [] := by
  unfold fX1_init at hf
  obtain ⟨hN, hf⟩ := zck_some hf
  cases hf
  refine z_aload_n 0 dX1_init_0 rfl rfl ?_
  refine z_null dX1_init_1 ?_
  refine z_null dX1_init_2 ?_
  refine z_iconst 0 dX1_init_3 rfl ?_
  refine z_iconst 0 dX1_init_4 rfl ?_
  refine z_invIv siX1_1 (ctJ2_init (l := F.1) hL hN) ⟨Nat.le_trans (by decide) hD, by decide⟩ rfl rfl (Nat.le_of_ble_eq_true rfl) dX1_init_5 ?_
  exact z_vret dX1_init_8 rfl hM
theorem ctX1_init {l : Launch} {h : zH} {a : Nat} {h' : zH} (hL : zOb 1 h a) (hf : fX1_init h a = some h') : zC l yX1_init (ws_ yX1_init cX1_init 1 none) 5 [.ref a] h (.inl none, h') :=
  z_start (by decide) (Nat.le_of_ble_eq_true rfl) (zX1_init (F := (l, 5, h, (.inl none, h'))) (Nat.le_refl _) hL hf rfl)
end ZTH
section ZMN
theorem zwp_new {Q : Addr → Pre} {E : CtlPost} {e : Env} {d : Bool} {acts : List Action} {s : State} {c comp : ClassId} {k : Class} {ty : FieldType} {n : Nat} {v : Value} (hk : s.vm.classes[c]? = some k) (hkind : k.kind = .array comp ty) (hfv : fits ty v = true) (hdf : v.isDefault = true) (hlimit : ¬ n > e.platform.arrayLengthLimit) (hheap : ¬ n * componentBytes ty > e.platform.maxHeapBytes) (h1 : s.heap.size < e.platform.maxCells) (h2 : s.slotsUsed + n ≤ e.platform.maxSlots) (hQ : Q s.heap.size d acts (s.pushCell { cls := c, slots := Array.replicate n v, vm := .none })) : wp (Jvm.newArray c n v) Q E e d acts s := by
  have hfit : ∀ i w, (Array.replicate n v)[i]? = some w → s.fitsSlot c .none i w = true := by
    intro i w hv
    simp only [Array.getElem?_replicate] at hv
    split at hv
    · cases hv; simp [State.fitsSlot, State.slotType?, hk, hkind, hfv]
    · cases hv
  have hdef : allocActs (Array.replicate n v) s.heap.size acts = acts := by
    have hall : ((Array.replicate n v).all (·.isDefault)) = true := by
      rw [Array.all_replicate]; split <;> simp [hdf]
    unfold allocActs; rw [if_pos hall]
  simp only [Jvm.newArray, Jvm.arrayFits, wp_bind', W.ask, hlimit, W.theClass, hk, hkind, hheap, W.alloc, W.stop, W.ite, if_false, wp_pure', Array.size_replicate, hdef, Option.some.injEq, exists_eq_left']
  rw [if_neg (by omega)]
  exact ⟨h1, h2, hfit, hQ⟩
theorem zwp_in {Q : Addr → Pre} {E : CtlPost} {e : Env} {d : Bool} {acts : List Action} {s : State} {comp cI : ClassId} {kI : Class} (hI : s.vm.classes[cI]? = some kI) (hkI : kI.kind = .array comp .int) (hlimit : ¬ 110 > e.platform.arrayLengthLimit) (hheap : ¬ 110 * componentBytes .int > e.platform.maxHeapBytes) (h1 : s.heap.size < e.platform.maxCells) (h2 : s.slotsUsed + 110 ≤ e.platform.maxSlots) (hQ : Q s.heap.size d acts (s.pushCell { cls := cI, slots := Array.replicate 110 (.int 0), vm := .none })) : wp (Op.multianewarray.make cI [110]) Q E e d acts s := by
  rw [Op.multianewarray.make]
  simp only [wp_bind', W.ite, show ¬ ((110 : Int32) < 0) from by decide, if_false, W.theClass, hI, Option.some.injEq, exists_eq_left', wp_pure', hkI]
  exact zwp_new hI hkI rfl rfl hlimit hheap h1 h2 hQ
theorem zfor4 {σ : Type} (u : σ) (f : Nat → σ → Sem (ForInStep σ)) : forIn [:4] u f = (f 0 u >>= fun r => match r with
    | .done b => Pure.pure b
    | .yield b => f 1 b >>= fun r => match r with
      | .done b => Pure.pure b
      | .yield b => f 2 b >>= fun r => match r with
        | .done b => Pure.pure b
        | .yield b => f 3 b >>= fun r => match r with
          | .done b => Pure.pure b
          | .yield b => Pure.pure b) := by
  simp only [Std.Legacy.Range.forIn_eq_forIn_range']
  rfl
/-- one round: an inner array is made and laid -/
def zmS (T : State) (a : Nat) (cI : ClassId) (i : Nat) : State := match T.heap[a]? with
  | some c => (T.pushCell { cls := cI, slots := Array.replicate 110 (.int 0), vm := .none }).setCell a (c.setSlot i (.ref T.heap.size))
  | none => T
def zmOk (e : Env) (cA comp cI : ClassId) (kA kI : Class) (a n : Nat) (s : State) : Prop := s.vm.classes[cA]? = some kA ∧ kA.kind = .array cI (.array .int) ∧ s.vm.classes[cI]? = some kI ∧ kI.kind = .array comp .int ∧ s.heap.size + n < e.platform.maxCells + 1 ∧ s.slotsUsed + 110 * n ≤ e.platform.maxSlots ∧ ∃ c : Cell, s.heap[a]? = some c ∧ c.cls = cA ∧ c.vm = .none ∧ c.slots.size = 4
theorem zmOk_S {e : Env} {cA comp cI : ClassId} {kA kI : Class} {a n i : Nat} {s : State} (h : zmOk e cA comp cI kA kI a (n + 1) s) : zmOk e cA comp cI kA kI a n (zmS s a cI i) := by
  obtain ⟨h1, h2, h3, h4, h5, h6, c, h7, h8, h9, h10⟩ := h
  have e1 : zmS s a cI i = (s.pushCell { cls := cI, slots := Array.replicate 110 (.int 0), vm := .none }).setCell a (c.setSlot i (.ref s.heap.size)) := by unfold zmS; rw [h7]
  have hlt : a < s.heap.size := (Array.getElem?_eq_some_iff.mp h7).1
  rw [e1]
  refine ⟨h1, h2, h3, h4, ?_, ?_, c.setSlot i (.ref s.heap.size), ?_, h8, h9, ?_⟩
  · rw [size_setCell]
    show (s.heap.push _).size + n < _
    rw [Array.size_push]; omega
  · show s.slotsUsed + (Array.replicate 110 (Value.int 0)).size + 110 * n ≤ _
    rw [Array.size_replicate]; omega
  · refine heapAt_setCell_self _ ?_
    show a < (s.heap.push _).size
    rw [Array.size_push]; omega
  · simp [Cell.setSlot, h10]
theorem zmS_top {s : State} {a i : Nat} {cI : ClassId} {f : JFrame} : zmS (s.setTop f) a cI i = (zmS s a cI i).setTop f := by
  unfold zmS
  rw [State.heap_setTop]
  split
  · simp
  · rfl
theorem zwp_it {Q : ForInStep PUnit → Pre} {E : CtlPost} {e : Env} {d : Bool} {acts : List Action} {s : State} {cA comp cI : ClassId} {kA kI : Class} {a n i : Nat} (h : zmOk e cA comp cI kA kI a (n + 1) s) (hi : i < 4) (hlimit : ¬ 110 > e.platform.arrayLengthLimit) (hheap : ¬ 110 * componentBytes .int > e.platform.maxHeapBytes) (hQ : ∀ acts', Q (.yield PUnit.unit) true acts' (zmS s a cI i)) :
    wp (do let b ← Op.multianewarray.make cI [110]; Jvm.writeLoc a i (.ref b); Pure.pure (ForInStep.yield PUnit.unit)) Q E e d acts s := by
  obtain ⟨h1, h2, h3, h4, h5, h6, c, h7, h8, h9, h10⟩ := h
  have e1 : zmS s a cI i = (s.pushCell { cls := cI, slots := Array.replicate 110 (.int 0), vm := .none }).setCell a (c.setSlot i (.ref s.heap.size)) := by unfold zmS; rw [h7]
  have hlt : a < s.heap.size := (Array.getElem?_eq_some_iff.mp h7).1
  rw [wp_bind']
  refine zwp_in h3 h4 hlimit hheap (by omega) (by omega) ?_
  rw [wp_bind', W.writeLoc]
  refine ⟨c, ?_, by rw [h9]; simp, by rw [h10]; exact hi, ?_, ?_⟩
  · show (s.heap.push _)[a]? = _
    rw [Array.getElem?_push, if_neg (by omega)]; exact h7
  · rw [h8, h9]
    have : (s.pushCell { cls := cI, slots := Array.replicate 110 (.int 0), vm := .none }).vm = s.vm := rfl
    simp [State.fitsSlot, State.slotType?, h1, h2, fits]
  · rw [wp_pure', ← e1]
    exact hQ _
theorem zwp_mk {Q : Addr → Pre} {E : CtlPost} {e : Env} {d : Bool} {acts : List Action} {s : State} {cA comp cI : ClassId} {kA kI : Class} (hA : s.vm.classes[cA]? = some kA) (hkA : kA.kind = .array cI (.array .int)) (hI : s.vm.classes[cI]? = some kI) (hkI : kI.kind = .array comp .int) (hl4 : ¬ 4 > e.platform.arrayLengthLimit) (hh4 : ¬ 4 * componentBytes (.array .int) > e.platform.maxHeapBytes) (hlimit : ¬ 110 > e.platform.arrayLengthLimit) (hheap : ¬ 110 * componentBytes .int > e.platform.maxHeapBytes) (h1 : s.heap.size + 5 < e.platform.maxCells + 1) (h2 : s.slotsUsed + 444 ≤ e.platform.maxSlots)
    (hQ : ∀ acts', Q s.heap.size true acts' (zmS (zmS (zmS (zmS (s.pushCell { cls := cA, slots := Array.replicate 4 .null, vm := .none }) s.heap.size cI 0) s.heap.size cI 1) s.heap.size cI 2) s.heap.size cI 3)) : wp (Op.multianewarray.make cA [4, 110]) Q E e d acts s := by
  rw [Op.multianewarray.make]
  simp only [wp_bind', W.ite, show ¬ ((4 : Int32) < 0) from by decide, if_false, W.theClass, hA, Option.some.injEq, exists_eq_left', wp_pure', hkA]
  refine zwp_new (n := 4) hA hkA rfl rfl hl4 hh4 (by omega) (by omega) ?_
  simp only [show ((4 : Int32) == 0) = false from rfl, show (4 : Int32).toNatClampNeg = 4 from rfl, zfor4, Bool.false_eq_true, if_false]
  have o0 : zmOk e cA comp cI kA kI s.heap.size 4 (s.pushCell { cls := cA, slots := Array.replicate 4 .null, vm := .none }) := by
    refine ⟨hA, hkA, hI, hkI, ?_, ?_, { cls := cA, slots := Array.replicate 4 .null, vm := .none }, ?_, rfl, rfl, by simp⟩
    · show (s.heap.push _).size + 4 < _
      rw [Array.size_push]; omega
    · show s.slotsUsed + (Array.replicate 4 Value.null).size + 110 * 4 ≤ _
      rw [Array.size_replicate]; omega
    · show (s.heap.push _)[s.heap.size]? = _
      rw [Array.getElem?_push_size]
  rw [wp_bind', wp_bind']
  refine zwp_it o0 (by decide) hlimit hheap (fun _ => ?_)
  rw [wp_bind']
  refine zwp_it (zmOk_S o0) (by decide) hlimit hheap (fun _ => ?_)
  rw [wp_bind']
  refine zwp_it (zmOk_S (zmOk_S o0)) (by decide) hlimit hheap (fun _ => ?_)
  rw [wp_bind']
  refine zwp_it (zmOk_S (zmOk_S (zmOk_S o0))) (by decide) hlimit hheap (fun _ => ?_)
  rw [wp_pure', wp_pure']
  exact hQ _
end ZMN
section ZMN2
theorem zmn_cold {Q : Unit → Pre} {E : CtlPost} {e : Env} {d : Bool} {acts : List Action} {s : State} {f : JFrame} {index dm c : Nat} {vm' : Vm} (hs : s.topJava?.isSome) (hg : (Jvm.resolveClass f.method.cls index).Gives e.toSetting s.vm (.ok c) vm') (hr : vm'.classReady f.method.cls index c)
    (hsz : vm'.classes.size ≤ s.vm.classes.size := by no_record) :
    wp (Op.multianewarray.sem index dm) Q E e d acts (s.setTop f) ↔ wp (Op.multianewarray.sem index dm) Q E e d acts ((s.setVm vm').setTop f) := by
  simp only [Op.multianewarray.sem, wp_bind']
  exact W.resolveClassAt_transfer (s := s.setTop f) (State.method?_setTop f hs) hg hr
theorem zmn_end {Q : Unit → Pre} {E : CtlPost} {e : Env} {d : Bool} {acts : List Action} {t : State} {g : JFrame} {a : Nat} (ht : t.topJava?.isSome) (hQ : Q () true acts (t.setTop { g with stack := .ref a :: g.stack })) : wp (do Jvm.mark "op.multianewarray"; Jvm.pushRef a) Q E e d acts (t.setTop g) := by
  simp only [W.mark, W.pushRef, wp_bind', State.topJava?_setTop' _ ht, Option.some.injEq, exists_eq_left', State.setTop_setTop]
  exact hQ
theorem zmS_tj {t : State} {a i : Nat} {cI : ClassId} (ht : t.topJava?.isSome) : (zmS t a cI i).topJava?.isSome := by
  unfold zmS
  split
  · exact ht
  · exact ht
theorem zmS4_top {s : State} {f : JFrame} {cA cI : ClassId} {a : Nat} : zmS (zmS (zmS (zmS ((s.setTop f).pushCell { cls := cA, slots := Array.replicate 4 .null, vm := .none }) a cI 0) a cI 1) a cI 2) a cI 3 = (zmS (zmS (zmS (zmS (s.pushCell { cls := cA, slots := Array.replicate 4 .null, vm := .none }) a cI 0) a cI 1) a cI 2) a cI 3).setTop f := by
  rw [State.pushCell_setTop, zmS_top, zmS_top, zmS_top, zmS_top]
theorem zmn_ready {Q : Unit → Pre} {E : CtlPost} {e : Env} {d : Bool} {acts : List Action} {s : State} {f : JFrame} {index : Nat} {cA comp cI : ClassId} {kA kI : Class} {rest : List Value} (hs : s.topJava?.isSome) (hr : s.vm.classReady f.method.cls index cA) (hA : s.vm.classes[cA]? = some kA) (hkA : kA.kind = .array cI (.array .int)) (hI : s.vm.classes[cI]? = some kI) (hkI : kI.kind = .array comp .int) (hst : f.stack = .int 110 :: .int 4 :: rest) (hl4 : ¬ 4 > e.platform.arrayLengthLimit) (hh4 : ¬ 4 * componentBytes (.array .int) > e.platform.maxHeapBytes) (hlimit : ¬ 110 > e.platform.arrayLengthLimit) (hheap : ¬ 110 * componentBytes .int > e.platform.maxHeapBytes) (h1 : s.heap.size + 5 < e.platform.maxCells + 1) (h2 : s.slotsUsed + 444 ≤ e.platform.maxSlots)
    (hQ : ∀ acts', Q () true acts' ((zmS (zmS (zmS (zmS (s.pushCell { cls := cA, slots := Array.replicate 4 .null, vm := .none }) s.heap.size cI 0) s.heap.size cI 1) s.heap.size cI 2) s.heap.size cI 3).setTop { f with stack := .ref s.heap.size :: rest })) : wp (Op.multianewarray.sem index 2) Q E e d acts (s.setTop f) := by
  rw [Op.multianewarray.sem, wp_bind', W.resolveClassAt_ready (State.method?_setTop f hs) hr, wp_bind', show Jvm.popN 2 = Jvm.popN ([Value.int 4, .int 110] : List Value).length from rfl, Jvm.Op.popN_top (args := [.int 4, .int 110]) hs (rest := rest) (by rw [hst]; rfl), wp_bind']
  simp only [List.mapM_cons, List.mapM_nil, wp_bind', wp_pure']
  refine zwp_mk hA hkA hI hkI hl4 hh4 hlimit hheap h1 h2 (fun _ => ?_)
  have h4 : (zmS (zmS (zmS (zmS (s.pushCell { cls := cA, slots := Array.replicate 4 .null, vm := .none }) s.heap.size cI 0) s.heap.size cI 1) s.heap.size cI 2) s.heap.size cI 3).topJava?.isSome := by
    refine zmS_tj (zmS_tj (zmS_tj (zmS_tj ?_)))
    exact hs
  rw [State.heap_setTop, zmS4_top]
  generalize zmS (zmS (zmS (zmS (s.pushCell { cls := cA, slots := Array.replicate 4 .null, vm := .none }) s.heap.size cI 0) s.heap.size cI 1) s.heap.size cI 2) s.heap.size cI 3 = t at h4 hQ
  exact zmn_end h4 (hQ _)
end ZMN2
section ZMN3
theorem zAtH_gen {F : zF} {K : zK} {nL : Nat} {h h' : zH} {r r' : Nat → Nat} {H H' : Heap} {locs locs' : List Loc} {ls : Array Slot} {lc : List (Nat × Value)} {st st' : List Value} (hz : zAtH F K nL h r H locs ls lc st) (hle : zLe h h') (hr : ∀ a, a < zn h → r' a = r a) (hsz : H.size ≤ H'.size) (ho : ∀ q, q < H.size → ¬ K.2.2.2.2.2.2.2.2.2.1 ≤ q → H'[q]? = H[q]?) (hlo : ∀ q ∈ locs', q ∈ locs ∨ K.2.2.2.2.2.2.2.2.2.1 ≤ q.base) (hst : ∀ v ∈ st', v ∈ st ∨ zok (zn h') v)
    (hs : zSim K.2.2.2.2.2.2.2.2.1 K.2.2.2.2.2.2.2.2.2.1 r' h' H') : zAtH F K nL h' r' H' locs' ls lc st' := by
  obtain ⟨l, d, h0', x⟩ := F
  obtain ⟨p, e, s, m, args, below, meth, c, D, bs, r0⟩ := K
  obtain ⟨z1, z2, z3, z4, z5, z6, z7⟩ := hz
  refine ⟨zLe_tr z1 hle, fun a ha => by rw [hr a (Nat.lt_of_lt_of_le ha z1.1)]; exact z2 a ha, hs, ⟨Nat.le_trans z4.1 hsz, fun q h1 h2 => (ho q (Nat.lt_of_lt_of_le h1 z4.1) h2).trans (z4.2.1 q h1 h2), fun q hq => (hlo q hq).elim (z4.2.2 q) (fun e => e)⟩, fun q hq => zok_le hle.1 (z5 q hq), fun v hv => (hst v hv).elim (fun e => zok_le hle.1 (z6 v e)) (fun e => e), by rw [zlc_ext hr z5]; exact z7⟩
def zm1 (h : zH) (o i : Nat) : zH := zsP (zmk h (100, 110) 110) o i (some (zn h))
def zmm (h : zH) : zH := zm1 (zm1 (zm1 (zm1 (zmk h (106, 4) 4) (zn h) 0) (zn h) 1) (zn h) 2) (zn h) 3
theorem zm1_n (h : zH) (o i : Nat) : zn (zm1 h o i) = zn h + 1 := rfl
theorem zm1_T {h : zH} {o i : Nat} (ho : o < zn h) : zT (zm1 h o i) o = zT h o := va_up_ne _ _ (Nat.ne_of_lt ho)
theorem zm1_P {h : zH} {o i j : Nat} (ho : o < zn h) (hj : j ≠ i) : zP (zm1 h o i) o j = zP h o j := by
  show (if o = o ∧ j = i then some (zn h) else zP (zmk h (100, 110) 110) o j) = _
  rw [if_neg (fun e => hj e.2)]
  exact congrFun (va_up_ne (zP h) _ (Nat.ne_of_lt ho)) j
theorem zLx_m1 {h : zH} {o i : Nat} (ho : o < zn h) (hn : zP h o i = none) : zLx h (zm1 h o i) :=
  zLx_tr (zLx_mk' rfl) (zLx_F (by rw [← hn]; exact congrFun (va_up_ne (zP h) _ (Nat.ne_of_lt ho)) i) rfl)
theorem zLx_mm {h h' : zH} (he : h' = zmm h) : zLx h h' := by
  subst he
  have p0 : ∀ j, zP (zmk h (106, 4) 4) (zn h) j = none := fun j => congrFun (va_up_self (zP h) (zn h) (fun _ => none)) j
  have n0 : zn (zmk h (106, 4) 4) = zn h + 1 := rfl
  have l0 : zLx h (zmk h (106, 4) 4) := zLx_mk' rfl
  have l1 := zLx_m1 (h := zmk h (106, 4) 4) (o := zn h) (i := 0) (by rw [n0]; omega) (p0 0)
  have l2 := zLx_m1 (h := zm1 (zmk h (106, 4) 4) (zn h) 0) (o := zn h) (i := 1) (by rw [zm1_n, n0]; omega) (by rw [zm1_P (by rw [n0]; omega) (by decide)]; exact p0 1)
  have l3 := zLx_m1 (h := zm1 (zm1 (zmk h (106, 4) 4) (zn h) 0) (zn h) 1) (o := zn h) (i := 2) (by rw [zm1_n, zm1_n, n0]; omega) (by rw [zm1_P (by rw [zm1_n, n0]; omega) (by decide), zm1_P (by rw [n0]; omega) (by decide)]; exact p0 2)
  have l4 := zLx_m1 (h := zm1 (zm1 (zm1 (zmk h (106, 4) 4) (zn h) 0) (zn h) 1) (zn h) 2) (o := zn h) (i := 3) (by rw [zm1_n, zm1_n, zm1_n, n0]; omega) (by rw [zm1_P (by rw [zm1_n, zm1_n, n0]; omega) (by decide), zm1_P (by rw [zm1_n, n0]; omega) (by decide), zm1_P (by rw [n0]; omega) (by decide)]; exact p0 3)
  exact zLx_tr l0 (zLx_tr l1 (zLx_tr l2 (zLx_tr l3 l4)))
variable {p : Program} {l : Launch} {e : Env} {R : Room} {s : State} {m : MethodId} {args : Array Value} {below : List Frame} {meth : Method} {c : Code} {T : State} {locs : List Loc} {cells slots : Nat}
/-- one round, with the picture -/
theorem zmn_step {D : zD} {bs : Nat} {r : Nat → Nat} {h : zH} {a i : Nat} (X : Stand p l e R s m args below meth c T locs cells slots) (hS : zSim D bs r h T.heap) (han : a < zn h) (h0 : a ≠ 0) (hT : zT h a = (106, 4)) :
    ∃ r' : Nat → Nat, (∀ b, b < zn h → r' b = r b) ∧ Stand p l e R s m args below meth c (zmS T (r a) (D.2.2.1 0) i) (locs ++ [⟨r a, i⟩]) (cells + 1) (slots + 110) ∧ zSim D bs r' (zm1 h a i) (zmS T (r a) (D.2.2.1 0) i).heap ∧
      T.heap.size ≤ (zmS T (r a) (D.2.2.1 0) i).heap.size ∧ ∀ q, q < T.heap.size → ¬ bs ≤ q → (zmS T (r a) (D.2.2.1 0) i).heap[q]? = T.heap[q]? := by
  have hc : T.heap[r a]? = some (arrV (D.2.2.1 6) 4 (fun j => zfv r h (.array .int) a j)) := hS.2.2.2.2.2.2.1 a 6 4 _ han hT rfl
  have hlt : r a < T.heap.size := (Array.getElem?_eq_some_iff.mp hc).1
  have e1 : zmS T (r a) (D.2.2.1 0) i = (T.pushCell { cls := D.2.2.1 0, slots := Array.replicate 110 (.int 0), vm := .none }).setCell (r a) ((arrV (D.2.2.1 6) 4 (fun j => zfv r h (.array .int) a j)).setSlot i (.ref T.heap.size)) := by unfold zmS; rw [hc]
  have hsz : (T.pushCell { cls := D.2.2.1 0, slots := Array.replicate 110 (.int 0), vm := .none }).heap.size = T.heap.size + 1 := Array.size_push _
  have hG : ∀ q, q < T.heap.size → (T.pushCell { cls := D.2.2.1 0, slots := Array.replicate 110 (.int 0), vm := .none }).heap[q]? = T.heap[q]? := fun q hq => by
    show (T.heap.push _)[q]? = _
    rw [Array.getElem?_push, if_neg (Nat.ne_of_lt hq)]
  have hGa : (T.pushCell { cls := D.2.2.1 0, slots := Array.replicate 110 (.int 0), vm := .none }).heap[T.heap.size]? = some (arrV (D.2.2.1 0) 110 (fun _ => .int 0)) := by
    show (T.heap.push _)[T.heap.size]? = _
    rw [Array.getElem?_push_size, ← arrV_new]
  have X1 := X.pushed { cls := D.2.2.1 0, slots := Array.replicate 110 (.int 0), vm := .none }
  have X2 := X1.stored (a := r a) (by rw [hG _ hlt]; exact hc) i (.ref T.heap.size)
  have hr : ∀ b, b < zn h → va_up r (zn h) T.heap.size b = r b := fun b hb => va_up_ne r _ (Nat.ne_of_lt hb)
  have hS1 : zSim D bs (va_up r (zn h) T.heap.size) (zmk h (100, 110) 110) (T.pushCell { cls := D.2.2.1 0, slots := Array.replicate 110 (.int 0), vm := .none }).heap := by
    refine zSim_mk hS hsz hG (fun ci' q' ty' e4 e5 e6 => ?_) (fun tt n ty' e4 e5 => ?_)
    · exfalso
      have h1 := zcl_lt e5
      simp only [Prod.mk.injEq] at e4
      omega
    · simp only [Prod.mk.injEq] at e4
      obtain ⟨e6, e7⟩ := e4
      have e6 : tt = 0 := by omega
      subst e6; subst e7
      cases e5
      rw [hGa]
      congr 2
      funext j
      exact (zfv_mk (ty := .int) ⟨by simp, by simp⟩).symm
  have hra : va_up r (zn h) T.heap.size a = r a := hr a han
  have hTa : zT (zmk h (100, 110) 110) a = (6 + 100, 4) := by rw [← hT]; exact va_up_ne _ _ (Nat.ne_of_lt han)
  have hn1 : zn (zmk h (100, 110) 110) = zn h + 1 := rfl
  have hcell : (T.pushCell { cls := D.2.2.1 0, slots := Array.replicate 110 (.int 0), vm := .none }).heap[r a]? = some (arrV (D.2.2.1 6) 4 (fun j => zfv (va_up r (zn h) T.heap.size) (zmk h (100, 110) 110) (.array .int) a j)) := by
    rw [← hra]
    exact hS1.2.2.2.2.2.2.1 a 6 4 _ (by rw [hn1]; omega) hTa rfl
  have hceq : arrV (D.2.2.1 6) 4 (fun j => zfv r h (.array .int) a j) = arrV (D.2.2.1 6) 4 (fun j => zfv (va_up r (zn h) T.heap.size) (zmk h (100, 110) 110) (.array .int) a j) := Option.some.inj ((hG _ hlt).trans hc |>.symm.trans hcell)
  rw [e1]
  refine ⟨va_up r (zn h) T.heap.size, hr, by simpa using X2, ?_, by rw [size_setCell, hsz]; omega, fun q hq hb => ?_⟩
  · refine zSim_ast (t := 6) (n := 4) (i := i) (ty := .array .int) (v := .ref (zn h)) hS1 (by rw [hn1]; omega) h0 hTa rfl (zOne_P _ a i (some (zn h)) (Or.inr ⟨_, rfl⟩)) (by intro b eb; cases eb; rw [hn1]; omega) ?_ (by rw [size_setCell]) (fun q hq => heapAt_setCell_ne _ (by rw [hra] at hq; exact Ne.symm hq))
    rw [hra, ← hceq]
    show _ = some (Cell.setSlot _ i (.ref (va_up r (zn h) T.heap.size (zn h))))
    rw [va_up_self]
    exact heapAt_setCell_self _ (show r a < _ from by rw [hsz]; exact Nat.lt_succ_of_lt hlt)
  · rw [heapAt_setCell_ne _ (fun e9 => hb (by rw [← e9]; exact hS.2.1 a han h0)), hG q hq]
theorem zmultianew (X : Stand p l e R s m args below meth c T locs cells slots) (hexec : p.tables.exec = Jvm.exec) {own : String} {index : Nat} {cA cI comp : ClassId} {kA kI : Class} (hown : s.vm.findClass own = some m.cls) (hclink : (Cond.classLink own index "[[I").before args s = true) (hcA : s.vm.findClass "[[I" = some cA) (hA : s.vm.classes[cA]? = some kA) (hkA : kA.kind = .array cI (.array .int)) (hI : s.vm.classes[cI]? = some kI) (hkI : kI.kind = .array comp .int)
    {g : JFrame} (hg : g.method = m) (hdg : decode c.code g.pc = .ok (.multianewarray index 2, 4)) {rest : List Value} (hstack : g.stack = .int 110 :: .int 4 :: rest) (hcells : cells + 5 ≤ R.cells) (hslots : slots + 444 ≤ R.slots) :
    ∃ vm₁ : Vm, Stand p l e R s m args below meth c ((T.setVm vm₁).pushCell { cls := cA, slots := Array.replicate 4 .null, vm := .none }) locs (cells + 1) (slots + 4) ∧
      ∀ target, Steps p.tables e below ((zmS (zmS (zmS (zmS ((T.setVm vm₁).pushCell { cls := cA, slots := Array.replicate 4 .null, vm := .none }) T.heap.size cI 0) T.heap.size cI 1) T.heap.size cI 2) T.heap.size cI 3).setTop { g with pc := g.pc + 4, stack := .ref T.heap.size :: rest }) target → Steps p.tables e below (T.setTop g) target := by
  subst hg
  have hpl : e.platform.magicAccessors = ({} : Platform).magicAccessors := by rw [X.admits.platform]
  obtain ⟨cc', hfcc, hcl⟩ := Cond.classLink_spec hown hclink e.platform hpl
  cases hcA.symm.trans hfcc
  obtain ⟨hg₁, hwarm₁, hready₁⟩ := State.classEntry (e := e) X.warmed hcl
  generalize T.vm.noted g.method.cls index (.cls cA) = vm₁ at hg₁ hwarm₁ hready₁
  have hal : s.vm.Alike vm₁ := hwarm₁.alike
  obtain ⟨kA₁, hkA₁, heA⟩ := hal.2.2 _ _ hA
  obtain ⟨kI₁, hkI₁, heI⟩ := hal.2.2 _ _ hI
  have hkindA₁ : kA₁.kind = .array cI (.array .int) := by rw [heA]; exact hkA
  have hkindI₁ : kI₁.kind = .array comp .int := by rw [heI]; exact hkI
  have hl : e.platform.arrayLengthLimit = 2147483645 := Launch.admits_arrayLengthLimit X.admits
  have hh : e.platform.maxHeapBytes = 536870912 := Launch.admits_maxHeapBytes X.admits
  have X₁ := X.noted hwarm₁
  have X₂ := X₁.pushed { cls := cA, slots := Array.replicate 4 .null, vm := .none }
  have hr1 := X.cellsAbove hcells
  have hr2 := X.slotsAbove hslots
  refine ⟨vm₁, by simpa using X₂, fun target hrest => ?_⟩
  jvm_step X.here [hexec, hdg, zmn_cold (e := e) (s := T) (f := g) X.here.top hg₁ hready₁]
  refine zmn_ready (e := e) (s := T.setVm vm₁) (f := g) X.here.top hready₁ hkA₁ hkindA₁ hkI₁ hkindI₁ hstack (by rw [hl]; decide) (by rw [hh]; decide) (by rw [hl]; decide) (by rw [hh]; decide) (by show T.heap.size + 5 < _; omega) (by show T.slotsUsed + 444 ≤ _; omega) (fun acts' => ?_)
  intro acts2
  rw [afterInstr_ok]
  exact hrest
end ZMN3
section ZMN4
variable {F : zF} {nL : Nat} {cc : ByteArray} {own nm : String} {ret : Option FieldType} {hh : List (Nat × Nat × Nat × Nat)} {h h' : zH} {pc : Nat} {lc : List (Nat × Value)} {st : List Value} {index : Nat}
theorem z_mnew (hcl : Cond.classLink own index "[[I" ∈ lw_all) (he : h' = zmm h) (hd : decode cc pc = .ok (.multianewarray index 2, 4)) (kk : Z F nL cc own nm ret hh h' (pc + 4) lc (.ref (zn h) :: st)) : Z F nL cc own nm ret hh h pc lc (.int 110 :: .int 4 :: st) := by
  have hlx := zLx_mm he
  refine ⟨zLx_tr hlx kk.1, fun K hC r H locs ls hz => ?_⟩
  have k1 := kk.1.1
  have hw := kk.2 K hC
  have hz1 := hz
  subst he
  obtain ⟨l, d, h0', x0⟩ := F
  obtain ⟨p, e, s, m, args, below, meth, c, D, bs, r0⟩ := K
  obtain ⟨z1, z2, z3, z4, z5, z6, z7⟩ := hz
  obtain ⟨hx1, hb, hml, hown, hts, hKn, -, -, -, -, hHa, -⟩ := hC
  have c0 : zc (zmm h) = zc h + 5 := rfl
  have u0 : zu (zmm h) = zu h + 444 := rfl
  have a1 : zc (zmm h) ≤ zc x0.2 := k1.2.1
  have a2 : zu (zmm h) ≤ zu x0.2 := k1.2.2
  have b1 := z1.2.1
  have b2 := z1.2.2
  have hst : ∀ v ∈ st, zok (zn h) v := fun v hv => z6 v (List.mem_cons_of_mem _ (List.mem_cons_of_mem _ hv))
  obtain ⟨hA1, hA2, hA3⟩ := hKn.2.1 6 _ rfl
  obtain ⟨hI1, hI2, hI3⟩ := hKn.2.1 0 _ rfl
  obtain ⟨-, kI, hkI, comp, hkkI⟩ := hI1 0 (fun _ => .null)
  obtain ⟨-, kA, hkA, comA, hkkA⟩ := hA1 0 (fun _ => .null)
  have hover := (hKn.2.2.2.2.2 s (Vm.Alike.refl _) hHa).1 (.arrayOver (.array .int)) (by simp) args
  obtain ⟨comp2, c2, k2, g1, g2, g3, g4, g5⟩ := arrayOverA_spec hover
  have e1 : c2 = D.2.2.1 6 := Option.some.inj (g5.symm.trans hA3)
  have e2 : comp2 = D.2.2.1 0 := Option.some.inj (g1.symm.trans hI3)
  subst e1; subst e2
  intro T hT X
  obtain ⟨vm₁, X0, st0⟩ := zmultianew X hx1 hown (hts _ hcl) hA3 g3 g4 hkI hkkI (g := F0 m pc ls ((Value.int 110 :: .int 4 :: st).map (zv r))) rfl (by rw [hb]; exact hd) (rest := st.map (zv r)) rfl (by show _ ≤ zc x0.2 - zc h0'; omega) (by show _ ≤ zu x0.2 - zu h0'; omega)
  have hTH : (T.setVm vm₁).heap = H := hT
  generalize hT0 : (T.setVm vm₁).pushCell { cls := D.2.2.1 6, slots := Array.replicate 4 .null, vm := .none } = T0 at X0 st0
  have f1 : T0.heap = H.push { cls := D.2.2.1 6, slots := Array.replicate 4 .null, vm := .none } := by rw [← hT0, ← hTH]; rfl
  have f2 : T0.heap.size = H.size + 1 := by rw [f1, Array.size_push]
  have f3 : ∀ q, q < H.size → T0.heap[q]? = H[q]? := fun q hq => by rw [f1, Array.getElem?_push, if_neg (Nat.ne_of_lt hq)]
  have f4 : T0.heap[H.size]? = some (arrV (D.2.2.1 6) 4 (fun _ => .null)) := by rw [f1, Array.getElem?_push_size, ← arrV_new]
  have S0 : zSim D bs (va_up r (zn h) H.size) (zmk h (106, 4) 4) T0.heap := by
    refine zSim_mk z3 f2 f3 (fun ci' q' ty' e4 e5 e6 => ?_) (fun tt n ty' e4 e5 => ?_)
    · exfalso
      have h1 := zcl_lt e5
      simp only [Prod.mk.injEq] at e4
      omega
    · simp only [Prod.mk.injEq] at e4
      obtain ⟨e6, e7⟩ := e4
      have e6 : tt = 6 := by omega
      subst e6; subst e7
      cases e5
      rw [f4]
      congr 2
      funext j
      exact (zfv_mk (ty := .array .int) ⟨by simp, by simp⟩).symm
  have hr0 : ∀ b, b < zn h → va_up r (zn h) H.size b = r b := fun b hb => va_up_ne r _ (Nat.ne_of_lt hb)
  have ro : va_up r (zn h) H.size (zn h) = H.size := va_up_self _ _ _
  have n0 : zn (zmk h (106, 4) 4) = zn h + 1 := rfl
  have T00 : zT (zmk h (106, 4) 4) (zn h) = (106, 4) := va_up_self _ _ _
  have hnz : zn h ≠ 0 := by have := z3.2.2.2.2.2.2.2.2.2.1; omega
  rw [show T.heap.size = H.size by rw [hT]] at st0
  obtain ⟨r1, hr1, X1, S1, s1, o1⟩ := zmn_step (i := 0) X0 S0 (by rw [n0]; omega) hnz T00
  rw [ro] at X1 S1 s1 o1
  have ro1 : r1 (zn h) = H.size := by rw [hr1 _ (by rw [n0]; omega)]; exact ro
  obtain ⟨r2, hr2, X2, S2, s2, o2⟩ := zmn_step (i := 1) X1 S1 (by rw [zm1_n, n0]; omega) hnz (by rw [zm1_T (by rw [n0]; omega)]; exact T00)
  rw [ro1] at X2 S2 s2 o2
  have ro2 : r2 (zn h) = H.size := by rw [hr2 _ (by rw [zm1_n, n0]; omega)]; exact ro1
  obtain ⟨r3, hr3, X3, S3, s3, o3⟩ := zmn_step (i := 2) X2 S2 (by rw [zm1_n, zm1_n, n0]; omega) hnz (by rw [zm1_T (by rw [zm1_n, n0]; omega), zm1_T (by rw [n0]; omega)]; exact T00)
  rw [ro2] at X3 S3 s3 o3
  have ro3 : r3 (zn h) = H.size := by rw [hr3 _ (by rw [zm1_n, zm1_n, n0]; omega)]; exact ro2
  obtain ⟨r4, hr4, X4, S4, s4, o4⟩ := zmn_step (i := 3) X3 S3 (by rw [zm1_n, zm1_n, zm1_n, n0]; omega) hnz (by rw [zm1_T (by rw [zm1_n, zm1_n, n0]; omega), zm1_T (by rw [zm1_n, n0]; omega), zm1_T (by rw [n0]; omega)]; exact T00)
  rw [ro3] at X4 S4 s4 o4
  have ro4 : r4 (zn h) = H.size := by rw [hr4 _ (by rw [zm1_n, zm1_n, zm1_n, n0]; omega)]; exact ro3
  have hr : ∀ b, b < zn h → r4 b = r b := fun b hb => by
    rw [hr4 b (by rw [zm1_n, zm1_n, zm1_n, n0]; omega), hr3 b (by rw [zm1_n, zm1_n, n0]; omega), hr2 b (by rw [zm1_n, n0]; omega), hr1 b (by rw [n0]; omega), hr0 b hb]
  generalize zmS T0 H.size (D.2.2.1 0) 0 = T1 at X1 S1 s1 o1 X2 S2 s2 o2 X3 S3 s3 o3 X4 S4 s4 o4 st0
  generalize zmS T1 H.size (D.2.2.1 0) 1 = T2 at X2 S2 s2 o2 X3 S3 s3 o3 X4 S4 s4 o4 st0
  generalize zmS T2 H.size (D.2.2.1 0) 2 = T3 at X3 S3 s3 o3 X4 S4 s4 o4 st0
  generalize zmS T3 H.size (D.2.2.1 0) 3 = T4 at X4 S4 s4 o4 st0
  have hz2 := zAtH_gen (locs' := locs ++ [⟨H.size, 0⟩] ++ [⟨H.size, 1⟩] ++ [⟨H.size, 2⟩] ++ [⟨H.size, 3⟩]) (st' := .ref (zn h) :: st) hz1 hlx.1 hr (by omega) (fun q hq hb => by rw [o4 q (by omega) hb, o3 q (by omega) hb, o2 q (by omega) hb, o1 q (by omega) hb, f3 q hq]) (fun q hq => by
      simp only [List.mem_append, List.mem_singleton] at hq
      rcases hq with (((hq | rfl) | rfl) | rfl) | rfl
      · exact Or.inl hq
      all_goals exact Or.inr z3.2.2.2.1) (fun v hv => by
      rcases List.mem_cons.mp hv with e9 | e9
      · right; rw [e9]; intro b eb; cases eb; show zn h < zn h + 5; omega
      · left; exact List.mem_cons_of_mem _ (List.mem_cons_of_mem _ e9)) S4
  have hw2 := hw r4 T4.heap _ ls hz2
  have hw2 : W p l e (zRm d (zc x0.2 - zc h0') (zu x0.2 - zu h0')) s m args below meth c T4.heap (locs ++ [⟨H.size, 0⟩] ++ [⟨H.size, 1⟩] ++ [⟨H.size, 2⟩] ++ [⟨H.size, 3⟩]) (zc h + 5 - zc h0') (zu h + 444 - zu h0') _ (F0 m (pc + 4) ls (.ref (r4 (zn h)) :: st.map (zv r4))) := hw2
  rw [ro4, zmap_ext hr hst, show zc h + 5 - zc h0' = zc h - zc h0' + 1 + 1 + 1 + 1 + 1 by omega, show zu h + 444 - zu h0' = zu h - zu h0' + 4 + 110 + 110 + 110 + 110 by omega] at hw2
  obtain ⟨t, a3, b3⟩ := hw2 T4 rfl X4
  exact ⟨t, st0 t a3, b3⟩
end ZMN4
