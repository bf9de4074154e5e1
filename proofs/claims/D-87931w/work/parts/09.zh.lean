/-! what is known of the tables goes along; the classes' tables; fields, arrays, new cells -/
set_option maxRecDepth 100000
theorem zNw_warm {w : Cond} (hw : zNk w = true) {s U : State} (hW : s.WarmedH U.vm) (h : va_Nw w s) : va_Nw w U := by
  have hvm := hW.alike
  cases w <;> first
    | (cases hw; done)
    | exact va_Nw.warmF hW h
    | exact va_Nw.warmM hW h
    | exact va_Nw.warmC hW h
    | exact va_Nw.warmD hW h
    | exact va_tabs rfl (rfl : (s.setVm U.vm).vm = U.vm) (by rw [Cond.publicMethod_setVm hvm]; exact h)
    | exact va_tabs rfl (rfl : (s.setVm U.vm).vm = U.vm) (by rw [Cond.privateMethod_setVm hvm]; exact h)
    | exact va_tabs rfl (rfl : (s.setVm U.vm).vm = U.vm) (by rw [Cond.unhidden_setVm hvm]; exact h)
theorem zIm_ok : ∀ x ∈ zIm, x.cls ≠ "java/lang/invoke/MethodHandle" ∧ x.cls ≠ "java/lang/invoke/VarHandle" := by decide +kernel
theorem zKn_warm {D : zD} {s U : State} (hW : s.WarmedH U.vm) (h : zKn D s) : zKn D U := by
  have hvm := hW.alike
  refine ⟨fun ci q hq => u_Kn_moved hvm (h.1 ci q hq), fun t ty ht => ?_, fun w hw hk => zNw_warm hk hW (h.2.2.1 w hw hk), fun x hx => ?_, fun q hq => (h.2.2.2.2.1 q hq).moved hvm, fun V hV => h.2.2.2.2.2 V (hvm.trans hV)⟩
  · obtain ⟨a, b, c⟩ := h.2.1 t ty ht
    exact ⟨arrOfT_moved hvm a, b.moved hvm, by rw [hvm.findClass]; exact c⟩
  · obtain ⟨h1, h2⟩ := h.2.2.2.1 x hx
    obtain ⟨r, meth, hn, -⟩ := Cond.declares_spec h1
    exact ⟨va_Nw.warmD hW h1, va_tabs rfl (rfl : (s.setVm U.vm).vm = U.vm) (by rw [Cond.interfaceMethod_setVm hvm (r := r) hn (zIm_ok x hx)]; exact h2)⟩
/-- what the lists and the classes' tables say of a class -/
def zCok (q : vw_C) (ty : Nat → FieldType) : Prop := (∀ w ∈ u_ws q.1 q.2.1 q.2.2, w ∈ lw_all) ∧ (∀ k, k < q.2.2 → parseFieldDescriptor (q.2.1 k).2.2.1 = some (ty k)) ∧
  ∀ a, a < q.2.2 → ∀ b, b < q.2.2 → a ≠ b → (q.2.1 a).2.1 ≠ (q.2.1 b).2.1 ∨ ((q.2.1 a).1 ≠ (q.2.1 b).1 ∧ (q.2.1 a).2.2.2 = true ∧ (q.2.1 b).2.2.2 = true)
theorem znm5 : ∀ a, a < 15 → ∀ b, b < 15 → a ≠ b → (TX5 a).2.1 ≠ (TX5 b).2.1 ∨ ((TX5 a).1 ≠ (TX5 b).1 ∧ (TX5 a).2.2.2 = true ∧ (TX5 b).2.2.2 = true) := by decide +kernel
theorem znm6 : ∀ a, a < 16 → ∀ b, b < 16 → a ≠ b → (TX6 a).2.1 ≠ (TX6 b).2.1 ∨ ((TX6 a).1 ≠ (TX6 b).1 ∧ (TX6 a).2.2.2 = true ∧ (TX6 b).2.2.2 = true) := by decide +kernel
theorem zCok_of {q : vw_C} {ty : Nat → FieldType} (h1 : ∀ w ∈ u_ws q.1 q.2.1 q.2.2, w ∈ lw_all) (h2 : ∀ k, k < q.2.2 → parseFieldDescriptor (q.2.1 k).2.2.1 = some (ty k)) (h3 : ∀ a, a < q.2.2 → ∀ b, b < q.2.2 → a ≠ b → (q.2.1 a).2.1 ≠ (q.2.1 b).2.1) : zCok q ty := ⟨h1, h2, fun a ha b hb n => Or.inl (h3 a ha b hb n)⟩
theorem zCl_ok {ci : Nat} {q : vw_C} {ty : Nat → FieldType} (hq : zCl[ci]? = some q) (ht : zTys[ci]? = some ty) : zCok q ty := by
  match ci, hq, ht with
  | 0, hq, ht => cases hq; cases ht; exact zCok_of in_X0 tyX0_ok nmX0
  | 1, hq, ht => cases hq; cases ht; exact zCok_of in_X1 tyX1_ok nmX1
  | 2, hq, ht => cases hq; cases ht; exact zCok_of in_X3 tyX3_ok nmX3
  | 3, hq, ht => cases hq; cases ht; exact ⟨in_X5, tyX5_ok, znm5⟩
  | 4, hq, ht => cases hq; cases ht; exact ⟨in_X6, tyX6_ok, znm6⟩
  | 5, hq, ht => cases hq; cases ht; exact zCok_of in_X7 tyX7_ok nmX7
  | 6, hq, ht => cases hq; cases ht; exact zCok_of in_X8 tyX8_ok nmX8
  | 7, hq, ht => cases hq; cases ht; exact zCok_of in_X9 tyX9_ok nmX9
  | 8, hq, ht => cases hq; cases ht; exact zCok_of in_X11 tyX11_ok nmX11
  | 9, hq, ht => cases hq; cases ht; exact zCok_of in_X12 tyX12_ok nmX12
  | 10, hq, ht => cases hq; cases ht; exact zCok_of in_X13 tyX13_ok nmX13
  | n + 11, hq, ht => simp at hq
theorem zfound_cls {s : State} {o n d : String} {c i : Nat} {k : Class} {f : Field} (h : s.fieldFound? o n d = some (c, k, i, f)) : s.vm.classes[c]? = some k := by
  simp only [State.fieldFound?, Option.bind_eq_bind, Option.bind_eq_some_iff] at h
  obtain ⟨ty, -, c0, -, x, -, k0, hk, f0, -, e⟩ := h
  cases e
  exact hk
theorem zname_cls {vm : Vm} {n : String} {c : ClassId} {k : Class} (h : vm.findClass n = some c) (hk : vm.classes[c]? = some k) : k.name = n := by
  obtain ⟨hlt, hp, -⟩ := Array.findIdx?_eq_some_iff_getElem.mp h
  rw [Array.getElem?_eq_getElem hlt] at hk
  cases hk
  simp at hp
  exact hp.1.1.1
theorem zapart_own {args : Array Value} {s : State} {C O O' n n' d d' : String} (h : (Cond.laysFinal C O n d).before args s = true) (h' : (Cond.laysFinal C O' n' d').before args s = true) {cf kf fi fd cf' kf' fi' fd'} (hi : s.fieldFound? O n d = some (cf, kf, fi, fd)) (hi' : s.fieldFound? O' n' d' = some (cf', kf', fi', fd')) (hne : O ≠ O') : fd.slot ≠ fd'.slot := by
  obtain ⟨c, k, c1, k1, i1, f1, a1, a2, a3, -, -, -, a4, -, dd, a5, a6, -⟩ := Cond.laysFinal_spec h
  obtain ⟨c', k', c2, k2, i2, f2, b1, b2, b3, -, -, -, b4, -, dd', b5, b6, -⟩ := Cond.laysFinal_spec h'
  cases hi.symm.trans a3
  cases hi'.symm.trans b3
  cases a1.symm.trans b1
  intro e
  rw [e] at a5
  cases a5.symm.trans b5
  have e1 := zname_cls a4 (zfound_cls a3)
  have e2 := zname_cls b4 (zfound_cls b3)
  exact hne (by rw [← e1, ← e2, ← a6, ← b6])
/-- the fields of a class of the table have slots apart -/
theorem zapart {args : Array Value} {s : State} {D : zD} {ci : Nat} {q : vw_C} {ty : Nat → FieldType} (hts : ∀ w ∈ lw_all, w.before args s = true) (hK : zKn D s) (hq : zCl[ci]? = some q) (ht : zTys[ci]? = some ty) : ∀ x y, x < q.2.2 → y < q.2.2 → x ≠ y → (D.2.1 ci) x ≠ (D.2.1 ci) y := by
  intro x y hx hy hne
  obtain ⟨hin, hty, hnm⟩ := zCl_ok hq ht
  obtain ⟨hS, -⟩ := hK.1 ci _ hq
  obtain ⟨_, _, _, fa, hia, ea⟩ := hS x hx
  obtain ⟨_, _, _, fb, hib, eb⟩ := hS y hy
  rw [← ea, ← eb]
  rcases hnm x hx y hy hne with h1 | ⟨h1, h2, h3⟩
  · refine u_apart (u_lays hts hin hx) (u_lays hts hin hy) hia hib ?_
    rw [(State.fieldFound?_type hia (hty x hx)).1, (State.fieldFound?_type hib (hty y hy)).1]
    exact h1
  · have g1 := hts _ (hin _ (u_in_lay hx))
    have g2 := hts _ (hin _ (u_in_lay hy))
    unfold u_lay at g1 g2
    rw [if_pos h2] at g1
    rw [if_pos h3] at g2
    exact zapart_own g1 g2 hia hib h1
theorem zSim.upd {D : zD} {bs : Nat} {r : Nat → Nat} {h h' : zH} {H H' : Heap} {a : Nat} (hS : zSim D bs r h H) (ha : a < zn h) (h00 : a ≠ 0) (hn : zn h' = zn h) (hT : zT h' = zT h) (hP : ∀ (b k c : Nat), b < zn h → zP h' b k = some c → c < zn h) (hz : H'.size = H.size) (ho : ∀ q : Nat, q ≠ r a → H'[q]? = H[q]?)
    (hf : ∀ (ty : FieldType) (b j : Nat), b ≠ a → zfv r h' ty b j = zfv r h ty b j)
    (hobj : ∀ (ci : Nat) (q : vw_C) (ty : Nat → FieldType), zT h a = (ci + 1, 0) → zCl[ci]? = some q → zTys[ci]? = some ty → t_OB (r a) (D.1 ci) q.2.2 (D.2.1 ci) H' (fun k => zfv r h' (ty k) a k))
    (harr : ∀ (t n : Nat) (ty : FieldType), zT h a = (t + 100, n) → zAt[t]? = some ty → H'[r a]? = some (arrV (D.2.2.1 t) n (fun j => zfv r h' ty a j))) : zSim D bs r h' H' := by
  obtain ⟨s1, s2, s3, s4, s5, s6, s7, s8, s9⟩ := hS
  have hne : ∀ b : Nat, b < zn h → b ≠ a → r b ≠ r a := fun b hb n e => n (s1 b a hb ha e)
  refine ⟨fun x y hx hy => s1 x y (hn ▸ hx) (hn ▸ hy), fun x hx => s2 x (hn ▸ hx), fun x hx => by rw [hz]; exact s3 x (hn ▸ hx), by rw [hz]; exact s4, fun x k b hx e => by rw [hn]; exact hP x k b (hn ▸ hx) e, fun b ci q ty hb e1 e2 e3 => ?_, fun b t n ty hb e1 e2 => ?_, fun b hb => by rw [hT]; exact s8 b (hn ▸ hb), s9.1.to (by rw [hT]) rfl (ho _ (hne 0 s9.2.1 (Ne.symm h00))) (fun j => Value.int.inj (hf .int 0 j (Ne.symm h00))), by rw [hn]; exact s9.2.1, s9.2.2.1, fun q hq => by rw [ho q (by have := s2 a ha h00; omega)]; exact s9.2.2.2 q hq⟩
  · rw [hn] at hb
    rw [hT] at e1
    by_cases e : b = a
    · subst e; exact hobj ci q ty e1 e2 e3
    · exact (t_OB.kept (s6 b ci q ty hb e1 e2 e3) (ho _ (hne b hb e))).to (fun k _ => (hf _ b k e).symm)
  · rw [hn] at hb
    rw [hT] at e1
    by_cases e : b = a
    · subst e; exact harr t n ty e1 e2
    · rw [ho _ (hne b hb e), s7 b t n ty hb e1 e2]
      congr 2
      funext j
      exact (hf _ b j e).symm
/-- a field's link, a nest mate's too -/
def zLk (own : String) (index : Nat) (ref name desc : String) : Prop := Cond.fieldLink own index ref name desc ∈ lw_all ∨ ∃ host, Cond.fieldLinkNest own index ref name desc host ∈ lw_tbl
/-- entry 'index' of the class 'own' is field k of class ci -/
def zFd (own : String) (index ci k : Nat) (ty : FieldType) (fin : Bool) : Prop := ∃ (ref : String) (q : vw_C) (tys : Nat → FieldType), zCl[ci]? = some q ∧ zTys[ci]? = some tys ∧ k < q.2.2 ∧ tys k = ty ∧ (q.2.1 k).2.2.2 = fin ∧ zLk own index ref (q.2.1 k).2.1 (q.2.1 k).2.2.1 ∧ (ref = (q.2.1 k).1 ∨ Cond.sameField ref (q.2.1 k).1 (q.2.1 k).2.1 (q.2.1 k).2.2.1 ∈ lw_all)
theorem z_getW {F : zF} {nL : Nat} {cc : ByteArray} {own nm : String} {ret : Option FieldType} {hh : List (Nat × Nat × Nat × Nat)} {h : zH} {pc : Nat} {lc : List (Nat × Value)} {st : List Value} {index ci k a : Nat} {ty : FieldType} {fin : Bool} {v : Value} (hf : zFd own index ci k ty fin) (ha : zT h a = (ci + 1, 0)) (hd : decode cc pc = .ok (.getfield index, 3))
    (hv : ∀ r : Nat → Nat, zfv r h ty a k = zv r v) (hvo : ∀ (D : zD) (bs : Nat) (r : Nat → Nat) (H : Heap), zSim D bs r h H → a < zn h → zok (zn h) v) (kk : Z F nL cc own nm ret hh h (pc + 3) lc (v :: st)) : Z F nL cc own nm ret hh h pc lc (.ref a :: st) := by
  obtain ⟨ref, q, tys, hq, hts0, hk, hty, -, hlk, hsm⟩ := hf
  refine ⟨kk.1, fun K hC r H locs ls hz => ?_⟩
  have hw := kk.2 K hC r H locs ls
  obtain ⟨l, d, h0, x⟩ := F
  obtain ⟨p, e, s, m, args, below, meth, c, D, bs, r0⟩ := K
  obtain ⟨z1, z2, z3, z4, z5, z6, z7⟩ := hz
  obtain ⟨hx1, hb, hml, hown, hts, hKn, -⟩ := hC
  have han : a < zn h := z6 _ List.mem_cons_self a rfl
  have hw := hw ⟨z1, z2, z3, z4, z5, zok_1 (hvo D bs r H z3 han) z6 (fun v hv => List.mem_cons_of_mem _ hv), z7⟩
  obtain ⟨cell, q1, q2, q3, q4⟩ := z3.2.2.2.2.2.1 a ci q tys han ha hq hts0
  obtain ⟨hSl, hfc, kC, hkC, hkind⟩ := hKn.1 ci q hq
  obtain ⟨cf, kf, fi, f, hi, hsl⟩ := hSl k hk
  obtain ⟨hin, -, -⟩ := zCl_ok hq hts0
  have hi' : s.fieldFound? ref (q.2.1 k).2.1 (q.2.1 k).2.2.1 = some (cf, kf, fi, f) := by
    rcases hsm with e | e
    · rw [e]; exact hi
    · exact u_same (hts _ e) _ hi
  have hst := (u_facts hfc hkC (u_lays hts hin hk) hi).1
  have hv' : cell.slots[f.slot]? = some (zv r v) := by rw [hsl, q4 k hk]; exact congrArg some (by show zfv r h (tys k) a k = _; rw [hty, hv])
  rcases hlk with hlk | ⟨host, hlk⟩
  · exact W.getf hx1 hb hown (hts _ hlk) hi' hst q1 (by rw [q3]; exact fun h => by cases h) hv' rfl rfl hd hw
  · exact va_Wgetf hx1 hb hown (va_Nw.use rfl (hKn.2.2.1 _ hlk rfl)) hi' hst q1 (by rw [q3]; exact fun h => by cases h) hv' rfl rfl hd hw
section ZH
variable {F : zF} {nL : Nat} {cc : ByteArray} {own nm : String} {ret : Option FieldType} {hh : List (Nat × Nat × Nat × Nat)} {h : zH} {pc : Nat} {lc : List (Nat × Value)} {st : List Value} {index ci k a : Nat} {ty : FieldType} {fin : Bool}
theorem z_geti (hf : zFd own index ci k .int fin) (ha : zT h a = (ci + 1, 0)) (hd : decode cc pc = .ok (.getfield index, 3)) (kk : Z F nL cc own nm ret hh h (pc + 3) lc (.int (zI h a k) :: st)) : Z F nL cc own nm ret hh h pc lc (.ref a :: st) :=
  z_getW hf ha hd (fun _ => rfl) (fun _ _ _ _ _ _ => zok_int _ _) kk
theorem z_getz (hf : zFd own index ci k .boolean fin) (ha : zT h a = (ci + 1, 0)) (hd : decode cc pc = .ok (.getfield index, 3)) (kk : Z F nL cc own nm ret hh h (pc + 3) lc (.int (zI h a k) :: st)) : Z F nL cc own nm ret hh h pc lc (.ref a :: st) :=
  z_getW hf ha hd (fun _ => rfl) (fun _ _ _ _ _ _ => zok_int _ _) kk
theorem zok_rf {n : Nat} {o : Option Nat} (h : ∀ b, o = some b → b < n) : zok n (va_rf o) := by
  intro a e
  cases o with
  | none => cases e
  | some b => cases e; exact h a rfl
/-- a field that holds a reference or null -/
theorem z_getq (hf : zFd own index ci k ty fin) (hty : (∃ n, ty = .object n) ∨ ∃ t, ty = .array t) (ha : zT h a = (ci + 1, 0)) (hd : decode cc pc = .ok (.getfield index, 3)) (kk : Z F nL cc own nm ret hh h (pc + 3) lc (va_rf (zP h a k) :: st)) : Z F nL cc own nm ret hh h pc lc (.ref a :: st) := by
  refine z_getW hf ha hd (fun r => ?_) (fun D bs r H hS han => zok_rf (fun b e => hS.2.2.2.2.1 a k b han e)) kk
  rcases hty with ⟨n, rfl⟩ | ⟨t, rfl⟩ <;> rfl
/-- a field of which it is known what it points to -/
theorem z_getr {b : Nat} (hf : zFd own index ci k ty fin) (hty : (∃ n, ty = .object n) ∨ ∃ t, ty = .array t) (ha : zT h a = (ci + 1, 0)) (hb : zP h a k = some b) (hd : decode cc pc = .ok (.getfield index, 3)) (kk : Z F nL cc own nm ret hh h (pc + 3) lc (.ref b :: st)) : Z F nL cc own nm ret hh h pc lc (.ref a :: st) := by
  refine z_getq hf hty ha hd ?_
  rw [hb]
  exact kk
end ZH
/-! what the heap's words read -/
theorem zI_sI (h : zH) (a k : Nat) (v : Int32) : zI (zsI h a k v) = zu2 (zI h) a k v := rfl
theorem zfv_sI (r : Nat → Nat) (h : zH) (a k : Nat) (v : Int32) (ty : FieldType) (b j : Nat) (n : ¬ (b = a ∧ j = k)) : zfv r (zsI h a k v) ty b j = zfv r h ty b j := by
  have e : zI (zsI h a k v) b j = zI h b j := if_neg n
  cases ty <;> first | rfl | exact congrArg Value.int e
theorem zfv_sL (r : Nat → Nat) (h : zH) (a k : Nat) (v : Int64) (ty : FieldType) (b j : Nat) (n : ¬ (b = a ∧ j = k)) : zfv r (zsL h a k v) ty b j = zfv r h ty b j := by
  have e : zL (zsL h a k v) b j = zL h b j := if_neg n
  cases ty <;> first | rfl | exact congrArg Value.long e
theorem zfv_sP (r : Nat → Nat) (h : zH) (a k : Nat) (v : Option Nat) (ty : FieldType) (b j : Nat) (n : ¬ (b = a ∧ j = k)) : zfv r (zsP h a k v) ty b j = zfv r h ty b j := by
  have e : zP (zsP h a k v) b j = zP h b j := if_neg n
  cases ty <;> first | rfl | exact congrArg (fun o => zv r (va_rf o)) e
theorem zcl_lt {ci : Nat} {q : vw_C} (h : zCl[ci]? = some q) : ci < 11 := (List.getElem?_eq_some_iff.mp h).1
/-- h' is h but for one slot, which holds v -/
def zOne (h h' : zH) (a k : Nat) (ty : FieldType) (v : Value) : Prop := zn h' = zn h ∧ zc h' = zc h ∧ zu h' = zu h ∧ zT h' = zT h ∧ (∀ r : Nat → Nat, zfv r h' ty a k = zv r v) ∧ (∀ (r : Nat → Nat) (t : FieldType) (b j : Nat), ¬ (b = a ∧ j = k) → zfv r h' t b j = zfv r h t b j) ∧
  ∀ n : Nat, zok n v → (∀ (b j c : Nat), b < zn h → zP h b j = some c → c < n) → ∀ (b j c : Nat), b < zn h → zP h' b j = some c → c < n
theorem zOne_I (h : zH) (a k : Nat) (x : Int32) : zOne h (zsI h a k x) a k .int (.int x) :=
  ⟨rfl, rfl, rfl, rfl, fun r => congrArg Value.int (if_pos ⟨rfl, rfl⟩), fun r t b j n => zfv_sI r h a k x t b j n, fun n _ hp b j c hb e => hp b j c hb e⟩
theorem zOne_Z (h : zH) (a k : Nat) (x : Int32) : zOne h (zsI h a k x) a k .boolean (.int x) :=
  ⟨rfl, rfl, rfl, rfl, fun r => congrArg Value.int (if_pos ⟨rfl, rfl⟩), fun r t b j n => zfv_sI r h a k x t b j n, fun n _ hp b j c hb e => hp b j c hb e⟩
theorem zOne_L (h : zH) (a k : Nat) (x : Int64) : zOne h (zsL h a k x) a k .long (.long x) :=
  ⟨rfl, rfl, rfl, rfl, fun r => congrArg Value.long (if_pos ⟨rfl, rfl⟩), fun r t b j n => zfv_sL r h a k x t b j n, fun n _ hp b j c hb e => hp b j c hb e⟩
theorem zOne_P (h : zH) (a k : Nat) (x : Option Nat) {ty : FieldType} (hty : (∃ n, ty = .object n) ∨ ∃ t, ty = .array t) : zOne h (zsP h a k x) a k ty (va_rf x) := by
  refine ⟨rfl, rfl, rfl, rfl, fun r => ?_, fun r t b j n => zfv_sP r h a k x t b j n, fun n hv hp b j c hb e => ?_⟩
  · have e : zP (zsP h a k x) a k = x := if_pos ⟨rfl, rfl⟩
    rcases hty with ⟨n, rfl⟩ | ⟨t, rfl⟩ <;> exact congrArg (fun o => zv r (va_rf o)) e
  · have e : (if b = a ∧ j = k then x else zP h b j) = some c := e
    split at e
    · rw [e] at hv; exact hv c rfl
    · exact hp b j c hb e
/-- what final fields hold stays -/
def zPk (h h' : zH) : Prop := ∀ (b j c : Nat), zFn (zT h b) j = true → zP h b j = some c → zP h' b j = some c
theorem zLx_one {h h' : zH} {a k : Nat} {ty : FieldType} {v : Value} {x : zH} (ho : zOne h h' a k ty v) (hp : zPk h h') (hx : zLx h' x) : zLx h x := by
  obtain ⟨o1, o2, o3, o4, -⟩ := ho
  refine ⟨⟨by rw [← o1]; exact hx.1.1, by rw [← o2]; exact hx.1.2.1, by rw [← o3]; exact hx.1.2.2⟩, fun b hb => by rw [hx.2.1 b (by rw [o1]; exact hb), o4], fun b j c hb hf e => hx.2.2 b j c (by rw [o1]; exact hb) (by rw [o4]; exact hf) (hp b j c hf e)⟩
theorem zPk_I (h : zH) (a k : Nat) (v : Int32) : zPk h (zsI h a k v) := fun _ _ _ _ e => e
theorem zPk_P {h : zH} {a k : Nat} {v : Option Nat} (hf : zFn (zT h a) k = false) : zPk h (zsP h a k v) := by
  intro b j c hb e
  have n : ¬ (b = a ∧ j = k) := by
    rintro ⟨rfl, rfl⟩
    rw [hf] at hb
    cases hb
  exact (if_neg n : (if b = a ∧ j = k then v else zP h b j) = zP h b j).trans e
theorem zPk_F {h : zH} {a k : Nat} {v : Option Nat} (hn : zP h a k = none) : zPk h (zsP h a k v) := by
  intro b j c hb e
  have n : ¬ (b = a ∧ j = k) := by
    rintro ⟨rfl, rfl⟩
    rw [hn] at e
    cases e
  exact (if_neg n : (if b = a ∧ j = k then v else zP h b j) = zP h b j).trans e
theorem zFn_c {ci k : Nat} {q : vw_C} (hq : zCl[ci]? = some q) : zFn (ci + 1, 0) k = (q.2.1 k).2.2.2 := by
  have h1 := zcl_lt hq
  have e2 : zFn (ci + 1, 0) k = if 102 ≤ ci then true else (zCl[ci]?).any (fun q => (q.2.1 k).2.2.2) := rfl
  rw [e2, if_neg (by omega), hq]
  rfl
section ZHP
variable {F : zF} {nL : Nat} {cc : ByteArray} {own nm : String} {ret : Option FieldType} {hh : List (Nat × Nat × Nat × Nat)} {h h' : zH} {pc : Nat} {lc : List (Nat × Value)} {st : List Value} {index ci k a : Nat} {ty : FieldType} {fin : Bool}
theorem zAtH_one {F : zF} {K : zK} {nL : Nat} {h h' : zH} {r : Nat → Nat} {H H' : Heap} {locs : List Loc} {ls : Array Slot} {lc : List (Nat × Value)} {st st' : List Value} {a k : Nat} {ty : FieldType} {v : Value} {i : Nat} (hz : zAtH F K nL h r H locs ls lc st) (ho : zOne h h' a k ty v) (ha : a < zn h) (h0 : a ≠ 0) (hst : ∀ v ∈ st', v ∈ st) (hz1 : H'.size = H.size) (hq : ∀ q : Nat, q ≠ r a → H'[q]? = H[q]?)
    (hs : zSim K.2.2.2.2.2.2.2.2.1 K.2.2.2.2.2.2.2.2.2.1 r h' H') : zAtH F K nL h' r H' (locs ++ [⟨r a, i⟩]) ls lc st' := by
  obtain ⟨l, d, h0', x⟩ := F
  obtain ⟨p, e, s, m, args, below, meth, c, D, bs, r0⟩ := K
  obtain ⟨z1, z2, z3, z4, z5, z6, z7⟩ := hz
  obtain ⟨o1, o2, o3, o4, -⟩ := ho
  exact ⟨⟨by rw [o1]; exact z1.1, by rw [o2]; exact z1.2.1, by rw [o3]; exact z1.2.2⟩, z2, hs, va_S.put z4 hz1 hq (z3.2.1 a ha h0), by rw [o1]; exact z5, by rw [o1]; exact fun v hv => z6 v (hst v hv), z7⟩
theorem zSim_put {D : zD} {bs : Nat} {r : Nat → Nat} {h h' : zH} {H H' : Heap} {a ci k : Nat} {ty : FieldType} {v : Value} {q : vw_C} {tys : Nat → FieldType} {cell : Cell} (hS : zSim D bs r h H) (han : a < zn h) (h00 : a ≠ 0) (ha : zT h a = (ci + 1, 0)) (hq : zCl[ci]? = some q) (hts0 : zTys[ci]? = some tys) (hk : k < q.2.2) (hty : tys k = ty) (ho : zOne h h' a k ty v) (hvo : zok (zn h) v)
    (hap : ∀ x y, x < q.2.2 → y < q.2.2 → x ≠ y → (D.2.1 ci) x ≠ (D.2.1 ci) y) (q2 : cell.cls = D.1 ci) (q3 : cell.vm = .none) (q4 : ∀ j, j < q.2.2 → cell.slots[D.2.1 ci j]? = some (zfv r h (tys j) a j)) (e1 : H'[r a]? = some (cell.setSlot (D.2.1 ci k) (zv r v))) (e2 : H'.size = H.size) (e3 : ∀ q, q ≠ r a → H'[q]? = H[q]?) : zSim D bs r h' H' := by
  obtain ⟨o1, o2, o3, o4, o5, o6, o7⟩ := ho
  refine hS.upd han h00 o1 o4 (o7 (zn h) hvo hS.2.2.2.2.1) e2 e3 (fun t b j n => o6 r t b j (fun e => n e.1)) (fun ci' q' ty' e4 e5 e6 => ?_) (fun t n ty' e4 e5 => ?_)
  · have e : ci' = ci := by rw [ha] at e4; simp only [Prod.mk.injEq] at e4; omega
    subst e
    cases hq.symm.trans e5
    cases hts0.symm.trans e6
    refine t_OB.to ⟨_, e1, q2, q3, t_set q4 hap hk (zv r v)⟩ (fun j hj => ?_)
    unfold updV
    split
    · rename_i e; subst e; rw [hty]; exact (o5 r).symm
    · rename_i e; exact (o6 r _ a j (fun x => e x.2)).symm
  · exfalso
    have h1 := zcl_lt hq
    rw [ha] at e4
    simp only [Prod.mk.injEq] at e4
    omega
theorem z_putW {v : Value} (hf : zFd own index ci k ty false) (ho : zOne h h' a k ty v) (hpk : zPk h h') (hn : ∀ r : Nat → Nat, narrow ty (zv r v) = zv r v) (hft : ∀ r : Nat → Nat, fits ty (zv r v) = true) (ha : zT h a = (ci + 1, 0)) (h0 : a ≠ 0) (hd : decode cc pc = .ok (.putfield index, 3)) (kk : Z F nL cc own nm ret hh h' (pc + 3) lc st) : Z F nL cc own nm ret hh h pc lc (v :: .ref a :: st) := by
  obtain ⟨ref, q, tys, hq, hts0, hk, hty, hfi, hlk, hsm⟩ := hf
  obtain ⟨o1, o2, o3, o4, o5, o6, o7⟩ := id ho
  have hle : zLx h (zEnd F).2 := zLx_one ho hpk kk.1
  refine ⟨hle, fun K hC r H locs ls hz => ?_⟩
  have hw := kk.2 K hC r
  have hz1 := hz
  obtain ⟨l, d, h0', x⟩ := F
  obtain ⟨p, e, s, m, args, below, meth, c, D, bs, r0⟩ := K
  obtain ⟨z1, z2, z3, z4, z5, z6, z7⟩ := hz
  obtain ⟨hx1, hb, hml, hown, hts, hKn, -, -, -, hnm⟩ := hC
  have han : a < zn h := z6 _ (List.mem_cons_of_mem _ List.mem_cons_self) a rfl
  have hvo : zok (zn h) v := z6 _ List.mem_cons_self
  obtain ⟨cell, q1, q2, q3, q4⟩ := z3.2.2.2.2.2.1 a ci q tys han ha hq hts0
  obtain ⟨hSl, hfc, kC, hkC, hkind⟩ := hKn.1 ci q hq
  obtain ⟨cf, kf, fi, f, hi, hsl⟩ := hSl k hk
  obtain ⟨hin, hpd, -⟩ := zCl_ok hq hts0
  have hi' : s.fieldFound? ref (q.2.1 k).2.1 (q.2.1 k).2.2.1 = some (cf, kf, fi, f) := by
    rcases hsm with e | e
    · rw [e]; exact hi
    · exact u_same (hts _ e) _ hi
  have hst := (u_facts hfc hkC (u_lays hts hin hk) hi).1
  have hlt : f.slot < cell.slots.size := by rw [hsl]; exact k2_hasslot (q4 k hk)
  have hpd2 : parseFieldDescriptor (q.2.1 k).2.2.1 = some ty := by rw [hpd k hk, hty]
  have hlay := hts _ (hin _ (u_in_lay hk))
  unfold u_lay at hlay
  rw [if_neg (by rw [hfi]; decide)] at hlay
  have h6 : k2_Sd s f cell.cls (zv r v) := by rw [q2]; exact u_store hfc hkC hkind hlay hi hpd2 (hn r) (hft r)
  have step : ∀ H' : Heap, H'[r a]? = some (cell.setSlot f.slot (zv r v)) → H'.size = H.size → (∀ q, q ≠ r a → H'[q]? = H[q]?) → W p l e (zRm d (zc x.2 - zc h0') (zu x.2 - zu h0')) s m args below meth c H' (locs ++ [⟨r a, f.slot⟩]) (zc h - zc h0') (zu h - zu h0') (zMQ below (zQ D bs r0 h0' x) args s (zc x.2 - zc h0') (zu x.2 - zu h0') (fun q => bs ≤ q)) (F0 m (pc + 3) ls (st.map (zv r))) := by
    intro H' e1 e2 e3
    rw [hsl] at e1
    have hz2 := zAtH_one (i := f.slot) (st' := st) hz1 ho han h0 (fun v hv => List.mem_cons_of_mem _ (List.mem_cons_of_mem _ hv)) e2 e3 (zSim_put z3 han h0 ha hq hts0 hk hty ho hvo (zapart hts hKn hq hts0) q2 q3 q4 e1 e2 e3)
    have hw2 := hw H' _ ls hz2
    have hw2 : W p l e (zRm d (zc x.2 - zc h0') (zu x.2 - zu h0')) s m args below meth c H' (locs ++ [⟨r a, f.slot⟩]) (zc h' - zc h0') (zu h' - zu h0') _ _ := hw2
    rw [o2, o3] at hw2
    exact hw2
  rcases hlk with hlk | ⟨host, hlk⟩
  · exact W.putK hx1 hb (f := f) ⟨hown, hts _ hlk, ⟨_, _, _, hi'⟩, hst⟩ h6 q1 q3 hlt rfl rfl hd step
  · exact va_WputK hx1 hb (f := f) hown (va_Nw.use rfl (hKn.2.2.1 _ hlk rfl)) hi' hst h6 q1 q3 hlt rfl rfl hd step
/-- a final field of the class's own, in its constructor -/
def zFdF (own : String) (index ci k : Nat) (ty : FieldType) : Prop := ∃ (q : vw_C) (tys : Nat → FieldType), zCl[ci]? = some q ∧ zTys[ci]? = some tys ∧ k < q.2.2 ∧ tys k = ty ∧ (q.2.1 k).2.2.2 = true ∧ (q.2.1 k).1 = own ∧ Cond.fieldLink own index own (q.2.1 k).2.1 (q.2.1 k).2.2.1 ∈ lw_all
theorem z_putFW {v : Value} (hf : zFdF own index ci k ty) (hnm0 : nm = "<init>") (ho : zOne h h' a k ty v) (hpk : zPk h h') (hn : ∀ r : Nat → Nat, narrow ty (zv r v) = zv r v) (hft : ∀ r : Nat → Nat, fits ty (zv r v) = true) (ha : zT h a = (ci + 1, 0)) (h0 : a ≠ 0) (hd : decode cc pc = .ok (.putfield index, 3)) (kk : Z F nL cc own nm ret hh h' (pc + 3) lc st) : Z F nL cc own nm ret hh h pc lc (v :: .ref a :: st) := by
  obtain ⟨q, tys, hq, hts0, hk, hty, hfi, hdecl, hlk⟩ := hf
  obtain ⟨o1, o2, o3, o4, o5, o6, o7⟩ := id ho
  have hle : zLx h (zEnd F).2 := zLx_one ho hpk kk.1
  refine ⟨hle, fun K hC r H locs ls hz => ?_⟩
  have hw := kk.2 K hC r
  have hz1 := hz
  obtain ⟨l, d, h0', x⟩ := F
  obtain ⟨p, e, s, m, args, below, meth, c, D, bs, r0⟩ := K
  obtain ⟨z1, z2, z3, z4, z5, z6, z7⟩ := hz
  obtain ⟨hx1, hb, hml, hown, hts, hKn, -, -, -, hnm⟩ := hC
  have han : a < zn h := z6 _ (List.mem_cons_of_mem _ List.mem_cons_self) a rfl
  have hvo : zok (zn h) v := z6 _ List.mem_cons_self
  obtain ⟨cell, q1, q2, q3, q4⟩ := z3.2.2.2.2.2.1 a ci q tys han ha hq hts0
  obtain ⟨hSl, hfc, kC, hkC, hkind⟩ := hKn.1 ci q hq
  obtain ⟨cf, kf, fi, f, hi, hsl⟩ := hSl k hk
  obtain ⟨hin, hpd, -⟩ := zCl_ok hq hts0
  have hst := (u_facts hfc hkC (u_lays hts hin hk) hi).1
  have hlt : f.slot < cell.slots.size := by rw [hsl]; exact k2_hasslot (q4 k hk)
  have hpd2 : parseFieldDescriptor (q.2.1 k).2.2.1 = some ty := by rw [hpd k hk, hty]
  have hlay := hts _ (hin _ (u_in_lay hk))
  unfold u_lay at hlay
  rw [if_pos hfi] at hlay
  have hcf : m.cls = cf := by
    obtain ⟨_, _, c', _, _, _, -, -, hf', -, -, -, hown2, -⟩ := Cond.laysFinal_spec hlay
    have e1 : c' = cf := by have := hi.symm.trans hf'; simp at this; exact this.1.symm
    rw [hdecl] at hown2
    rw [← e1]; exact Option.some.inj (hown.symm.trans hown2)
  have h6 : narrow f.type (zv r v) = zv r v ∧ s.fitsSlot cell.cls .none f.slot (zv r v) = true := by rw [q2]; exact u_fits hfc hkC hkind (Or.inr hlay) hi hpd2 (hn r) (hft r)
  refine W.putFinK hx1 hb hown (hts _ hlk) (by rw [hdecl] at hi; exact hi) hst hcf (by rw [hnm.1]; exact hnm0) h6 q1 q3 hlt rfl rfl hd (fun H' e1 e2 e3 => ?_)
  rw [hsl] at e1
  have hz2 := zAtH_one (i := f.slot) (st' := st) hz1 ho han h0 (fun v hv => List.mem_cons_of_mem _ (List.mem_cons_of_mem _ hv)) e2 e3 (zSim_put z3 han h0 ha hq hts0 hk hty ho hvo (zapart hts hKn hq hts0) q2 q3 q4 e1 e2 e3)
  have hw2 := hw H' _ ls hz2
  have hw2 : W p l e (zRm d (zc x.2 - zc h0') (zu x.2 - zu h0')) s m args below meth c H' (locs ++ [⟨r a, f.slot⟩]) (zc h' - zc h0') (zu h' - zu h0') _ _ := hw2
  rw [o2, o3] at hw2
  exact hw2
theorem z_puti {x : Int32} (hf : zFd own index ci k .int false) (ha : zT h a = (ci + 1, 0)) (h0 : a ≠ 0) (he : h' = zsI h a k x) (hd : decode cc pc = .ok (.putfield index, 3)) (kk : Z F nL cc own nm ret hh h' (pc + 3) lc st) : Z F nL cc own nm ret hh h pc lc (.int x :: .ref a :: st) := by
  subst he
  exact z_putW hf (zOne_I h a k x) (zPk_I h a k x) (fun _ => rfl) (fun _ => rfl) ha h0 hd kk
theorem z_putz {x : Int32} (hf : zFd own index ci k .boolean false) (hx : zB x) (ha : zT h a = (ci + 1, 0)) (h0 : a ≠ 0) (he : h' = zsI h a k x) (hd : decode cc pc = .ok (.putfield index, 3)) (kk : Z F nL cc own nm ret hh h' (pc + 3) lc st) : Z F nL cc own nm ret hh h pc lc (.int x :: .ref a :: st) := by
  subst he
  exact z_putW hf (zOne_Z h a k x) (zPk_I h a k x) (fun _ => zB_nar hx) (fun _ => by rcases hx with rfl | rfl <;> rfl) ha h0 hd kk
theorem zrf_nar {ty : FieldType} (hty : (∃ n, ty = .object n) ∨ ∃ t, ty = .array t) (x : Option Nat) (r : Nat → Nat) : narrow ty (zv r (va_rf x)) = zv r (va_rf x) ∧ fits ty (zv r (va_rf x)) = true := by
  rcases hty with ⟨n, rfl⟩ | ⟨t, rfl⟩ <;> cases x <;> exact ⟨rfl, rfl⟩
theorem zFd_fn {fin : Bool} (hf : zFd own index ci k ty fin) (ha : zT h a = (ci + 1, 0)) : zFn (zT h a) k = fin := by
  obtain ⟨ref, q, tys, hq, -, -, -, hfi, -⟩ := hf
  rw [ha, zFn_c hq, hfi]
theorem z_putq {x : Option Nat} (hf : zFd own index ci k ty false) (hty : (∃ n, ty = .object n) ∨ ∃ t, ty = .array t) (ha : zT h a = (ci + 1, 0)) (h0 : a ≠ 0) (he : h' = zsP h a k x) (hd : decode cc pc = .ok (.putfield index, 3)) (kk : Z F nL cc own nm ret hh h' (pc + 3) lc st) : Z F nL cc own nm ret hh h pc lc (va_rf x :: .ref a :: st) := by
  subst he
  exact z_putW hf (zOne_P h a k x hty) (zPk_P (zFd_fn hf ha)) (fun r => (zrf_nar hty x r).1) (fun r => (zrf_nar hty x r).2) ha h0 hd kk
theorem z_putr {x : Nat} (hf : zFd own index ci k ty false) (hty : (∃ n, ty = .object n) ∨ ∃ t, ty = .array t) (ha : zT h a = (ci + 1, 0)) (h0 : a ≠ 0) (he : h' = zsP h a k (some x)) (hd : decode cc pc = .ok (.putfield index, 3)) (kk : Z F nL cc own nm ret hh h' (pc + 3) lc st) : Z F nL cc own nm ret hh h pc lc (.ref x :: .ref a :: st) := z_putq (x := some x) hf hty ha h0 he hd kk
theorem z_putFr {x : Nat} (hf : zFdF own index ci k ty) (hnm0 : nm = "<init>") (hty : (∃ n, ty = .object n) ∨ ∃ t, ty = .array t) (ha : zT h a = (ci + 1, 0)) (h0 : a ≠ 0) (hno : zP h a k = none) (he : h' = zsP h a k (some x)) (hd : decode cc pc = .ok (.putfield index, 3)) (kk : Z F nL cc own nm ret hh h' (pc + 3) lc st) : Z F nL cc own nm ret hh h pc lc (.ref x :: .ref a :: st) := by
  subst he
  exact z_putFW hf hnm0 (zOne_P h a k (some x) hty) (zPk_F hno) (fun r => (zrf_nar hty (some x) r).1) (fun r => (zrf_nar hty (some x) r).2) ha h0 hd kk
end ZHP
