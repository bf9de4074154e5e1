/-! returns, what is thrown, the start, loops -/
set_option maxRecDepth 100000
theorem zW_of {p : Program} {l : Launch} {e : Env} {R : Room} {s : State} {m : MethodId} {args : Array Value} {below : List Frame} {meth : Method} {c : Code} {H : Heap} {locs : List Loc} {cells slots : Nat} {Q Q' : State → Prop} {g : JFrame} (h : ∀ t, Q t → Q' t) (w : W p l e R s m args below meth c H locs cells slots Q g) : W p l e R s m args below meth c H locs cells slots Q' g := by
  intro T hT X
  obtain ⟨t, a, b⟩ := w T hT X
  exact ⟨t, a, h t b⟩
theorem zMQ_of {below : List Frame} {Qc : Array Value → State → Outcome → State → Prop} {a : Array Value} {s : State} {mc ms : Nat} {free : Addr → Prop} (t : State) (h : MQ below Qc a s mc ms free t) : zMQ below Qc a s mc ms free t := by
  obtain ⟨o, h1, h2, h3, L, ⟨-, h4, h5⟩, h6⟩ := h
  exact ⟨o, h1, h2, h3, L, ⟨h4, h5⟩, h6⟩
/-- what a method that returns a truth value may return -/
def zB (v : Int32) : Prop := v = 0 ∨ v = 1
theorem zB_nar {v : Int32} (h : zB v) : narrow .boolean (.int v) = .int v := by rcases h with rfl | rfl <;> rfl
theorem zLe_rf (h : zH) : zLe h h := ⟨Nat.le_refl _, Nat.le_refl _, Nat.le_refl _⟩
theorem zLe_tr {a b c : zH} (h1 : zLe a b) (h2 : zLe b c) : zLe a c := ⟨Nat.le_trans h1.1 h2.1, Nat.le_trans h1.2.1 h2.2.1, Nat.le_trans h1.2.2 h2.2.2⟩
theorem zLx_rf (h : zH) : zLx h h := ⟨zLe_rf h, fun _ _ => rfl, fun _ _ _ _ _ e => e⟩
theorem zLx_tr {a b c : zH} (h1 : zLx a b) (h2 : zLx b c) : zLx a c := ⟨zLe_tr h1.1 h2.1, fun x hx => (h2.2.1 x (Nat.lt_of_lt_of_le hx h1.1.1)).trans (h1.2.1 x hx), fun x k y hx hf e => h2.2.2 x k y (Nat.lt_of_lt_of_le hx h1.1.1) (by rw [h1.2.1 x hx]; exact hf) (h1.2.2 x k y hx hf e)⟩
section ZR
variable {F : zF} {nL : Nat} {cc : ByteArray} {own nm : String} {ret : Option FieldType} {hh : List (Nat × Nat × Nat × Nat)} {h : zH} {pc : Nat} {lc : List (Nat × Value)} {st : List Value}
theorem z_iret {v : Int32} (hd : decode cc pc = .ok (.ireturn, 1)) (hr : ret = some .int) (hx : (.inl (some (.int v)), h) = zEnd F) : Z F nL cc own nm ret hh h pc lc [.int v] := by
  subst hr
  obtain ⟨l, d, h0, x⟩ := F
  have hx : (.inl (some (.int v)), h) = x := hx
  subst hx
  refine ⟨zLx_rf h, fun K hC r H locs ls hz => ?_⟩
  obtain ⟨p, e, s, m, args, below, meth, c, D, bs, r0⟩ := K
  obtain ⟨z1, z2, z3, z4, z5, z6, z7⟩ := hz
  obtain ⟨hx1, hb, -, -, -, -, hlk, hrt, -⟩ := hC
  exact zW_of zMQ_of (W.iret hx1 hb hrt (fun t ht hW => ⟨r, z2, by rw [ht]; exact z3, rfl, z6 _ List.mem_cons_self, z4.F ht⟩) z4.2.2 hd hlk)
theorem z_zret {v : Int32} (hd : decode cc pc = .ok (.ireturn, 1)) (hr : ret = some .boolean) (hv : zB v) (hx : (.inl (some (.int v)), h) = zEnd F) : Z F nL cc own nm ret hh h pc lc [.int v] := by
  subst hr
  obtain ⟨l, d, h0, x⟩ := F
  have hx : (.inl (some (.int v)), h) = x := hx
  subst hx
  refine ⟨zLx_rf h, fun K hC r H locs ls hz => ?_⟩
  obtain ⟨p, e, s, m, args, below, meth, c, D, bs, r0⟩ := K
  obtain ⟨z1, z2, z3, z4, z5, z6, z7⟩ := hz
  obtain ⟨hx1, hb, -, -, -, -, hlk, hrt, -⟩ := hC
  exact zW_of zMQ_of (W.zret hx1 hb hrt (zB_nar hv) (fun t ht hW => ⟨r, z2, by rw [ht]; exact z3, rfl, z6 _ List.mem_cons_self, z4.F ht⟩) z4.2.2 hd hlk)
theorem z_lret {v : Int64} (hd : decode cc pc = .ok (.lreturn, 1)) (hr : ret = some .long) (hx : (.inl (some (.long v)), h) = zEnd F) : Z F nL cc own nm ret hh h pc lc [.long v] := by
  subst hr
  obtain ⟨l, d, h0, x⟩ := F
  have hx : (.inl (some (.long v)), h) = x := hx
  subst hx
  refine ⟨zLx_rf h, fun K hC r H locs ls hz => ?_⟩
  obtain ⟨p, e, s, m, args, below, meth, c, D, bs, r0⟩ := K
  obtain ⟨z1, z2, z3, z4, z5, z6, z7⟩ := hz
  obtain ⟨hx1, hb, -, -, -, -, hlk, hrt, -⟩ := hC
  exact zW_of zMQ_of (W.lret hx1 hb hrt (fun t ht hW => ⟨r, z2, by rw [ht]; exact z3, rfl, z6 _ List.mem_cons_self, z4.F ht⟩) z4.2.2 hd hlk)
theorem z_vret (hd : decode cc pc = .ok (.return_, 1)) (hr : ret = none) (hx : (.inl none, h) = zEnd F) : Z F nL cc own nm ret hh h pc lc [] := by
  subst hr
  obtain ⟨l, d, h0, x⟩ := F
  have hx : (.inl none, h) = x := hx
  subst hx
  refine ⟨zLx_rf h, fun K hC r H locs ls hz => ?_⟩
  obtain ⟨p, e, s, m, args, below, meth, c, D, bs, r0⟩ := K
  obtain ⟨z1, z2, z3, z4, z5, z6, z7⟩ := hz
  obtain ⟨hx1, hb, -, -, -, -, hlk, hrt, -⟩ := hC
  exact zW_of zMQ_of (W.vret hx1 hb hrt (fun t ht hW => ⟨r, z2, by rw [ht]; exact z3, rfl, trivial, z4.F ht⟩) z4.2.2 hd hlk)
theorem z_aret {o : Option Nat} {rt : FieldType} (hd : decode cc pc = .ok (.areturn, 1)) (hr : ret = some rt) (hrt : (∃ n, rt = .object n) ∨ ∃ t, rt = .array t) (hx : (.inl (some (va_rf o)), h) = zEnd F) : Z F nL cc own nm ret hh h pc lc [va_rf o] := by
  subst hr
  obtain ⟨l, d, h0, x⟩ := F
  have hx : (.inl (some (va_rf o)), h) = x := hx
  subst hx
  refine ⟨zLx_rf h, fun K hC r H locs ls hz => ?_⟩
  obtain ⟨p, e, s, m, args, below, meth, c, D, bs, r0⟩ := K
  obtain ⟨z1, z2, z3, z4, z5, z6, z7⟩ := hz
  obtain ⟨hx1, hb, -, -, -, -, hlk, hrt', -⟩ := hC
  have hv : zv r (va_rf o) = .null ∨ ∃ a, zv r (va_rf o) = .ref a := by cases o with
    | none => exact Or.inl rfl
    | some a => exact Or.inr ⟨_, rfl⟩
  exact zW_of zMQ_of (W.aret hx1 hb hrt' hrt hv (fun t ht hW => ⟨r, z2, by rw [ht]; exact z3, rfl, z6 _ List.mem_cons_self, z4.F ht⟩) z4.2.2 hd hlk)
/-! what is thrown -/
/-- the first handler that covers a pc -/
def zHd : List (Nat × Nat × Nat × Nat) → Nat → Option (Nat × Nat)
  | [], _ => none
  | q :: t, pc => if q.1 ≤ pc ∧ pc < q.2.1 then some (q.2.2.1, q.2.2.2) else zHd t pc
/-- the cell a is thrown at pc: the method comes to its end -/
def ZT (F : zF) (nL : Nat) (cc : ByteArray) (own nm : String) (ret : Option FieldType) (hh : List (Nat × Nat × Nat × Nat)) (h : zH) (pc : Nat) (lc : List (Nat × Value)) (a : Nat) : Prop :=
  zLx h (zEnd F).2 ∧ ∀ K : zK, zCx K nL cc own nm ret hh → ∀ (r : Nat → Nat) (H : Heap) (locs : List Loc) (ls : Array Slot) (st : List Value), zAtH F K nL h r H locs ls lc [.ref a] → match F, K with
  | (l, d, h0, x), (p, e, s, m, args, below, meth, c, D, bs, r0) => ∀ T : State, T.heap = H → Stand p l e (zRm d (zc x.2 - zc h0) (zu x.2 - zu h0)) s m args below meth c T locs (zc h - zc h0) (zu h - zu h0) →
      ∃ t, Steps p.tables e below ((T.setTop (F0 m pc ls st)).pushFrame (.throwing (r a))) t ∧ zMQ below (zQ D bs r0 h0 x) args s (zc x.2 - zc h0) (zu x.2 - zu h0) (fun q => bs ≤ q) t
theorem zHd_none {hh : List (Nat × Nat × Nat × Nat)} {pc : Nat} (h : zHd hh pc = none) {tb : List ExceptionTableEntry} (ht : tb.map (fun x => (x.startPc, x.endPc, x.handlerPc, x.catchType)) = hh) : ∀ x ∈ tb, covers x pc = false := by
  subst ht
  induction tb with
  | nil => intro x hx; cases hx
  | cons y t ih =>
    intro x hx
    simp only [List.map_cons, zHd] at h
    split at h
    · cases h
    · rename_i hn
      rcases List.mem_cons.mp hx with e | e
      · subst e
        simp only [covers, Bool.and_eq_false_iff, decide_eq_false_iff_not]
        omega
      · exact ih h x e
theorem zHd_some {hh : List (Nat × Nat × Nat × Nat)} {pc hp ct : Nat} (h : zHd hh pc = some (hp, ct)) {tb : List ExceptionTableEntry} (ht : tb.map (fun x => (x.startPc, x.endPc, x.handlerPc, x.catchType)) = hh) : ∃ (pre : List ExceptionTableEntry) (x : ExceptionTableEntry) (rest : List ExceptionTableEntry), tb = pre ++ x :: rest ∧ (∀ y ∈ pre, covers y pc = false) ∧ covers x pc = true ∧ x.handlerPc = hp ∧ x.catchType = ct := by
  subst ht
  induction tb with
  | nil => simp [zHd] at h
  | cons y t ih =>
    simp only [List.map_cons, zHd] at h
    split at h
    · rename_i hn
      cases h
      exact ⟨[], y, t, rfl, (fun z hz => by cases hz), by simp only [covers, Bool.and_eq_true, decide_eq_true_eq]; omega, rfl, rfl⟩
    · rename_i hn
      obtain ⟨pre, x, rest, e1, e2, e3, e4, e5⟩ := ih h
      refine ⟨y :: pre, x, rest, by rw [e1]; rfl, fun z hz => ?_, e3, e4, e5⟩
      rcases List.mem_cons.mp hz with e | e
      · subst e
        simp only [covers, Bool.and_eq_false_iff, decide_eq_false_iff_not]
        omega
      · exact e2 z e
theorem zt_out {a : Nat} (hn : zHd hh pc = none) (hx : (.inr a, h) = zEnd F) : ZT F nL cc own nm ret hh h pc lc a := by
  obtain ⟨l, d, h0, x⟩ := F
  have hx : (.inr a, h) = x := hx
  subst hx
  refine ⟨zLx_rf h, fun K hC r H locs ls st hz => ?_⟩
  obtain ⟨p, e, s, m, args, below, meth, c, D, bs, r0⟩ := K
  obtain ⟨z1, z2, z3, z4, z5, z6, z7⟩ := hz
  obtain ⟨hx1, hb, -, -, -, -, hlk, hrt, hht, -⟩ := hC
  intro T hT X
  obtain ⟨hs, h1, h2, h3, h4⟩ := X.leaveThrown (r a) (g := F0 m pc ls st) rfl rfl rfl (zHd_none hn hht) hlk
  exact ⟨_, hs, _, h1, h2, ⟨r, z2, by rw [← hT] at z3; exact z3, rfl, z6 (.ref a) List.mem_cons_self a rfl, z4.F hT⟩, locs, ⟨h3, h4⟩, z4.2.2⟩
/-! caught in the method itself: the catch type's entry cold or warm -/
def zFt (e : Env) (s : State) (f : JFrame) (a : Addr) (h : Handler) (vm' : Vm) : Prop :=
  ∀ (Q : Handler → Pre) (E : CtlPost) (d : Bool) (acts : List Action), wp (findHandler f a) Q E e d acts s ↔ Q h d acts (s.setVm vm')
theorem zFt_go {Q : Handler → Pre} {E : CtlPost} {e : Env} {d : Bool} {acts : List Action} {s : State} {f : JFrame} {a : Addr} {x : ExceptionTableEntry} {t : List ExceptionTableEntry} {c : ClassId} {cell : Cell} (hx : covers x f.pc = true) (h0 : x.catchType ≠ 0)
    (hl : s.vm.ClassLinks e.platform f.method.cls x.catchType c) (hcell : s.heap[a]? = some cell) (hobj : ∀ k, cell.vm ≠ .statics k) (hk : ∃ k, s.vm.classes[cell.cls]? = some k) (hc : ∃ k, s.vm.classes[c]? = some k) (hfit : s.vm.assignable cell.cls c = true) :
    wp (findHandler.go f a (x :: t)) Q E e d acts s ↔ Q (.found x.handlerPc) d acts (s.setVm (s.vm.noted f.method.cls x.catchType (.cls c))) := by
  simp only [covers] at hx
  obtain ⟨ha, ht⟩ := (resolveClass_links e.toSetting hl).op (op := VmOp.resolveClass f.method.cls x.catchType) rfl
  have hal : s.vm.Alike (s.vm.noted f.method.cls x.catchType (.cls c)) := (Vm.Alike.refl s.vm).noted _ _ _
  obtain ⟨k1, hk1⟩ := hk
  obtain ⟨k2, hk2⟩ := hc
  obtain ⟨k1', hk1', -⟩ := hal.2.2 _ _ hk1
  obtain ⟨k2', hk2', -⟩ := hal.2.2 _ _ hk2
  have hfit' : (s.vm.noted f.method.cls x.catchType (.cls c)).assignable cell.cls c = true := by rw [hal.assignable]; exact hfit
  simp [findHandler.go, hx, h0, ha, ht, hcell, hobj, hk1', hk2', hfit', VmOp.dirties, VmOp.acts]
theorem zFt_catch {e : Env} {s : State} {f : JFrame} {a : Addr} {meth : Method} {code : Code} (hm : s.vm.method? f.method = some meth) (hc : meth.code = some code)
    (pre : List ExceptionTableEntry) (x : ExceptionTableEntry) (rest : List ExceptionTableEntry) (hsplit : code.exceptionTable.toList = pre ++ x :: rest)
    (hskip : ∀ y ∈ pre, covers y f.pc = false) (hx : covers x f.pc = true) (h0 : x.catchType ≠ 0) {c : ClassId} {cell : Cell}
    (hl : s.vm.ClassLinks e.platform f.method.cls x.catchType c) (hcell : s.heap[a]? = some cell) (hobj : ∀ k, cell.vm ≠ .statics k)
    (hk : ∃ k, s.vm.classes[cell.cls]? = some k) (hcl : ∃ k, s.vm.classes[c]? = some k) (hfit : s.vm.assignable cell.cls c = true) :
    zFt e s f a (.found x.handlerPc) (s.vm.noted f.method.cls x.catchType (.cls c)) := by
  intro Q E d acts
  rw [Jvm.W.findHandler_eq hm hc, hsplit]
  clear hsplit
  induction pre with
  | nil => exact zFt_go hx h0 hl hcell hobj hk hcl hfit
  | cons y ys ih =>
    rw [List.cons_append, Jvm.W.findHandler_go_skip (hskip y List.mem_cons_self)]
    exact ih (fun z hz => hskip z (List.mem_cons_of_mem _ hz))
theorem zFt_step {e : Env} {s : State} {a : Addr} {f : JFrame} {r : List Frame} {pc : Nat} {vm' : Vm} (hfind : zFt e s f a (.found pc) vm') :
    (stepThrowing e s a (.java f :: r)).Is ((s.setVm vm').setFrames (.java { f with pc := pc, stack := [.ref a] } :: r)) [] := by
  simp only [stepThrowing, searchFrame, vmDo]
  generalize hr : Sem.go _ e false [] s = res
  obtain ⟨as, rfl, ha⟩ := Sem.eq_ok_of hr (a := Handler.found pc) (s' := s.setVm vm') (acts' := []) (by simp [hfind _ _ _ _])
  exact ⟨rfl, ha⟩
theorem zFt_fr (u : State) (vm' : Vm) (G1 G2 : List Frame) : ((u.setFrames G1).setVm vm').setFrames G2 = (u.setVm vm').setFrames G2 := by
  have h1 : (u.setFrames G1).setVm vm' = (u.setVm vm').setFrames G1 := rfl
  rw [h1, State.setFrames_setFrames]
theorem zFt_steps {tb : Tables} {e : Env} {s target : State} {g : JFrame} {c : Code} {below : List Frame} {a : Addr} (h : At s g.method c below) {pc : Nat} {vm' : Vm}
    (hfind : zFt e ((s.setTop g).pushFrame (.throwing a)) g a (.found pc) vm') (hrest : Steps tb e below ((s.setVm vm').setTop { g with pc := pc, stack := [.ref a] }) target) :
    Steps tb e below ((s.setTop g).pushFrame (.throwing a)) target := by
  obtain ⟨hgo, hw⟩ := h.throwing a
  refine Steps.head hgo hw ?_
  rw [stepThread_throwing (frames_entered h.top _), (zFt_step (s := (s.setTop g).pushFrame (.throwing a)) hfind).1]
  obtain ⟨g₀, hg⟩ := Option.isSome_iff_exists.mp h.top
  obtain ⟨r, hr⟩ := State.topJava?_eq_some.mp hg
  have hr' : (s.setVm vm').frames = .java g₀ :: r := hr
  rw [State.setTop_of_frames _ hr'] at hrest
  rw [hr, List.tail_cons, State.pushFrame, zFt_fr, State.setTop_of_frames _ hr, zFt_fr]
  exact hrest
theorem zCaught {p : Program} {l : Launch} {e : Env} {R : Room} {s : State} {m : MethodId} {args : Array Value} {below : List Frame} {meth : Method} {c : Code} {T : State} {locs : List Loc} {cells slots : Nat} (X : Stand p l e R s m args below meth c T locs cells slots) (a : Addr) {g : JFrame} (hg : g.method = m) {own name : String} (hown : s.vm.findClass own = some m.cls)
    (pre : List ExceptionTableEntry) (x : ExceptionTableEntry) (rest : List ExceptionTableEntry) (hsplit : c.exceptionTable.toList = pre ++ x :: rest) (hskip : ∀ y ∈ pre, covers y g.pc = false) (hx : covers x g.pc = true) (h0 : x.catchType ≠ 0)
    (hlink : (Cond.classLink own x.catchType name).before args s = true) {cT : ClassId} {cell : Cell} (hcT : s.vm.findClass name = some cT) (hcell : T.heap[a]? = some cell) (hobj : cell.vm.isStatics = false) (hfit : s.vm.assignable cell.cls cT = true) :
    ∃ vm', Stand p l e R s m args below meth c (T.setVm vm') locs cells slots ∧
      ∀ target, Steps p.tables e below ((T.setVm vm').setTop { g with pc := x.handlerPc, stack := [.ref a] }) target → Steps p.tables e below ((T.setTop g).pushFrame (.throwing a)) target := by
  have hpl : e.platform.magicAccessors = ({} : Platform).magicAccessors := by rw [X.admits.platform]
  obtain ⟨c', hc', hcl⟩ := Cond.classLink_spec hown hlink e.platform hpl
  cases hcT.symm.trans hc'
  obtain ⟨dk, _, _, kt, hd, _, _, _, _, hkt, _, hopen⟩ := hcl.here
  have hcl₀ := X.warmed.classLinks hcl
  have hW' : s.WarmedH (T.vm.noted m.cls x.catchType (.cls cT)) := X.warmed.noted hd hopen (State.rightAt_cls hcl)
  have hal := X.warmed.alike
  obtain ⟨kt', hkt', -⟩ := hal.2.2 _ _ hkt
  have hfit' : T.vm.assignable cell.cls cT = true := by rw [hal.assignable]; exact hfit
  refine ⟨_, X.noted hW', fun target hrest => ?_⟩
  subst hg
  exact zFt_steps X.here (zFt_catch (s := (T.setTop g).pushFrame (.throwing a)) (meth := meth) (code := c) X.method' X.code pre x rest hsplit hskip hx h0 (c := cT) (cell := cell) hcl₀ hcell (VmData.ne_statics_of hobj)
    (Vm.classAt_of_assignable hfit' ⟨kt', hkt'⟩) ⟨kt', hkt'⟩ hfit') hrest
theorem zt_catch {a ci hp ct : Nat} {q : vw_C} {ty : Nat → FieldType} (hn : zHd hh pc = some (hp, ct)) (h0 : ct ≠ 0) (hl : Cond.classLink own ct q.1 ∈ lw_all) (hq : zCl[ci]? = some q) (hty : zTys[ci]? = some ty) (ha : zT h a = (ci + 1, 0)) (k : Z F nL cc own nm ret hh h hp lc [.ref a]) : ZT F nL cc own nm ret hh h pc lc a := by
  refine ⟨k.1, fun K hC r H locs ls st hz => ?_⟩
  have hk := k.2 K hC r H locs ls hz
  obtain ⟨l, d, h0', x⟩ := F
  obtain ⟨p, e, s, m, args, below, meth, c, D, bs, r0⟩ := K
  obtain ⟨z1, z2, z3, z4, z5, z6, z7⟩ := hz
  obtain ⟨hx1, hb, -, hown, hts, hKn, hlk, hrt, hht, -⟩ := hC
  intro T hT X
  obtain ⟨pre, y, rest, e1, e2, e3, e4, e5⟩ := zHd_some hn hht
  have han : a < zn h := z6 (.ref a) List.mem_cons_self a rfl
  obtain ⟨cell, q1, q2, q3, -⟩ := z3.2.2.2.2.2.1 a ci q ty han ha hq hty
  obtain ⟨-, hat⟩ := hKn.1 ci q hq
  subst e4; subst e5
  obtain ⟨vm', X', hst⟩ := zCaught X (r a) (g := F0 m pc ls st) rfl hown pre y rest e1 e2 e3 h0 (hts _ hl) hat.1 (by rw [hT]; exact q1) (by rw [q3]; rfl) (by rw [q2]; exact va_assign hat)
  obtain ⟨t, s1, s2⟩ := hk (T.setVm vm') hT X'
  exact ⟨t, hst t s1, s2⟩
theorem z_athrow {a : Nat} (hd : decode cc pc = .ok (.athrow, 1)) (k : ZT F nL cc own nm ret hh h pc lc a) : Z F nL cc own nm ret hh h pc lc (.ref a :: st) := by
  refine ⟨k.1, fun K hC r H locs ls hz => ?_⟩
  have hk := k.2 K hC r H locs ls (st.map (zv r)) (hz.pop (fun v hv => by rw [List.mem_singleton.mp hv]; exact List.mem_cons_self))
  obtain ⟨l, d, h0', x⟩ := F
  obtain ⟨p, e, s, m, args, below, meth, c, D, bs, r0⟩ := K
  obtain ⟨hx1, hb, -⟩ := hC
  intro T hT X
  obtain ⟨t, s1, s2⟩ := hk T hT X
  refine ⟨t, ?_, s2⟩
  have hdg : decode c.code pc = .ok (.athrow, 1) := by rw [hb]; exact hd
  jvm_step X.here [hx1, hdg, athrow.wp_sem, zv]
  exact s1
/-! the start: a contract out of a walk -/
theorem zlg_len (r : Nat → Nat) (av : List Value) : (lg_sl (av.map (zv r))).length = (lg_sl av).length := by
  induction av with
  | nil => rfl
  | cons v t ih =>
    simp only [lg_sl, List.map_cons, List.flatMap_cons, List.length_append] at ih ⊢
    rw [ih, zv_cat]
    split <;> rfl
theorem zlv_args (r : Nat → Nat) (av : List Value) : ∀ n, lv_args n (av.map (zv r)) = (lv_args n av).map (fun q => (q.1, zv r q.2)) := by
  induction av with
  | nil => intro n; rfl
  | cons v t ih =>
    intro n
    simp only [List.map_cons, lv_args, zv_cat, ih]
theorem zlv_mem {av : List Value} : ∀ {n : Nat} {q : Nat × Value}, q ∈ lv_args n av → q.2 ∈ av := by
  induction av with
  | nil => intro n q h; cases h
  | cons v t ih =>
    intro n q h
    rcases List.mem_cons.mp h with e | e
    · rw [e]; exact List.mem_cons_self
    · exact List.mem_cons_of_mem _ (ih e)
theorem z_body {l : Launch} {y : MethodName} {ws : List Cond} {maxL d : Nat} {av : List Value} {x : zX} (hst0 : l.stackTraces = false) (hn : (lg_sl av).length ≤ maxL)
    (k : Z (l, d, h, x) maxL cc y.cls y.name ret hh h 0 (lv_args 0 av) []) {D : zD} {bs : Nat} {r0 : Nat → Nat} {p : Program} {e : Env} {s : State} {m : MethodId} {args : Array Value} {below : List Frame} {meth : Method} {c : Code} {s₁ : State}
    (B : BodyLoose p l y (headSpec ws (zRm d (zc x.2 - zc h) (zu x.2 - zu h))) cc maxL ret e s m args below meth c s₁) (hml : c.maxLocals = maxL) (hP : zPre D bs r0 h av args s) (hts : ∀ w ∈ lw_all, w.before args s = true)
    (hne : c.exceptionTable.toList.map (fun x => (x.startPc, x.endPc, x.handlerPc, x.catchType)) = hh) :
    ∃ s₂ o, Steps p.tables e below (s₁.setTop (entryFrame m args maxL)) s₂ ∧ s₂.status = .running ∧ Ended s₂ below o ∧ zQ D bs r0 h x args s o s₂ ∧ ∃ L, zE s s₂ L (zc x.2 - zc h) (zu x.2 - zu h) ∧ ∀ q ∈ L, bs ≤ q.base := by
  obtain ⟨rfl, hKn, hSim, hok⟩ := hP
  have hl := lv_entry (av.map (zv r0)) (n := maxL) (by rw [zlg_len]; exact hn)
  rw [zlv_args] at hl
  have hst1 : e.platform.stackTraces = false := by rw [(Stand.of_body B).admits.platform]; exact hst0
  have hag : D.2.2.2.size ≤ bs ∧ ∀ q : Nat, q < bs → s.heap[q]? = D.2.2.2[q]? := hSim.2.2.2.2.2.2.2.2.2.2
  have hk := k.2 (p, e, s, m, _, below, meth, c, D, bs, r0) ⟨B.exec, B.bytes, hml, findClass_of_methodNamed B.named, hts, hKn, B.notSynchronized, B.returns, hne, (name_of_methodNamed B.named B.method).1, fun q hq => hag.2 q (Nat.lt_of_lt_of_le hq hag.1), hst1⟩ r0 s.heap [] _ ⟨zLe_rf h, fun _ _ => rfl, hSim, va_S.rf, fun q hq => hok _ (zlv_mem hq), (fun v hv => by cases hv), hl⟩
  have hh0 : s₁.heap = s.heap := by rw [B.state]; rfl
  have X₀ := Stand.of_body B
  rw [lg_entry_eq]
  have hk : W p l e (zRm d (zc x.2 - zc h) (zu x.2 - zu h)) s m _ below meth c s.heap [] (zc h - zc h) (zu h - zu h) _ _ := hk
  rw [Nat.sub_self, Nat.sub_self] at hk
  obtain ⟨t, a1, o, b1, b2, b3, b4⟩ := hk s₁ hh0 X₀
  exact ⟨t, o, a1, b1, b2, b3, b4⟩
theorem z_start {l : Launch} {y : MethodName} {maxL d : Nat} {av : List Value} {x : zX} (hy : plainName y.cls = true) (hn : (lg_sl av).length ≤ maxL)
    (k : Z (l, d, h, x) maxL cc y.cls y.name ret [] h 0 (lv_args 0 av) []) : zC l y (ws_ y cc maxL ret) d av h x := by
  refine ⟨k.1, fun D bs r0 hst0 => ?_⟩
  refine MetFree.of_bodyS (code := cc) (maxLocals := maxL) (ret := ret) hy ?_ ?_
  · intro args s m h1 hn1
    obtain ⟨meth, c, h1, h2, h3, h4, h5, h6, -, -⟩ := Cond.code_spec hn1 (atoms_spec (ws := ws_ y cc maxL ret) h1 _ List.mem_cons_self)
    exact ⟨meth, c, h1, h2, h3, h4, h5, h6⟩
  · intro p e s m args below meth c s₁ B hml hP _
    have hts := atoms_spec (ws := ws_ y cc maxL ret) B.pre
    refine z_body hst0 hn k B hml hP (fun w hw => hts w (List.mem_cons_of_mem _ hw)) ?_
    have h1 := BodyLoose.noHandlers B (hts _ List.mem_cons_self)
    have h2 : c.exceptionTable = #[] := by simpa using h1
    rw [h2]; rfl
theorem z_startW {l : Launch} {y : MethodName} {maxL d : Nat} {av : List Value} {x : zX} (hy : plainName y.cls = true) (hn : (lg_sl av).length ≤ maxL)
    (k : Z (l, d, h, x) maxL cc y.cls y.name ret hh h 0 (lv_args 0 av) []) : zC l y (wsW_ y cc maxL ret hh) d av h x := by
  refine ⟨k.1, fun D bs r0 hst0 => ?_⟩
  refine MetFree.of_bodyS (code := cc) (maxLocals := maxL) (ret := ret) hy ?_ ?_
  · intro args s m h1 hn1
    obtain ⟨m9, meth, c, hn9, h1, h2, h3, h4, -, h5, h6, -⟩ := Cond.codeWith_spec (atoms_spec (ws := wsW_ y cc maxL ret hh) h1 _ List.mem_cons_self)
    cases hn1.symm.trans hn9
    exact ⟨meth, c, h1, h2, h3, h4, h5, h6⟩
  · intro p e s m args below meth c s₁ B hml hP _
    have hts := atoms_spec (ws := wsW_ y cc maxL ret hh) B.pre
    refine z_body hst0 hn k B hml hP (fun w hw => hts w (List.mem_cons_of_mem _ hw)) ?_
    obtain ⟨m9, meth', c', hn9, h1, h2, h3, h4, h7, -⟩ := Cond.codeWith_spec (hts _ List.mem_cons_self)
    cases B.named.symm.trans hn9
    cases B.method.symm.trans h1
    cases (Stand.of_body B).code.symm.trans h2
    exact h7
end ZR
/-! loops: the least answer -/
def zit {σ ρ : Type} (body : σ → Option (σ ⊕ ρ)) : Nat → σ → Option ρ
  | 0, _ => none
  | n + 1, s => match body s with
    | none => none
    | some (.inl s') => zit body n s'
    | some (.inr r) => some r
theorem zit_le {σ ρ : Type} {body : σ → Option (σ ⊕ ρ)} {r : ρ} : ∀ {n m : Nat} {s : σ}, n ≤ m → zit body n s = some r → zit body m s = some r := by
  intro n
  induction n with
  | zero => intro m s _ h; cases h
  | succ n ih =>
    intro m s hm h
    obtain ⟨m, rfl⟩ : ∃ k, m = k + 1 := ⟨m - 1, by omega⟩
    simp only [zit] at h ⊢
    cases hb : body s with
    | none => rw [hb] at h; cases h
    | some y =>
      rw [hb] at h
      cases y with
      | inl s' => exact ih (by omega) h
      | inr r' => exact h
noncomputable def zlp {σ ρ : Type} (body : σ → Option (σ ⊕ ρ)) (s : σ) : Option ρ := @dite _ (∃ (r : ρ) (n : Nat), zit body n s = some r) (Classical.propDecidable _) (fun h => some (Classical.choose h)) (fun _ => none)
theorem zlp_some {σ ρ : Type} {body : σ → Option (σ ⊕ ρ)} {s : σ} {r : ρ} : zlp body s = some r ↔ ∃ n, zit body n s = some r := by
  unfold zlp
  constructor
  · intro h
    split at h
    · rename_i hx
      obtain ⟨n, hn⟩ := Classical.choose_spec hx
      cases h
      exact ⟨n, hn⟩
    · cases h
  · intro ⟨n, hn⟩
    have hx : ∃ (r : ρ) (n : Nat), zit body n s = some r := ⟨r, n, hn⟩
    rw [dif_pos hx]
    obtain ⟨m, hm⟩ := Classical.choose_spec hx
    have h1 := zit_le (Nat.le_max_left n m) hn
    have h2 := zit_le (Nat.le_max_right n m) hm
    rw [h1] at h2
    rw [Option.some.inj h2]
/-- a loop unrolled once -/
theorem zlp_eq {σ ρ : Type} (body : σ → Option (σ ⊕ ρ)) (s : σ) : zlp body s = match body s with
    | none => none
    | some (.inl s') => zlp body s'
    | some (.inr r) => some r := by
  apply Option.ext
  intro r
  rw [zlp_some]
  cases hb : body s with
  | none =>
    constructor
    · intro ⟨n, hn⟩
      cases n with
      | zero => cases hn
      | succ n => simp only [zit, hb] at hn; cases hn
    · intro h; cases h
  | some y =>
    cases y with
    | inl s' =>
      simp only
      rw [zlp_some]
      constructor
      · intro ⟨n, hn⟩
        cases n with
        | zero => cases hn
        | succ n => simp only [zit, hb] at hn; exact ⟨n, hn⟩
      · intro ⟨n, hn⟩
        exact ⟨n + 1, by simp only [zit, hb]; exact hn⟩
    | inr r' =>
      simp only
      constructor
      · intro ⟨n, hn⟩
        cases n with
        | zero => cases hn
        | succ n => simp only [zit, hb] at hn; exact hn
      · intro h
        exact ⟨1, by simp only [zit, hb]; exact h⟩
theorem zlp_inl {σ ρ : Type} {body : σ → Option (σ ⊕ ρ)} {s s' : σ} (h : body s = some (.inl s')) : zlp body s = zlp body s' := by rw [zlp_eq, h]
theorem zlp_inr {σ ρ : Type} {body : σ → Option (σ ⊕ ρ)} {s : σ} {r : ρ} (h : body s = some (.inr r)) : zlp body s = some r := by rw [zlp_eq, h]
/-- a loop's walk out of its body's -/
theorem z_loop {σ ρ : Type} {body : σ → Option (σ ⊕ ρ)} (Zs : σ → Prop) (Zr : ρ → Prop) (hb : ∀ s y, body s = some y → (∀ s', y = .inl s' → Zs s') → (∀ r, y = .inr r → Zr r) → Zs s) {s : σ} {r : ρ} (h : zlp body s = some r) (hr : Zr r) : Zs s := by
  obtain ⟨n, hn⟩ := zlp_some.mp h
  clear h
  induction n generalizing s with
  | zero => cases hn
  | succ n ih =>
    simp only [zit] at hn
    cases hbs : body s with
    | none => rw [hbs] at hn; cases hn
    | some y =>
      rw [hbs] at hn
      refine hb s y hbs (fun s' e => ?_) (fun r' e => ?_)
      · subst e; exact ih hn
      · subst e; cases hn; exact hr
/-- pure: a loop with an invariant and a measure comes to an end -/
theorem zlp_inv {σ ρ : Type} {body : σ → Option (σ ⊕ ρ)} (I : σ → Prop) (μ : σ → Nat) (Po : ρ → Prop) (hb : ∀ s, I s → (∃ s', body s = some (.inl s') ∧ I s' ∧ μ s' < μ s) ∨ ∃ r, body s = some (.inr r) ∧ Po r) {s : σ} (hs : I s) : ∃ r, zlp body s = some r ∧ Po r := by
  obtain ⟨n, hn⟩ : ∃ n, μ s ≤ n := ⟨_, Nat.le_refl _⟩
  induction n generalizing s with
  | zero =>
    rcases hb s hs with ⟨s', h1, h2, h3⟩ | ⟨r, h1, h2⟩
    · omega
    · exact ⟨r, zlp_inr h1, h2⟩
  | succ n ih =>
    rcases hb s hs with ⟨s', h1, h2, h3⟩ | ⟨r, h1, h2⟩
    · obtain ⟨r, h4, h5⟩ := ih h2 (by omega)
      exact ⟨r, by rw [zlp_inl h1]; exact h4, h5⟩
    · exact ⟨r, zlp_inr h1, h2⟩
