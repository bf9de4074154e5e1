/-! THE ABSTRACT HEAP: cells by number (0: the script; from 1 on what the law made), their kinds, references, ints, longs -/
set_option maxRecDepth 100000
abbrev zH : Type := Nat × Nat × Nat × (Nat → Nat × Nat) × (Nat → Nat → Option Nat) × (Nat → Nat → Int32) × (Nat → Nat → Int64)
/-- how many cells there are -/
def zn (h : zH) : Nat := h.1
/-- how many cells and slots have been paid for -/
def zc (h : zH) : Nat := h.2.1
def zu (h : zH) : Nat := h.2.2.1
/-- a cell's kind: (class + 1, 0), (array kind + 100, length), (0, 0) -/
def zT (h : zH) : Nat → Nat × Nat := h.2.2.2.1
def zP (h : zH) : Nat → Nat → Option Nat := h.2.2.2.2.1
def zI (h : zH) : Nat → Nat → Int32 := h.2.2.2.2.2.1
def zL (h : zH) : Nat → Nat → Int64 := h.2.2.2.2.2.2
def zu2 {α : Type} (f : Nat → Nat → α) (a k : Nat) (v : α) : Nat → Nat → α := fun b j => if b = a ∧ j = k then v else f b j
def zsI (h : zH) (a k : Nat) (v : Int32) : zH := (zn h, zc h, zu h, zT h, zP h, zu2 (zI h) a k v, zL h)
def zsL (h : zH) (a k : Nat) (v : Int64) : zH := (zn h, zc h, zu h, zT h, zP h, zI h, zu2 (zL h) a k v)
def zsP (h : zH) (a k : Nat) (v : Option Nat) : zH := (zn h, zc h, zu h, zT h, zu2 (zP h) a k v, zI h, zL h)
/-- a new cell of a kind, of so many slots -/
def zmk (h : zH) (t : Nat × Nat) (n : Nat) : zH := (zn h + 1, zc h + 1, zu h + n, va_up (zT h) (zn h) t, va_up (zP h) (zn h) (fun _ => none), va_up (zI h) (zn h) (fun _ => 0), va_up (zL h) (zn h) (fun _ => 0))
/-- how a method ends -/
abbrev zO : Type := Option Value ⊕ Nat
abbrev zX : Type := zO × zH
/-! the classes, their fields' types, the arrays' types -/
abbrev zCl : List vw_C := [(RX0, TX0, 33), (RX1, TX1, 7), (RX3, TX3, 27), (RX5, TX5, 15), (RX6, TX6, 16), (RX7, TX7, 4), (RX8, TX8, 1), (RX9, TX9, 69), (RX11, TX11, 3), (RX12, TX12, 3), (RX13, TX13, 3)]
abbrev zTys : List (Nat → FieldType) := [tyX0, tyX1, tyX3, tyX5, tyX6, tyX7, tyX8, tyX9, tyX11, tyX12, tyX13]
abbrev zAt : List FieldType := [.int, .boolean, .long, .object "CodeExchange$Slot", .object "CodeExchange$Reader", .object "CodeExchange$Writer", .array .int]
/-- classes' numbers, fields' slots, array classes' numbers, the heap at the law's start -/
abbrev zD : Type := (Nat → ClassId) × (Nat → Nat → Nat) × (Nat → ClassId) × Heap
def zv (r : Nat → Nat) (v : Value) : Value := match v with
  | .ref a => .ref (r a)
  | v => v
def zfv (r : Nat → Nat) (h : zH) (ty : FieldType) (a k : Nat) : Value := match ty with
  | .long => .long (zL h a k)
  | .object _ => zv r (va_rf (zP h a k))
  | .array _ => zv r (va_rf (zP h a k))
  | _ => .int (zI h a k)
def zok (n : Nat) (v : Value) : Prop := ∀ a : Nat, v = .ref a → a < n
/-- the script: an int array of the old heap, at the cell 0 -/
def zScr (D : zD) (r : Nat → Nat) (h : zH) (H : Heap) : Prop := (zT h 0).1 = 107 ∧ ∃ cell : Cell, H[r 0]? = some cell ∧ cell.cls = D.2.2.1 7 ∧ (∀ k, cell.vm ≠ .statics k) ∧ cell.vm ≠ .unknown ∧ cell.slots.size = (zT h 0).2 ∧ ∀ j : Nat, j < (zT h 0).2 → cell.slots[j]? = some (.int (zI h 0 j))
theorem zScr.to {D : zD} {r r' : Nat → Nat} {h h' : zH} {H H' : Heap} (hs : zScr D r h H) (hT : zT h' 0 = zT h 0) (hr : r' 0 = r 0) (hH : H'[r 0]? = H[r 0]?) (hI : ∀ j, zI h' 0 j = zI h 0 j) : zScr D r' h' H' := by
  obtain ⟨e1, cell, e2, e3, e4, e5, e6, e7⟩ := hs
  exact ⟨by rw [hT]; exact e1, cell, by rw [hr, hH]; exact e2, e3, e4, e5, by rw [hT]; exact e6, fun j hj => by rw [hT] at hj; rw [hI]; exact e7 j hj⟩
/-- the machine's heap H holds the abstract heap h, its cells at r -/
def zSim (D : zD) (bs : Nat) (r : Nat → Nat) (h : zH) (H : Heap) : Prop :=
  (∀ a b : Nat, a < zn h → b < zn h → r a = r b → a = b) ∧ (∀ a : Nat, a < zn h → a ≠ 0 → bs ≤ r a) ∧ (∀ a : Nat, a < zn h → r a < H.size) ∧ bs ≤ H.size ∧ (∀ (a k b : Nat), a < zn h → zP h a k = some b → b < zn h) ∧
  (∀ (a ci : Nat) (q : vw_C) (ty : Nat → FieldType), a < zn h → zT h a = (ci + 1, 0) → zCl[ci]? = some q → zTys[ci]? = some ty → t_OB (r a) (D.1 ci) q.2.2 (D.2.1 ci) H (fun k => zfv r h (ty k) a k)) ∧
  (∀ (a t n : Nat) (ty : FieldType), a < zn h → zT h a = (t + 100, n) → zAt[t]? = some ty → H[r a]? = some (arrV (D.2.2.1 t) n (fun j => zfv r h ty a j))) ∧
  (∀ a : Nat, zn h ≤ a → zT h a = (0, 0)) ∧ zScr D r h H ∧ 0 < zn h ∧ D.2.2.2.size ≤ bs ∧ ∀ q : Nat, q < bs → H[q]? = D.2.2.2[q]?
/-- words of the tables that don't ride in the lists: these kinds, and the interfaces' methods -/
def zNk : Cond → Bool
  | .fieldLinkNest .. => true
  | .methodLinkNest .. => true
  | .castable .. => true
  | .declares _ => true
  | .publicMethod _ => true
  | .privateMethod _ => true
  | .unhidden .. => true
  | _ => false
abbrev zNc : List (String × String) := [("CodeExchange$Wide", "CodeExchange$Table"), ("CodeExchange$Turned", "CodeExchange$Table"), ("CodeExchange$Few", "CodeExchange$Table"), ("CodeExchange$Reader", "CodeExchange$Writer"), ("CodeExchange$Refusal", "java/lang/NullPointerException")]
abbrev zIm : List MethodName := [⟨"CodeExchange$Sink", "put", "(I)V"⟩, ⟨"CodeExchange$Steps", "isEmpty", "()Z"⟩, ⟨"CodeExchange$Steps", "waits", "()I"⟩]
/-- words that hang on the old heap too, or ride in no list: Throwable's statics, arrays of references -/
abbrev zSt : List Cond := [.laysStatic "java/lang/Throwable" "UNASSIGNED_STACK" "[Ljava/lang/StackTraceElement;", .laysStatic "java/lang/Throwable" "SUPPRESSED_SENTINEL" "Ljava/util/List;", .isRef (.static "java/lang/Throwable" "UNASSIGNED_STACK" "[Ljava/lang/StackTraceElement;"), .isRef (.static "java/lang/Throwable" "SUPPRESSED_SENTINEL" "Ljava/util/List;"),
  .arrayOver (.object "CodeExchange$Slot"), .arrayOver (.object "CodeExchange$Reader"), .arrayOver (.object "CodeExchange$Writer"), .arrayOver (.array .int)]
/-- where the default method's call lands -/
def zLands (C : String) (V : State) : Prop := ∃ (c : ClassId) (r m : MethodId) (rm : Method), V.vm.findClass C = some c ∧ V.methodFound? "CodeExchange$Steps" "isEmpty" "()Z" = some r ∧ V.methodNamed? ⟨"CodeExchange$Steps", "isEmpty", "()Z"⟩ = some m ∧ V.vm.method? r = some rm ∧ selectMethod {} V.vm c r = .method m ∧
  ((c :: V.vm.superclasses c).any fun k => (declaredIn V.vm rm.name rm.desc k).any fun (_, z) => z.isPrivate || z.isStatic) = false
def zHa (D : zD) (H : Heap) : Prop := ∀ q : Nat, q < D.2.2.2.size → H[q]? = D.2.2.2[q]?
def zEx (D : zD) (U : State) : Prop := ∀ V : State, U.vm.Alike V.vm → zHa D V.heap → (∀ w ∈ zSt, ∀ A : Array Value, w.before A V = true) ∧ modulesRight_1 V = true ∧ (∀ C ∈ ["CodeExchange$Reader", "CodeExchange$Writer"], zLands C V) ∧ ∃ (k : Class) (comp : ClassId), V.vm.classes[D.2.2.1 7]? = some k ∧ k.kind = .array comp .int
def zKn (D : zD) (U : State) : Prop :=
  (∀ (ci : Nat) (q : vw_C), zCl[ci]? = some q → u_Kn U q.1 q.2.1 q.2.2 (D.1 ci) (D.2.1 ci)) ∧
  (∀ (t : Nat) (ty : FieldType), zAt[t]? = some ty → ArrOfT U (D.2.2.1 t) ty ∧ va_RA U (D.2.2.1 t) ty ∧ U.vm.findClass ("[" ++ ty.toString) = some (D.2.2.1 t)) ∧
  (∀ w ∈ lw_tbl, zNk w = true → va_Nw w U) ∧ (∀ x ∈ zIm, va_Nw (.declares x) U ∧ va_Nw (.interfaceMethod x.cls x.cls x.name x.desc) U) ∧ (∀ q ∈ zNc, va_Nc q.1 q.2 U) ∧ zEx D U
def zRm (d mc ms : Nat) : Room := { frames := d, cells := mc, slots := ms, locals := 100 * d }
def zOut (r : Nat → Nat) (o : zO) : Outcome := match o with
  | .inl v => .returned (v.map (zv r))
  | .inr a => .threw (r a)
def zokO (n : Nat) (o : zO) : Prop := match o with
  | .inl none => True
  | .inl (some v) => zok n v
  | .inr a => a < n
def zQ (D : zD) (bs : Nat) (r0 : Nat → Nat) (h0 : zH) (x : zX) : Array Value → State → Outcome → State → Prop := fun _ st o t =>
  ∃ r : Nat → Nat, (∀ a : Nat, a < zn h0 → r a = r0 a) ∧ zSim D bs r x.2 t.heap ∧ o = zOut r x.1 ∧ zokO (zn x.2) x.1 ∧ va_F (fun q => bs ≤ q) st t
def zE (first t : State) (L : List Loc) (k n : Nat) : Prop := first.WarmedH t.vm ∧ first.sameButNew ({ t with vm := first.vm } : State) L k n
def zMQ (below : List Frame) (Qc : Array Value → State → Outcome → State → Prop) (a : Array Value) (s : State) (mc ms : Nat) (free : Addr → Prop) : State → Prop := fun t =>
  ∃ o, t.status = .running ∧ Ended t below o ∧ Qc a s o t ∧ ∃ L, zE s t L mc ms ∧ ∀ q ∈ L, free q.base
def zMet (l : Launch) (y : MethodName) (ws : List Cond) (rm : Room) (Pc : Array Value → State → Prop) (Qc : Array Value → State → Outcome → State → Prop) (mc ms : Nat) (free : Addr → Prop) : Prop :=
  MetFree l y (headSpec ws rm) Pc (fun _ _ _ _ _ => True) (fun a st o t => Qc a st o t ∧ ∃ L, zE st t L mc ms ∧ ∀ q ∈ L, free q.base)
def zLe (h h' : zH) : Prop := zn h ≤ zn h' ∧ zc h ≤ zc h' ∧ zu h ≤ zu h'
/-- a final field; a place of an array of references (each is laid once) -/
def zFn (kd : Nat × Nat) (k : Nat) : Bool := match kd.1 with
  | 0 => false
  | c + 1 => if 102 ≤ c then true else (zCl[c]?).any (fun q => (q.2.1 k).2.2.2)
/-- kinds stay; what a final field holds stays -/
def zXt (h h' : zH) : Prop := (∀ a : Nat, a < zn h → zT h' a = zT h a) ∧ ∀ (a k b : Nat), a < zn h → zFn (zT h a) k = true → zP h a k = some b → zP h' a k = some b
def zLx (h h' : zH) : Prop := zLe h h' ∧ zXt h h'
def zPre (D : zD) (bs : Nat) (r0 : Nat → Nat) (h : zH) (av : List Value) : Array Value → State → Prop := fun a U => a = (av.map (zv r0)).toArray ∧ zKn D U ∧ zSim D bs r0 h U.heap ∧ ∀ v ∈ av, zok (zn h) v
/-- A CONTRACT: the method y, called with av over the heap h, ends as x says; it needs at most d frames -/
def zC (l : Launch) (y : MethodName) (ws : List Cond) (d : Nat) (av : List Value) (h : zH) (x : zX) : Prop :=
  zLx h x.2 ∧ ∀ (D : zD) (bs : Nat) (r0 : Nat → Nat), l.stackTraces = false → zMet l y ws (zRm d (zc x.2 - zc h) (zu x.2 - zu h)) (zPre D bs r0 h av) (zQ D bs r0 h x) (zc x.2 - zc h) (zu x.2 - zu h) (fun q => bs ≤ q)
/-! THE WALK: F: launch, depth, the heap at the start, how it ends; K: the machine's own -/
abbrev zF : Type := Launch × Nat × zH × zX
abbrev zK : Type := Program × Env × State × MethodId × Array Value × List Frame × Method × Code × zD × Nat × (Nat → Nat)
def zEnd (F : zF) : zX := F.2.2.2
/-- what holds of a place of the walk -/
def zAtH (F : zF) (K : zK) (nL : Nat) (h : zH) (r : Nat → Nat) (H : Heap) (locs : List Loc) (ls : Array Slot) (lc : List (Nat × Value)) (st : List Value) : Prop := match F, K with
  | (_, _, h0, _), (_, _, s, _, _, _, _, _, D, bs, r0) => zLe h0 h ∧ (∀ a : Nat, a < zn h0 → r a = r0 a) ∧ zSim D bs r h H ∧ va_S (fun q => bs ≤ q) s.heap H locs ∧ (∀ q ∈ lc, zok (zn h) q.2) ∧ (∀ v ∈ st, zok (zn h) v) ∧ lv_has ls nL (lc.map fun q => (q.1, zv r q.2))
def zWp (F : zF) (K : zK) (h : zH) (H : Heap) (locs : List Loc) (ls : Array Slot) (pc : Nat) (st : List Value) : Prop := match F, K with
  | (l, d, h0, x), (p, e, s, m, args, below, meth, c, D, bs, r0) => W p l e (zRm d (zc x.2 - zc h0) (zu x.2 - zu h0)) s m args below meth c H locs (zc h - zc h0) (zu h - zu h0) (zMQ below (zQ D bs r0 h0 x) args s (zc x.2 - zc h0) (zu x.2 - zu h0) (fun q => bs ≤ q)) (F0 m pc ls st)
/-- the context: code, class, words, tables, handlers -/
def zCx (K : zK) (nL : Nat) (cc : ByteArray) (own nm : String) (ret : Option FieldType) (hh : List (Nat × Nat × Nat × Nat)) : Prop := match K with
  | (p, e, s, m, args, _, meth, c, D, _, _) => p.tables.exec = Jvm.exec ∧ c.code = cc ∧ c.maxLocals = nL ∧ s.vm.findClass own = some m.cls ∧ (∀ w ∈ lw_all, w.before args s = true) ∧ zKn D s ∧ meth.locks = false ∧ meth.sig.returnType = ret ∧ c.exceptionTable.toList.map (fun x => (x.startPc, x.endPc, x.handlerPc, x.catchType)) = hh ∧ meth.name = nm ∧ zHa D s.heap ∧ e.platform.stackTraces = false
/-- from the heap h, at pc with the locals lc and the stack st, the method comes to its end -/
def Z (F : zF) (nL : Nat) (cc : ByteArray) (own nm : String) (ret : Option FieldType) (hh : List (Nat × Nat × Nat × Nat)) (h : zH) (pc : Nat) (lc : List (Nat × Value)) (st : List Value) : Prop :=
  zLx h (zEnd F).2 ∧ ∀ K : zK, zCx K nL cc own nm ret hh → ∀ (r : Nat → Nat) (H : Heap) (locs : List Loc) (ls : Array Slot), zAtH F K nL h r H locs ls lc st → zWp F K h H locs ls pc (st.map (zv r))
/-! rows that change the stack alone -/
theorem zok_int (n : Nat) (a : Int32) : zok n (.int a) := fun _ h => by cases h
theorem zok_long (n : Nat) (a : Int64) : zok n (.long a) := fun _ h => by cases h
theorem zok_null (n : Nat) : zok n .null := fun _ h => by cases h
theorem z_op {F : zF} {nL : Nat} {cc : ByteArray} {own nm : String} {ret : Option FieldType} {hh : List (Nat × Nat × Nat × Nat)} {h : zH} {pc pc' : Nat} {lc : List (Nat × Value)} {st st' : List Value} (k : Z F nL cc own nm ret hh h pc' lc st') (hok : ∀ n, (∀ v ∈ st, zok n v) → ∀ v ∈ st', zok n v)
    (hw : ∀ K : zK, zCx K nL cc own nm ret hh → ∀ (r : Nat → Nat) (H : Heap) (locs : List Loc) (ls : Array Slot), zWp F K h H locs ls pc' (st'.map (zv r)) → zWp F K h H locs ls pc (st.map (zv r))) : Z F nL cc own nm ret hh h pc lc st := by
  refine ⟨k.1, fun K hC r H locs ls hz => hw K hC r H locs ls (k.2 K hC r H locs ls ?_)⟩
  obtain ⟨l, d, h0, x⟩ := F
  obtain ⟨p, e, s, m, args, below, meth, c, D, bs, r0⟩ := K
  obtain ⟨z1, z2, z3, z4, z5, z6, z7⟩ := hz
  exact ⟨z1, z2, z3, z4, z5, hok _ z6, z7⟩
theorem zok_1 {n : Nat} {a : Value} {st st' : List Value} (ha : zok n a) (h : ∀ v ∈ st, zok n v) (hs : ∀ v ∈ st', v ∈ st) : ∀ v ∈ a :: st', zok n v := by
  intro v hv
  rcases List.mem_cons.mp hv with e | e
  · rw [e]; exact ha
  · exact h v (hs v e)
theorem zAtH.pop {F : zF} {K : zK} {nL : Nat} {h : zH} {r : Nat → Nat} {H : Heap} {locs : List Loc} {ls : Array Slot} {lc : List (Nat × Value)} {st st' : List Value} (hz : zAtH F K nL h r H locs ls lc st) (hs : ∀ v ∈ st', v ∈ st) : zAtH F K nL h r H locs ls lc st' := by
  obtain ⟨l, d, h0, x⟩ := F
  obtain ⟨p, e, s, m, args, below, meth, c, D, bs, r0⟩ := K
  obtain ⟨z1, z2, z3, z4, z5, z6, z7⟩ := hz
  exact ⟨z1, z2, z3, z4, z5, fun v hv => z6 v (hs v hv), z7⟩
theorem z_iadd {F : zF} {nL : Nat} {cc : ByteArray} {own nm : String} {ret : Option FieldType} {hh : List (Nat × Nat × Nat × Nat)} {h : zH} {pc : Nat} {lc : List (Nat × Value)} {st : List Value} {x y : Int32} (hd : decode cc pc = .ok (.iadd, 1)) (k : Z F nL cc own nm ret hh h (pc + 1) lc (.int (x + y) :: st)) : Z F nL cc own nm ret hh h pc lc (.int y :: .int x :: st) := by
  exact z_op k (fun n hs => zok_1 (zok_int _ _) hs (fun v hv => List.mem_cons_of_mem _ (List.mem_cons_of_mem _ hv))) (fun K hC r H locs ls w => by obtain ⟨l, d, h0, x0⟩ := F; obtain ⟨p, e, s, m, args, below, meth, c, D, bs, r0⟩ := K; exact lv_iadd hC.1 hC.2.1 hd w)
theorem z_isub {F : zF} {nL : Nat} {cc : ByteArray} {own nm : String} {ret : Option FieldType} {hh : List (Nat × Nat × Nat × Nat)} {h : zH} {pc : Nat} {lc : List (Nat × Value)} {st : List Value} {x y : Int32} (hd : decode cc pc = .ok (.isub, 1)) (k : Z F nL cc own nm ret hh h (pc + 1) lc (.int (x - y) :: st)) : Z F nL cc own nm ret hh h pc lc (.int y :: .int x :: st) := by
  exact z_op k (fun n hs => zok_1 (zok_int _ _) hs (fun v hv => List.mem_cons_of_mem _ (List.mem_cons_of_mem _ hv))) (fun K hC r H locs ls w => by obtain ⟨l, d, h0, x0⟩ := F; obtain ⟨p, e, s, m, args, below, meth, c, D, bs, r0⟩ := K; exact lv_isub hC.1 hC.2.1 hd w)
theorem z_imul {F : zF} {nL : Nat} {cc : ByteArray} {own nm : String} {ret : Option FieldType} {hh : List (Nat × Nat × Nat × Nat)} {h : zH} {pc : Nat} {lc : List (Nat × Value)} {st : List Value} {x y : Int32} (hd : decode cc pc = .ok (.imul, 1)) (k : Z F nL cc own nm ret hh h (pc + 1) lc (.int (x * y) :: st)) : Z F nL cc own nm ret hh h pc lc (.int y :: .int x :: st) := by
  exact z_op k (fun n hs => zok_1 (zok_int _ _) hs (fun v hv => List.mem_cons_of_mem _ (List.mem_cons_of_mem _ hv))) (fun K hC r H locs ls w => by obtain ⟨l, d, h0, x0⟩ := F; obtain ⟨p, e, s, m, args, below, meth, c, D, bs, r0⟩ := K; exact lv_imul hC.1 hC.2.1 hd w)
theorem z_iand {F : zF} {nL : Nat} {cc : ByteArray} {own nm : String} {ret : Option FieldType} {hh : List (Nat × Nat × Nat × Nat)} {h : zH} {pc : Nat} {lc : List (Nat × Value)} {st : List Value} {x y : Int32} (hd : decode cc pc = .ok (.iand, 1)) (k : Z F nL cc own nm ret hh h (pc + 1) lc (.int (x &&& y) :: st)) : Z F nL cc own nm ret hh h pc lc (.int y :: .int x :: st) := by
  exact z_op k (fun n hs => zok_1 (zok_int _ _) hs (fun v hv => List.mem_cons_of_mem _ (List.mem_cons_of_mem _ hv))) (fun K hC r H locs ls w => by obtain ⟨l, d, h0, x0⟩ := F; obtain ⟨p, e, s, m, args, below, meth, c, D, bs, r0⟩ := K; exact lv_iand hC.1 hC.2.1 hd w)
theorem z_ior {F : zF} {nL : Nat} {cc : ByteArray} {own nm : String} {ret : Option FieldType} {hh : List (Nat × Nat × Nat × Nat)} {h : zH} {pc : Nat} {lc : List (Nat × Value)} {st : List Value} {x y : Int32} (hd : decode cc pc = .ok (.ior, 1)) (k : Z F nL cc own nm ret hh h (pc + 1) lc (.int (x ||| y) :: st)) : Z F nL cc own nm ret hh h pc lc (.int y :: .int x :: st) := by
  exact z_op k (fun n hs => zok_1 (zok_int _ _) hs (fun v hv => List.mem_cons_of_mem _ (List.mem_cons_of_mem _ hv))) (fun K hC r H locs ls w => by obtain ⟨l, d, h0, x0⟩ := F; obtain ⟨p, e, s, m, args, below, meth, c, D, bs, r0⟩ := K; exact lv_ior hC.1 hC.2.1 hd w)
theorem z_ixor {F : zF} {nL : Nat} {cc : ByteArray} {own nm : String} {ret : Option FieldType} {hh : List (Nat × Nat × Nat × Nat)} {h : zH} {pc : Nat} {lc : List (Nat × Value)} {st : List Value} {x y : Int32} (hd : decode cc pc = .ok (.ixor, 1)) (k : Z F nL cc own nm ret hh h (pc + 1) lc (.int (x ^^^ y) :: st)) : Z F nL cc own nm ret hh h pc lc (.int y :: .int x :: st) := by
  exact z_op k (fun n hs => zok_1 (zok_int _ _) hs (fun v hv => List.mem_cons_of_mem _ (List.mem_cons_of_mem _ hv))) (fun K hC r H locs ls w => by obtain ⟨l, d, h0, x0⟩ := F; obtain ⟨p, e, s, m, args, below, meth, c, D, bs, r0⟩ := K; exact lv_ixor hC.1 hC.2.1 hd w)
theorem z_ishl {F : zF} {nL : Nat} {cc : ByteArray} {own nm : String} {ret : Option FieldType} {hh : List (Nat × Nat × Nat × Nat)} {h : zH} {pc : Nat} {lc : List (Nat × Value)} {st : List Value} {x y : Int32} (hd : decode cc pc = .ok (.ishl, 1)) (k : Z F nL cc own nm ret hh h (pc + 1) lc (.int (x <<< (y &&& 31)) :: st)) : Z F nL cc own nm ret hh h pc lc (.int y :: .int x :: st) := by
  exact z_op k (fun n hs => zok_1 (zok_int _ _) hs (fun v hv => List.mem_cons_of_mem _ (List.mem_cons_of_mem _ hv))) (fun K hC r H locs ls w => by obtain ⟨l, d, h0, x0⟩ := F; obtain ⟨p, e, s, m, args, below, meth, c, D, bs, r0⟩ := K; exact lv_ishl hC.1 hC.2.1 hd w)
theorem z_ishr {F : zF} {nL : Nat} {cc : ByteArray} {own nm : String} {ret : Option FieldType} {hh : List (Nat × Nat × Nat × Nat)} {h : zH} {pc : Nat} {lc : List (Nat × Value)} {st : List Value} {x y : Int32} (hd : decode cc pc = .ok (.ishr, 1)) (k : Z F nL cc own nm ret hh h (pc + 1) lc (.int (x >>> (y &&& 31)) :: st)) : Z F nL cc own nm ret hh h pc lc (.int y :: .int x :: st) := by
  exact z_op k (fun n hs => zok_1 (zok_int _ _) hs (fun v hv => List.mem_cons_of_mem _ (List.mem_cons_of_mem _ hv))) (fun K hC r H locs ls w => by obtain ⟨l, d, h0, x0⟩ := F; obtain ⟨p, e, s, m, args, below, meth, c, D, bs, r0⟩ := K; exact lv_ishr hC.1 hC.2.1 hd w)
theorem z_iushr {F : zF} {nL : Nat} {cc : ByteArray} {own nm : String} {ret : Option FieldType} {hh : List (Nat × Nat × Nat × Nat)} {h : zH} {pc : Nat} {lc : List (Nat × Value)} {st : List Value} {x y : Int32} (hd : decode cc pc = .ok (.iushr, 1)) (k : Z F nL cc own nm ret hh h (pc + 1) lc (.int ((x.toUInt32 >>> (y.toUInt32 &&& Int32.toUInt32 31)).toInt32) :: st)) : Z F nL cc own nm ret hh h pc lc (.int y :: .int x :: st) := by
  exact z_op k (fun n hs => zok_1 (zok_int _ _) hs (fun v hv => List.mem_cons_of_mem _ (List.mem_cons_of_mem _ hv))) (fun K hC r H locs ls w => by obtain ⟨l, d, h0, x0⟩ := F; obtain ⟨p, e, s, m, args, below, meth, c, D, bs, r0⟩ := K; exact lv_iushr hC.1 hC.2.1 hd rfl w)
theorem z_ladd {F : zF} {nL : Nat} {cc : ByteArray} {own nm : String} {ret : Option FieldType} {hh : List (Nat × Nat × Nat × Nat)} {h : zH} {pc : Nat} {lc : List (Nat × Value)} {st : List Value} {x y : Int64} (hd : decode cc pc = .ok (.ladd, 1)) (k : Z F nL cc own nm ret hh h (pc + 1) lc (.long (x + y) :: st)) : Z F nL cc own nm ret hh h pc lc (.long y :: .long x :: st) := by
  exact z_op k (fun n hs => zok_1 (zok_long _ _) hs (fun v hv => List.mem_cons_of_mem _ (List.mem_cons_of_mem _ hv))) (fun K hC r H locs ls w => by obtain ⟨l, d, h0, x0⟩ := F; obtain ⟨p, e, s, m, args, below, meth, c, D, bs, r0⟩ := K; exact lv_ladd hC.1 hC.2.1 hd w)
theorem z_lsub {F : zF} {nL : Nat} {cc : ByteArray} {own nm : String} {ret : Option FieldType} {hh : List (Nat × Nat × Nat × Nat)} {h : zH} {pc : Nat} {lc : List (Nat × Value)} {st : List Value} {x y : Int64} (hd : decode cc pc = .ok (.lsub, 1)) (k : Z F nL cc own nm ret hh h (pc + 1) lc (.long (x - y) :: st)) : Z F nL cc own nm ret hh h pc lc (.long y :: .long x :: st) := by
  exact z_op k (fun n hs => zok_1 (zok_long _ _) hs (fun v hv => List.mem_cons_of_mem _ (List.mem_cons_of_mem _ hv))) (fun K hC r H locs ls w => by obtain ⟨l, d, h0, x0⟩ := F; obtain ⟨p, e, s, m, args, below, meth, c, D, bs, r0⟩ := K; exact lv_lsub hC.1 hC.2.1 hd w)
theorem z_lmul {F : zF} {nL : Nat} {cc : ByteArray} {own nm : String} {ret : Option FieldType} {hh : List (Nat × Nat × Nat × Nat)} {h : zH} {pc : Nat} {lc : List (Nat × Value)} {st : List Value} {x y : Int64} (hd : decode cc pc = .ok (.lmul, 1)) (k : Z F nL cc own nm ret hh h (pc + 1) lc (.long (x * y) :: st)) : Z F nL cc own nm ret hh h pc lc (.long y :: .long x :: st) := by
  exact z_op k (fun n hs => zok_1 (zok_long _ _) hs (fun v hv => List.mem_cons_of_mem _ (List.mem_cons_of_mem _ hv))) (fun K hC r H locs ls w => by obtain ⟨l, d, h0, x0⟩ := F; obtain ⟨p, e, s, m, args, below, meth, c, D, bs, r0⟩ := K; exact lv_lmul hC.1 hC.2.1 hd w)
theorem z_land {F : zF} {nL : Nat} {cc : ByteArray} {own nm : String} {ret : Option FieldType} {hh : List (Nat × Nat × Nat × Nat)} {h : zH} {pc : Nat} {lc : List (Nat × Value)} {st : List Value} {x y : Int64} (hd : decode cc pc = .ok (.land, 1)) (k : Z F nL cc own nm ret hh h (pc + 1) lc (.long (x &&& y) :: st)) : Z F nL cc own nm ret hh h pc lc (.long y :: .long x :: st) := by
  exact z_op k (fun n hs => zok_1 (zok_long _ _) hs (fun v hv => List.mem_cons_of_mem _ (List.mem_cons_of_mem _ hv))) (fun K hC r H locs ls w => by obtain ⟨l, d, h0, x0⟩ := F; obtain ⟨p, e, s, m, args, below, meth, c, D, bs, r0⟩ := K; exact lv_land hC.1 hC.2.1 hd w)
theorem z_lor {F : zF} {nL : Nat} {cc : ByteArray} {own nm : String} {ret : Option FieldType} {hh : List (Nat × Nat × Nat × Nat)} {h : zH} {pc : Nat} {lc : List (Nat × Value)} {st : List Value} {x y : Int64} (hd : decode cc pc = .ok (.lor, 1)) (k : Z F nL cc own nm ret hh h (pc + 1) lc (.long (x ||| y) :: st)) : Z F nL cc own nm ret hh h pc lc (.long y :: .long x :: st) := by
  exact z_op k (fun n hs => zok_1 (zok_long _ _) hs (fun v hv => List.mem_cons_of_mem _ (List.mem_cons_of_mem _ hv))) (fun K hC r H locs ls w => by obtain ⟨l, d, h0, x0⟩ := F; obtain ⟨p, e, s, m, args, below, meth, c, D, bs, r0⟩ := K; exact lv_lor hC.1 hC.2.1 hd w)
theorem z_lxor {F : zF} {nL : Nat} {cc : ByteArray} {own nm : String} {ret : Option FieldType} {hh : List (Nat × Nat × Nat × Nat)} {h : zH} {pc : Nat} {lc : List (Nat × Value)} {st : List Value} {x y : Int64} (hd : decode cc pc = .ok (.lxor, 1)) (k : Z F nL cc own nm ret hh h (pc + 1) lc (.long (x ^^^ y) :: st)) : Z F nL cc own nm ret hh h pc lc (.long y :: .long x :: st) := by
  exact z_op k (fun n hs => zok_1 (zok_long _ _) hs (fun v hv => List.mem_cons_of_mem _ (List.mem_cons_of_mem _ hv))) (fun K hC r H locs ls w => by obtain ⟨l, d, h0, x0⟩ := F; obtain ⟨p, e, s, m, args, below, meth, c, D, bs, r0⟩ := K; exact lv_lxor hC.1 hC.2.1 hd w)
theorem z_lshl {F : zF} {nL : Nat} {cc : ByteArray} {own nm : String} {ret : Option FieldType} {hh : List (Nat × Nat × Nat × Nat)} {h : zH} {pc : Nat} {lc : List (Nat × Value)} {st : List Value} {x : Int64} {y : Int32} (hd : decode cc pc = .ok (.lshl, 1)) (k : Z F nL cc own nm ret hh h (pc + 1) lc (.long (x <<< (y.toInt64 &&& 63)) :: st)) : Z F nL cc own nm ret hh h pc lc (.int y :: .long x :: st) := by
  exact z_op k (fun n hs => zok_1 (zok_long _ _) hs (fun v hv => List.mem_cons_of_mem _ (List.mem_cons_of_mem _ hv))) (fun K hC r H locs ls w => by obtain ⟨l, d, h0, x0⟩ := F; obtain ⟨p, e, s, m, args, below, meth, c, D, bs, r0⟩ := K; exact lv_lshl hC.1 hC.2.1 hd rfl w)
theorem z_lshr {F : zF} {nL : Nat} {cc : ByteArray} {own nm : String} {ret : Option FieldType} {hh : List (Nat × Nat × Nat × Nat)} {h : zH} {pc : Nat} {lc : List (Nat × Value)} {st : List Value} {x : Int64} {y : Int32} (hd : decode cc pc = .ok (.lshr, 1)) (k : Z F nL cc own nm ret hh h (pc + 1) lc (.long (x >>> (y.toInt64 &&& 63)) :: st)) : Z F nL cc own nm ret hh h pc lc (.int y :: .long x :: st) := by
  exact z_op k (fun n hs => zok_1 (zok_long _ _) hs (fun v hv => List.mem_cons_of_mem _ (List.mem_cons_of_mem _ hv))) (fun K hC r H locs ls w => by obtain ⟨l, d, h0, x0⟩ := F; obtain ⟨p, e, s, m, args, below, meth, c, D, bs, r0⟩ := K; exact lv_lshr hC.1 hC.2.1 hd rfl w)
theorem z_lushr {F : zF} {nL : Nat} {cc : ByteArray} {own nm : String} {ret : Option FieldType} {hh : List (Nat × Nat × Nat × Nat)} {h : zH} {pc : Nat} {lc : List (Nat × Value)} {st : List Value} {x : Int64} {y : Int32} (hd : decode cc pc = .ok (.lushr, 1)) (k : Z F nL cc own nm ret hh h (pc + 1) lc (.long ((x.toUInt64 >>> (y.toInt64.toUInt64 &&& Int64.toUInt64 63)).toInt64) :: st)) : Z F nL cc own nm ret hh h pc lc (.int y :: .long x :: st) := by
  exact z_op k (fun n hs => zok_1 (zok_long _ _) hs (fun v hv => List.mem_cons_of_mem _ (List.mem_cons_of_mem _ hv))) (fun K hC r H locs ls w => by obtain ⟨l, d, h0, x0⟩ := F; obtain ⟨p, e, s, m, args, below, meth, c, D, bs, r0⟩ := K; exact lv_lushr hC.1 hC.2.1 hd rfl w)
theorem z_i2l {F : zF} {nL : Nat} {cc : ByteArray} {own nm : String} {ret : Option FieldType} {hh : List (Nat × Nat × Nat × Nat)} {h : zH} {pc : Nat} {lc : List (Nat × Value)} {st : List Value} {x : Int32} (hd : decode cc pc = .ok (.i2l, 1)) (k : Z F nL cc own nm ret hh h (pc + 1) lc (.long (x.toInt64) :: st)) : Z F nL cc own nm ret hh h pc lc (.int x :: st) := by
  exact z_op k (fun n hs => zok_1 (zok_long _ _) hs (fun v hv => List.mem_cons_of_mem _ hv)) (fun K hC r H locs ls w => by obtain ⟨l, d, h0, x0⟩ := F; obtain ⟨p, e, s, m, args, below, meth, c, D, bs, r0⟩ := K; exact lv_i2l hC.1 hC.2.1 hd rfl w)
theorem z_l2i {F : zF} {nL : Nat} {cc : ByteArray} {own nm : String} {ret : Option FieldType} {hh : List (Nat × Nat × Nat × Nat)} {h : zH} {pc : Nat} {lc : List (Nat × Value)} {st : List Value} {x : Int64} (hd : decode cc pc = .ok (.l2i, 1)) (k : Z F nL cc own nm ret hh h (pc + 1) lc (.int (x.toInt32) :: st)) : Z F nL cc own nm ret hh h pc lc (.long x :: st) := by
  exact z_op k (fun n hs => zok_1 (zok_int _ _) hs (fun v hv => List.mem_cons_of_mem _ hv)) (fun K hC r H locs ls w => by obtain ⟨l, d, h0, x0⟩ := F; obtain ⟨p, e, s, m, args, below, meth, c, D, bs, r0⟩ := K; exact lv_l2i hC.1 hC.2.1 hd rfl w)
theorem z_ineg {F : zF} {nL : Nat} {cc : ByteArray} {own nm : String} {ret : Option FieldType} {hh : List (Nat × Nat × Nat × Nat)} {h : zH} {pc : Nat} {lc : List (Nat × Value)} {st : List Value} {x : Int32} (hd : decode cc pc = .ok (.ineg, 1)) (k : Z F nL cc own nm ret hh h (pc + 1) lc (.int (-x) :: st)) : Z F nL cc own nm ret hh h pc lc (.int x :: st) := by
  exact z_op k (fun n hs => zok_1 (zok_int _ _) hs (fun v hv => List.mem_cons_of_mem _ hv)) (fun K hC r H locs ls w => by obtain ⟨l, d, h0, x0⟩ := F; obtain ⟨p, e, s, m, args, below, meth, c, D, bs, r0⟩ := K; exact lv_ineg hC.1 hC.2.1 hd w)
theorem z_lcmp {F : zF} {nL : Nat} {cc : ByteArray} {own nm : String} {ret : Option FieldType} {hh : List (Nat × Nat × Nat × Nat)} {h : zH} {pc : Nat} {lc : List (Nat × Value)} {st : List Value} {x y : Int64} (hd : decode cc pc = .ok (.lcmp, 1)) (k : Z F nL cc own nm ret hh h (pc + 1) lc (.int (lg_cmp x y) :: st)) : Z F nL cc own nm ret hh h pc lc (.long y :: .long x :: st) := by
  exact z_op k (fun n hs => zok_1 (zok_int _ _) hs (fun v hv => List.mem_cons_of_mem _ (List.mem_cons_of_mem _ hv))) (fun K hC r H locs ls w => by obtain ⟨l, d, h0, x0⟩ := F; obtain ⟨p, e, s, m, args, below, meth, c, D, bs, r0⟩ := K; exact W.lcmp hC.1 hC.2.1 hd w)
theorem z_irem {F : zF} {nL : Nat} {cc : ByteArray} {own nm : String} {ret : Option FieldType} {hh : List (Nat × Nat × Nat × Nat)} {h : zH} {pc : Nat} {lc : List (Nat × Value)} {st : List Value} {x y : Int32} (hd : decode cc pc = .ok (.irem, 1)) (hne : ¬ y = 0) (k : Z F nL cc own nm ret hh h (pc + 1) lc (.int (x - x / y * y) :: st)) : Z F nL cc own nm ret hh h pc lc (.int y :: .int x :: st) := by
  exact z_op k (fun n hs => zok_1 (zok_int _ _) hs (fun v hv => List.mem_cons_of_mem _ (List.mem_cons_of_mem _ hv))) (fun K hC r H locs ls w => by obtain ⟨l, d, h0, x0⟩ := F; obtain ⟨p, e, s, m, args, below, meth, c, D, bs, r0⟩ := K; exact lv_irem hC.1 hC.2.1 hd hne w)
theorem z_idiv {F : zF} {nL : Nat} {cc : ByteArray} {own nm : String} {ret : Option FieldType} {hh : List (Nat × Nat × Nat × Nat)} {h : zH} {pc : Nat} {lc : List (Nat × Value)} {st : List Value} {x y : Int32} (hd : decode cc pc = .ok (.idiv, 1)) (hne : ¬ y = 0) (k : Z F nL cc own nm ret hh h (pc + 1) lc (.int (x / y) :: st)) : Z F nL cc own nm ret hh h pc lc (.int y :: .int x :: st) := by
  exact z_op k (fun n hs => zok_1 (zok_int _ _) hs (fun v hv => List.mem_cons_of_mem _ (List.mem_cons_of_mem _ hv))) (fun K hC r H locs ls w => by obtain ⟨l, d, h0, x0⟩ := F; obtain ⟨p, e, s, m, args, below, meth, c, D, bs, r0⟩ := K; exact lv_idiv hC.1 hC.2.1 hd hne w)
theorem z_lrem {F : zF} {nL : Nat} {cc : ByteArray} {own nm : String} {ret : Option FieldType} {hh : List (Nat × Nat × Nat × Nat)} {h : zH} {pc : Nat} {lc : List (Nat × Value)} {st : List Value} {x y : Int64} (hd : decode cc pc = .ok (.lrem, 1)) (hne : ¬ y = 0) (k : Z F nL cc own nm ret hh h (pc + 1) lc (.long (x - x / y * y) :: st)) : Z F nL cc own nm ret hh h pc lc (.long y :: .long x :: st) := by
  exact z_op k (fun n hs => zok_1 (zok_long _ _) hs (fun v hv => List.mem_cons_of_mem _ (List.mem_cons_of_mem _ hv))) (fun K hC r H locs ls w => by obtain ⟨l, d, h0, x0⟩ := F; obtain ⟨p, e, s, m, args, below, meth, c, D, bs, r0⟩ := K; exact lv_lrem hC.1 hC.2.1 hd hne w)
theorem z_iconst {F : zF} {nL : Nat} {cc : ByteArray} {own nm : String} {ret : Option FieldType} {hh : List (Nat × Nat × Nat × Nat)} {h : zH} {pc : Nat} {lc : List (Nat × Value)} {st : List Value} {n : Int} (v : Int32) (hd : decode cc pc = .ok (.iconst n, 1)) (hv : Int32.ofInt n = v) (k : Z F nL cc own nm ret hh h (pc + 1) lc (.int (v) :: st)) : Z F nL cc own nm ret hh h pc lc (st) := by
  exact z_op k (fun n hs => zok_1 (zok_int _ _) hs (fun v hv => hv)) (fun K hC r H locs ls w => by obtain ⟨l, d, h0, x0⟩ := F; obtain ⟨p, e, s, m, args, below, meth, c, D, bs, r0⟩ := K; exact lv_iconst hC.1 hC.2.1 hd hv w)
theorem z_bipush {F : zF} {nL : Nat} {cc : ByteArray} {own nm : String} {ret : Option FieldType} {hh : List (Nat × Nat × Nat × Nat)} {h : zH} {pc : Nat} {lc : List (Nat × Value)} {st : List Value} {n : Int} (v : Int32) (hd : decode cc pc = .ok (.bipush n, 2)) (hv : (Int8.ofInt n).toInt32 = v) (k : Z F nL cc own nm ret hh h (pc + 2) lc (.int (v) :: st)) : Z F nL cc own nm ret hh h pc lc (st) := by
  exact z_op k (fun n hs => zok_1 (zok_int _ _) hs (fun v hv => hv)) (fun K hC r H locs ls w => by obtain ⟨l, d, h0, x0⟩ := F; obtain ⟨p, e, s, m, args, below, meth, c, D, bs, r0⟩ := K; exact lv_bipush hC.1 hC.2.1 hd hv w)
theorem z_sipush {F : zF} {nL : Nat} {cc : ByteArray} {own nm : String} {ret : Option FieldType} {hh : List (Nat × Nat × Nat × Nat)} {h : zH} {pc : Nat} {lc : List (Nat × Value)} {st : List Value} {n : Int} (v : Int32) (hd : decode cc pc = .ok (.sipush n, 3)) (hv : (Int16.ofInt n).toInt32 = v) (k : Z F nL cc own nm ret hh h (pc + 3) lc (.int (v) :: st)) : Z F nL cc own nm ret hh h pc lc (st) := by
  exact z_op k (fun n hs => zok_1 (zok_int _ _) hs (fun v hv => hv)) (fun K hC r H locs ls w => by obtain ⟨l, d, h0, x0⟩ := F; obtain ⟨p, e, s, m, args, below, meth, c, D, bs, r0⟩ := K; exact lv_sipush hC.1 hC.2.1 hd hv w)
theorem z_lconst {F : zF} {nL : Nat} {cc : ByteArray} {own nm : String} {ret : Option FieldType} {hh : List (Nat × Nat × Nat × Nat)} {h : zH} {pc : Nat} {lc : List (Nat × Value)} {st : List Value} {n : Fin 2} (v : Int64) (hd : decode cc pc = .ok (.lconst n, 1)) (hv : Int64.ofNat (n : Nat) = v) (k : Z F nL cc own nm ret hh h (pc + 1) lc (.long (v) :: st)) : Z F nL cc own nm ret hh h pc lc (st) := by
  exact z_op k (fun n hs => zok_1 (zok_long _ _) hs (fun v hv => hv)) (fun K hC r H locs ls w => by obtain ⟨l, d, h0, x0⟩ := F; obtain ⟨p, e, s, m, args, below, meth, c, D, bs, r0⟩ := K; exact lv_lconst hC.1 hC.2.1 hd hv w)
theorem z_ldc {F : zF} {nL : Nat} {cc : ByteArray} {own nm : String} {ret : Option FieldType} {hh : List (Nat × Nat × Nat × Nat)} {h : zH} {pc : Nat} {lc : List (Nat × Value)} {st : List Value} {v : Int32} {index : Nat} (hw : Cond.constant own index v ∈ lw_all) (hd : decode cc pc = .ok (.ldc index, 2)) (k : Z F nL cc own nm ret hh h (pc + 2) lc (.int v :: st)) : Z F nL cc own nm ret hh h pc lc st := by
  exact z_op k (fun n hs => zok_1 (zok_int _ _) hs (fun v hv => hv)) (fun K hC r H locs ls w => by obtain ⟨l, d, h0, x0⟩ := F; obtain ⟨p, e, s, m, args, below, meth, c, D, bs, r0⟩ := K; exact lv_ldc hC.1 hC.2.1 hC.2.2.2.1 (hC.2.2.2.2.1 _ hw) hd w)
theorem z_ldcw {F : zF} {nL : Nat} {cc : ByteArray} {own nm : String} {ret : Option FieldType} {hh : List (Nat × Nat × Nat × Nat)} {h : zH} {pc : Nat} {lc : List (Nat × Value)} {st : List Value} {v : Int32} {index : Nat} (hw : Cond.constant own index v ∈ lw_all) (hd : decode cc pc = .ok (.ldc_w index, 3)) (k : Z F nL cc own nm ret hh h (pc + 3) lc (.int v :: st)) : Z F nL cc own nm ret hh h pc lc st := by
  exact z_op k (fun n hs => zok_1 (zok_int _ _) hs (fun v hv => hv)) (fun K hC r H locs ls w => by obtain ⟨l, d, h0, x0⟩ := F; obtain ⟨p, e, s, m, args, below, meth, c, D, bs, r0⟩ := K; exact lv_ldcw hC.1 hC.2.1 hC.2.2.2.1 (hC.2.2.2.2.1 _ hw) hd w)
theorem z_ldc2 {F : zF} {nL : Nat} {cc : ByteArray} {own nm : String} {ret : Option FieldType} {hh : List (Nat × Nat × Nat × Nat)} {h : zH} {pc : Nat} {lc : List (Nat × Value)} {st : List Value} {v : Int64} {index : Nat} (hw : Cond.constantLong own index v ∈ lw_all) (hd : decode cc pc = .ok (.ldc2_w index, 3)) (k : Z F nL cc own nm ret hh h (pc + 3) lc (.long v :: st)) : Z F nL cc own nm ret hh h pc lc st := by
  exact z_op k (fun n hs => zok_1 (zok_long _ _) hs (fun v hv => hv)) (fun K hC r H locs ls w => by obtain ⟨l, d, h0, x0⟩ := F; obtain ⟨p, e, s, m, args, below, meth, c, D, bs, r0⟩ := K; exact lv_ldc2 hC.1 hC.2.1 hC.2.2.2.1 (hC.2.2.2.2.1 _ hw) hd w)
theorem z_null {F : zF} {nL : Nat} {cc : ByteArray} {own nm : String} {ret : Option FieldType} {hh : List (Nat × Nat × Nat × Nat)} {h : zH} {pc : Nat} {lc : List (Nat × Value)} {st : List Value} (hd : decode cc pc = .ok (.aconst_null, 1)) (k : Z F nL cc own nm ret hh h (pc + 1) lc (.null :: st)) : Z F nL cc own nm ret hh h pc lc st := by
  exact z_op k (fun n hs => zok_1 (zok_null _) hs (fun v hv => hv)) (fun K hC r H locs ls w => by obtain ⟨l, d, h0, x0⟩ := F; obtain ⟨p, e, s, m, args, below, meth, c, D, bs, r0⟩ := K; exact lv_null hC.1 hC.2.1 hd w)
theorem zv_cat (r : Nat → Nat) (v : Value) : (zv r v).category = v.category := by cases v <;> rfl
theorem z_dup {F : zF} {nL : Nat} {cc : ByteArray} {own nm : String} {ret : Option FieldType} {hh : List (Nat × Nat × Nat × Nat)} {h : zH} {pc : Nat} {lc : List (Nat × Value)} {st : List Value} {a : Value} (hd : decode cc pc = .ok (.dup, 1)) (ha : a.category = 1) (k : Z F nL cc own nm ret hh h (pc + 1) lc (a :: a :: st)) : Z F nL cc own nm ret hh h pc lc (a :: st) := by
  exact z_op k (fun n hs => zok_1 (hs a List.mem_cons_self) hs (fun v hv => hv)) (fun K hC r H locs ls w => by obtain ⟨l, d, h0, x0⟩ := F; obtain ⟨p, e, s, m, args, below, meth, c, D, bs, r0⟩ := K; exact lv_dup hC.1 hC.2.1 hd (by rw [zv_cat]; exact ha) w)
theorem z_pop {F : zF} {nL : Nat} {cc : ByteArray} {own nm : String} {ret : Option FieldType} {hh : List (Nat × Nat × Nat × Nat)} {h : zH} {pc : Nat} {lc : List (Nat × Value)} {st : List Value} {a : Value} (hd : decode cc pc = .ok (.pop, 1)) (ha : a.category = 1) (k : Z F nL cc own nm ret hh h (pc + 1) lc st) : Z F nL cc own nm ret hh h pc lc (a :: st) := by
  exact z_op k (fun n hs v hv => hs v (List.mem_cons_of_mem _ hv)) (fun K hC r H locs ls w => by obtain ⟨l, d, h0, x0⟩ := F; obtain ⟨p, e, s, m, args, below, meth, c, D, bs, r0⟩ := K; exact lv_pop hC.1 hC.2.1 hd (by rw [zv_cat]; exact ha) w)
theorem z_dup_x1 {F : zF} {nL : Nat} {cc : ByteArray} {own nm : String} {ret : Option FieldType} {hh : List (Nat × Nat × Nat × Nat)} {h : zH} {pc : Nat} {lc : List (Nat × Value)} {st : List Value} {a b : Value} (hd : decode cc pc = .ok (.dup_x1, 1)) (ha : a.category = 1) (hb : b.category = 1) (k : Z F nL cc own nm ret hh h (pc + 1) lc (a :: b :: a :: st)) : Z F nL cc own nm ret hh h pc lc (a :: b :: st) := by
  exact z_op k (fun n hs => zok_1 (hs a List.mem_cons_self) hs (fun v hv => by simp only [List.mem_cons] at hv ⊢; rcases hv with e | e | e <;> simp [e])) (fun K hC r H locs ls w => by obtain ⟨l, d, h0, x0⟩ := F; obtain ⟨p, e, s, m, args, below, meth, c, D, bs, r0⟩ := K; exact lv_dup_x1 hC.1 hC.2.1 hd (by rw [zv_cat]; exact ha) (by rw [zv_cat]; exact hb) w)
theorem z_dup2 {F : zF} {nL : Nat} {cc : ByteArray} {own nm : String} {ret : Option FieldType} {hh : List (Nat × Nat × Nat × Nat)} {h : zH} {pc : Nat} {lc : List (Nat × Value)} {st : List Value} {a b : Value} (hd : decode cc pc = .ok (.dup2, 1)) (ha : a.category = 1) (hb : b.category = 1) (k : Z F nL cc own nm ret hh h (pc + 1) lc (a :: b :: a :: b :: st)) : Z F nL cc own nm ret hh h pc lc (a :: b :: st) := by
  exact z_op k (fun n hs => zok_1 (hs a List.mem_cons_self) hs (fun v hv => by simp only [List.mem_cons] at hv ⊢; rcases hv with e | e | e | e <;> simp [e])) (fun K hC r H locs ls w => by obtain ⟨l, d, h0, x0⟩ := F; obtain ⟨p, e, s, m, args, below, meth, c, D, bs, r0⟩ := K; exact lv_dup2_11 hC.1 hC.2.1 hd (by rw [zv_cat]; exact ha) (by rw [zv_cat]; exact hb) w)
theorem z_if_ne {F : zF} {nL : Nat} {cc : ByteArray} {own nm : String} {ret : Option FieldType} {hh : List (Nat × Nat × Nat × Nat)} {h : zH} {pc : Nat} {lc : List (Nat × Value)} {st : List Value} {α : Type} {A B : Option α} {y : α} {x : Int32} {off : Int} (tgt : Nat) (hd : decode cc pc = .ok (.ifCond .ne off, 3)) (ht : (pc : Int) + off = (tgt : Int)) (hf : (if (x = 0) then B else A) = some y) (kt : ¬ (x = 0) → A = some y → Z F nL cc own nm ret hh h tgt lc st) (kf : (x = 0) → B = some y → Z F nL cc own nm ret hh h (pc + 3) lc st) : Z F nL cc own nm ret hh h pc lc (.int x :: st) := by
  have kt : ¬ (x = 0) → Z F nL cc own nm ret hh h tgt lc st := fun q => kt q (by rw [if_neg q] at hf; exact hf)
  have kf : (x = 0) → Z F nL cc own nm ret hh h (pc + 3) lc st := fun q => kf q (by rw [if_pos q] at hf; exact hf)
  clear hf
  refine ⟨(Classical.em ((x = 0))).elim (fun q => (kf q).1) (fun q => (kt q).1), fun K hC r H locs ls hz => ?_⟩
  have hz := hz.pop (st' := st) (fun v hv => List.mem_cons_of_mem _ hv)
  obtain ⟨l, d, h0, x0⟩ := F
  obtain ⟨p, e, s, m, args, below, meth, c, D, bs, r0⟩ := K
  exact lv_if_ne hC.1 hC.2.1 hd ht (fun q => (kt q).2 _ hC r H locs ls hz) (fun q => (kf q).2 _ hC r H locs ls hz)
theorem z_icmp_ne {F : zF} {nL : Nat} {cc : ByteArray} {own nm : String} {ret : Option FieldType} {hh : List (Nat × Nat × Nat × Nat)} {h : zH} {pc : Nat} {lc : List (Nat × Value)} {st : List Value} {α : Type} {A B : Option α} {y : α} {x y' : Int32} {off : Int} (tgt : Nat) (hd : decode cc pc = .ok (.if_icmp .ne off, 3)) (ht : (pc : Int) + off = (tgt : Int)) (hf : (if (x = y') then B else A) = some y) (kt : ¬ (x = y') → A = some y → Z F nL cc own nm ret hh h tgt lc st) (kf : (x = y') → B = some y → Z F nL cc own nm ret hh h (pc + 3) lc st) : Z F nL cc own nm ret hh h pc lc (.int y' :: .int x :: st) := by
  have kt : ¬ (x = y') → Z F nL cc own nm ret hh h tgt lc st := fun q => kt q (by rw [if_neg q] at hf; exact hf)
  have kf : (x = y') → Z F nL cc own nm ret hh h (pc + 3) lc st := fun q => kf q (by rw [if_pos q] at hf; exact hf)
  clear hf
  refine ⟨(Classical.em ((x = y'))).elim (fun q => (kf q).1) (fun q => (kt q).1), fun K hC r H locs ls hz => ?_⟩
  have hz := hz.pop (st' := st) (fun v hv => List.mem_cons_of_mem _ (List.mem_cons_of_mem _ hv))
  obtain ⟨l, d, h0, x0⟩ := F
  obtain ⟨p, e, s, m, args, below, meth, c, D, bs, r0⟩ := K
  exact lv_icmp_ne hC.1 hC.2.1 hd ht (fun q => (kt q).2 _ hC r H locs ls hz) (fun q => (kf q).2 _ hC r H locs ls hz)
theorem z_if_eq {F : zF} {nL : Nat} {cc : ByteArray} {own nm : String} {ret : Option FieldType} {hh : List (Nat × Nat × Nat × Nat)} {h : zH} {pc : Nat} {lc : List (Nat × Value)} {st : List Value} {α : Type} {A B : Option α} {y : α} {x : Int32} {off : Int} (tgt : Nat) (hd : decode cc pc = .ok (.ifCond .eq off, 3)) (ht : (pc : Int) + off = (tgt : Int)) (hf : (if (x = 0) then A else B) = some y) (kt : (x = 0) → A = some y → Z F nL cc own nm ret hh h tgt lc st) (kf : ¬ (x = 0) → B = some y → Z F nL cc own nm ret hh h (pc + 3) lc st) : Z F nL cc own nm ret hh h pc lc (.int x :: st) := by
  have kt : (x = 0) → Z F nL cc own nm ret hh h tgt lc st := fun q => kt q (by rw [if_pos q] at hf; exact hf)
  have kf : ¬ (x = 0) → Z F nL cc own nm ret hh h (pc + 3) lc st := fun q => kf q (by rw [if_neg q] at hf; exact hf)
  clear hf
  refine ⟨(Classical.em ((x = 0))).elim (fun q => (kt q).1) (fun q => (kf q).1), fun K hC r H locs ls hz => ?_⟩
  have hz := hz.pop (st' := st) (fun v hv => List.mem_cons_of_mem _ hv)
  obtain ⟨l, d, h0, x0⟩ := F
  obtain ⟨p, e, s, m, args, below, meth, c, D, bs, r0⟩ := K
  exact lv_if_eq hC.1 hC.2.1 hd ht (fun q => (kt q).2 _ hC r H locs ls hz) (fun q => (kf q).2 _ hC r H locs ls hz)
theorem z_if_lt {F : zF} {nL : Nat} {cc : ByteArray} {own nm : String} {ret : Option FieldType} {hh : List (Nat × Nat × Nat × Nat)} {h : zH} {pc : Nat} {lc : List (Nat × Value)} {st : List Value} {α : Type} {A B : Option α} {y : α} {x : Int32} {off : Int} (tgt : Nat) (hd : decode cc pc = .ok (.ifCond .lt off, 3)) (ht : (pc : Int) + off = (tgt : Int)) (hf : (if (x < 0) then A else B) = some y) (kt : (x < 0) → A = some y → Z F nL cc own nm ret hh h tgt lc st) (kf : ¬ (x < 0) → B = some y → Z F nL cc own nm ret hh h (pc + 3) lc st) : Z F nL cc own nm ret hh h pc lc (.int x :: st) := by
  have kt : (x < 0) → Z F nL cc own nm ret hh h tgt lc st := fun q => kt q (by rw [if_pos q] at hf; exact hf)
  have kf : ¬ (x < 0) → Z F nL cc own nm ret hh h (pc + 3) lc st := fun q => kf q (by rw [if_neg q] at hf; exact hf)
  clear hf
  refine ⟨(Classical.em ((x < 0))).elim (fun q => (kt q).1) (fun q => (kf q).1), fun K hC r H locs ls hz => ?_⟩
  have hz := hz.pop (st' := st) (fun v hv => List.mem_cons_of_mem _ hv)
  obtain ⟨l, d, h0, x0⟩ := F
  obtain ⟨p, e, s, m, args, below, meth, c, D, bs, r0⟩ := K
  exact lv_if_lt hC.1 hC.2.1 hd ht (fun q => (kt q).2 _ hC r H locs ls hz) (fun q => (kf q).2 _ hC r H locs ls hz)
theorem z_if_ge {F : zF} {nL : Nat} {cc : ByteArray} {own nm : String} {ret : Option FieldType} {hh : List (Nat × Nat × Nat × Nat)} {h : zH} {pc : Nat} {lc : List (Nat × Value)} {st : List Value} {α : Type} {A B : Option α} {y : α} {x : Int32} {off : Int} (tgt : Nat) (hd : decode cc pc = .ok (.ifCond .ge off, 3)) (ht : (pc : Int) + off = (tgt : Int)) (hf : (if (0 ≤ x) then A else B) = some y) (kt : (0 ≤ x) → A = some y → Z F nL cc own nm ret hh h tgt lc st) (kf : ¬ (0 ≤ x) → B = some y → Z F nL cc own nm ret hh h (pc + 3) lc st) : Z F nL cc own nm ret hh h pc lc (.int x :: st) := by
  have kt : (0 ≤ x) → Z F nL cc own nm ret hh h tgt lc st := fun q => kt q (by rw [if_pos q] at hf; exact hf)
  have kf : ¬ (0 ≤ x) → Z F nL cc own nm ret hh h (pc + 3) lc st := fun q => kf q (by rw [if_neg q] at hf; exact hf)
  clear hf
  refine ⟨(Classical.em ((0 ≤ x))).elim (fun q => (kt q).1) (fun q => (kf q).1), fun K hC r H locs ls hz => ?_⟩
  have hz := hz.pop (st' := st) (fun v hv => List.mem_cons_of_mem _ hv)
  obtain ⟨l, d, h0, x0⟩ := F
  obtain ⟨p, e, s, m, args, below, meth, c, D, bs, r0⟩ := K
  exact lv_if_ge hC.1 hC.2.1 hd ht (fun q => (kt q).2 _ hC r H locs ls hz) (fun q => (kf q).2 _ hC r H locs ls hz)
theorem z_if_gt {F : zF} {nL : Nat} {cc : ByteArray} {own nm : String} {ret : Option FieldType} {hh : List (Nat × Nat × Nat × Nat)} {h : zH} {pc : Nat} {lc : List (Nat × Value)} {st : List Value} {α : Type} {A B : Option α} {y : α} {x : Int32} {off : Int} (tgt : Nat) (hd : decode cc pc = .ok (.ifCond .gt off, 3)) (ht : (pc : Int) + off = (tgt : Int)) (hf : (if (0 < x) then A else B) = some y) (kt : (0 < x) → A = some y → Z F nL cc own nm ret hh h tgt lc st) (kf : ¬ (0 < x) → B = some y → Z F nL cc own nm ret hh h (pc + 3) lc st) : Z F nL cc own nm ret hh h pc lc (.int x :: st) := by
  have kt : (0 < x) → Z F nL cc own nm ret hh h tgt lc st := fun q => kt q (by rw [if_pos q] at hf; exact hf)
  have kf : ¬ (0 < x) → Z F nL cc own nm ret hh h (pc + 3) lc st := fun q => kf q (by rw [if_neg q] at hf; exact hf)
  clear hf
  refine ⟨(Classical.em ((0 < x))).elim (fun q => (kt q).1) (fun q => (kf q).1), fun K hC r H locs ls hz => ?_⟩
  have hz := hz.pop (st' := st) (fun v hv => List.mem_cons_of_mem _ hv)
  obtain ⟨l, d, h0, x0⟩ := F
  obtain ⟨p, e, s, m, args, below, meth, c, D, bs, r0⟩ := K
  exact lv_if_gt hC.1 hC.2.1 hd ht (fun q => (kt q).2 _ hC r H locs ls hz) (fun q => (kf q).2 _ hC r H locs ls hz)
theorem z_if_le {F : zF} {nL : Nat} {cc : ByteArray} {own nm : String} {ret : Option FieldType} {hh : List (Nat × Nat × Nat × Nat)} {h : zH} {pc : Nat} {lc : List (Nat × Value)} {st : List Value} {α : Type} {A B : Option α} {y : α} {x : Int32} {off : Int} (tgt : Nat) (hd : decode cc pc = .ok (.ifCond .le off, 3)) (ht : (pc : Int) + off = (tgt : Int)) (hf : (if (x ≤ 0) then A else B) = some y) (kt : (x ≤ 0) → A = some y → Z F nL cc own nm ret hh h tgt lc st) (kf : ¬ (x ≤ 0) → B = some y → Z F nL cc own nm ret hh h (pc + 3) lc st) : Z F nL cc own nm ret hh h pc lc (.int x :: st) := by
  have kt : (x ≤ 0) → Z F nL cc own nm ret hh h tgt lc st := fun q => kt q (by rw [if_pos q] at hf; exact hf)
  have kf : ¬ (x ≤ 0) → Z F nL cc own nm ret hh h (pc + 3) lc st := fun q => kf q (by rw [if_neg q] at hf; exact hf)
  clear hf
  refine ⟨(Classical.em ((x ≤ 0))).elim (fun q => (kt q).1) (fun q => (kf q).1), fun K hC r H locs ls hz => ?_⟩
  have hz := hz.pop (st' := st) (fun v hv => List.mem_cons_of_mem _ hv)
  obtain ⟨l, d, h0, x0⟩ := F
  obtain ⟨p, e, s, m, args, below, meth, c, D, bs, r0⟩ := K
  exact lv_if_le hC.1 hC.2.1 hd ht (fun q => (kt q).2 _ hC r H locs ls hz) (fun q => (kf q).2 _ hC r H locs ls hz)
theorem z_icmp_eq {F : zF} {nL : Nat} {cc : ByteArray} {own nm : String} {ret : Option FieldType} {hh : List (Nat × Nat × Nat × Nat)} {h : zH} {pc : Nat} {lc : List (Nat × Value)} {st : List Value} {α : Type} {A B : Option α} {y : α} {x y' : Int32} {off : Int} (tgt : Nat) (hd : decode cc pc = .ok (.if_icmp .eq off, 3)) (ht : (pc : Int) + off = (tgt : Int)) (hf : (if (x = y') then A else B) = some y) (kt : (x = y') → A = some y → Z F nL cc own nm ret hh h tgt lc st) (kf : ¬ (x = y') → B = some y → Z F nL cc own nm ret hh h (pc + 3) lc st) : Z F nL cc own nm ret hh h pc lc (.int y' :: .int x :: st) := by
  have kt : (x = y') → Z F nL cc own nm ret hh h tgt lc st := fun q => kt q (by rw [if_pos q] at hf; exact hf)
  have kf : ¬ (x = y') → Z F nL cc own nm ret hh h (pc + 3) lc st := fun q => kf q (by rw [if_neg q] at hf; exact hf)
  clear hf
  refine ⟨(Classical.em ((x = y'))).elim (fun q => (kt q).1) (fun q => (kf q).1), fun K hC r H locs ls hz => ?_⟩
  have hz := hz.pop (st' := st) (fun v hv => List.mem_cons_of_mem _ (List.mem_cons_of_mem _ hv))
  obtain ⟨l, d, h0, x0⟩ := F
  obtain ⟨p, e, s, m, args, below, meth, c, D, bs, r0⟩ := K
  exact lv_icmp_eq hC.1 hC.2.1 hd ht (fun q => (kt q).2 _ hC r H locs ls hz) (fun q => (kf q).2 _ hC r H locs ls hz)
theorem z_icmp_lt {F : zF} {nL : Nat} {cc : ByteArray} {own nm : String} {ret : Option FieldType} {hh : List (Nat × Nat × Nat × Nat)} {h : zH} {pc : Nat} {lc : List (Nat × Value)} {st : List Value} {α : Type} {A B : Option α} {y : α} {x y' : Int32} {off : Int} (tgt : Nat) (hd : decode cc pc = .ok (.if_icmp .lt off, 3)) (ht : (pc : Int) + off = (tgt : Int)) (hf : (if (x < y') then A else B) = some y) (kt : (x < y') → A = some y → Z F nL cc own nm ret hh h tgt lc st) (kf : ¬ (x < y') → B = some y → Z F nL cc own nm ret hh h (pc + 3) lc st) : Z F nL cc own nm ret hh h pc lc (.int y' :: .int x :: st) := by
  have kt : (x < y') → Z F nL cc own nm ret hh h tgt lc st := fun q => kt q (by rw [if_pos q] at hf; exact hf)
  have kf : ¬ (x < y') → Z F nL cc own nm ret hh h (pc + 3) lc st := fun q => kf q (by rw [if_neg q] at hf; exact hf)
  clear hf
  refine ⟨(Classical.em ((x < y'))).elim (fun q => (kt q).1) (fun q => (kf q).1), fun K hC r H locs ls hz => ?_⟩
  have hz := hz.pop (st' := st) (fun v hv => List.mem_cons_of_mem _ (List.mem_cons_of_mem _ hv))
  obtain ⟨l, d, h0, x0⟩ := F
  obtain ⟨p, e, s, m, args, below, meth, c, D, bs, r0⟩ := K
  exact lv_icmp_lt hC.1 hC.2.1 hd ht (fun q => (kt q).2 _ hC r H locs ls hz) (fun q => (kf q).2 _ hC r H locs ls hz)
theorem z_icmp_ge {F : zF} {nL : Nat} {cc : ByteArray} {own nm : String} {ret : Option FieldType} {hh : List (Nat × Nat × Nat × Nat)} {h : zH} {pc : Nat} {lc : List (Nat × Value)} {st : List Value} {α : Type} {A B : Option α} {y : α} {x y' : Int32} {off : Int} (tgt : Nat) (hd : decode cc pc = .ok (.if_icmp .ge off, 3)) (ht : (pc : Int) + off = (tgt : Int)) (hf : (if (y' ≤ x) then A else B) = some y) (kt : (y' ≤ x) → A = some y → Z F nL cc own nm ret hh h tgt lc st) (kf : ¬ (y' ≤ x) → B = some y → Z F nL cc own nm ret hh h (pc + 3) lc st) : Z F nL cc own nm ret hh h pc lc (.int y' :: .int x :: st) := by
  have kt : (y' ≤ x) → Z F nL cc own nm ret hh h tgt lc st := fun q => kt q (by rw [if_pos q] at hf; exact hf)
  have kf : ¬ (y' ≤ x) → Z F nL cc own nm ret hh h (pc + 3) lc st := fun q => kf q (by rw [if_neg q] at hf; exact hf)
  clear hf
  refine ⟨(Classical.em ((y' ≤ x))).elim (fun q => (kt q).1) (fun q => (kf q).1), fun K hC r H locs ls hz => ?_⟩
  have hz := hz.pop (st' := st) (fun v hv => List.mem_cons_of_mem _ (List.mem_cons_of_mem _ hv))
  obtain ⟨l, d, h0, x0⟩ := F
  obtain ⟨p, e, s, m, args, below, meth, c, D, bs, r0⟩ := K
  exact lv_icmp_ge hC.1 hC.2.1 hd ht (fun q => (kt q).2 _ hC r H locs ls hz) (fun q => (kf q).2 _ hC r H locs ls hz)
theorem z_icmp_gt {F : zF} {nL : Nat} {cc : ByteArray} {own nm : String} {ret : Option FieldType} {hh : List (Nat × Nat × Nat × Nat)} {h : zH} {pc : Nat} {lc : List (Nat × Value)} {st : List Value} {α : Type} {A B : Option α} {y : α} {x y' : Int32} {off : Int} (tgt : Nat) (hd : decode cc pc = .ok (.if_icmp .gt off, 3)) (ht : (pc : Int) + off = (tgt : Int)) (hf : (if (y' < x) then A else B) = some y) (kt : (y' < x) → A = some y → Z F nL cc own nm ret hh h tgt lc st) (kf : ¬ (y' < x) → B = some y → Z F nL cc own nm ret hh h (pc + 3) lc st) : Z F nL cc own nm ret hh h pc lc (.int y' :: .int x :: st) := by
  have kt : (y' < x) → Z F nL cc own nm ret hh h tgt lc st := fun q => kt q (by rw [if_pos q] at hf; exact hf)
  have kf : ¬ (y' < x) → Z F nL cc own nm ret hh h (pc + 3) lc st := fun q => kf q (by rw [if_neg q] at hf; exact hf)
  clear hf
  refine ⟨(Classical.em ((y' < x))).elim (fun q => (kt q).1) (fun q => (kf q).1), fun K hC r H locs ls hz => ?_⟩
  have hz := hz.pop (st' := st) (fun v hv => List.mem_cons_of_mem _ (List.mem_cons_of_mem _ hv))
  obtain ⟨l, d, h0, x0⟩ := F
  obtain ⟨p, e, s, m, args, below, meth, c, D, bs, r0⟩ := K
  exact lv_icmp_gt hC.1 hC.2.1 hd ht (fun q => (kt q).2 _ hC r H locs ls hz) (fun q => (kf q).2 _ hC r H locs ls hz)
theorem z_icmp_le {F : zF} {nL : Nat} {cc : ByteArray} {own nm : String} {ret : Option FieldType} {hh : List (Nat × Nat × Nat × Nat)} {h : zH} {pc : Nat} {lc : List (Nat × Value)} {st : List Value} {α : Type} {A B : Option α} {y : α} {x y' : Int32} {off : Int} (tgt : Nat) (hd : decode cc pc = .ok (.if_icmp .le off, 3)) (ht : (pc : Int) + off = (tgt : Int)) (hf : (if (x ≤ y') then A else B) = some y) (kt : (x ≤ y') → A = some y → Z F nL cc own nm ret hh h tgt lc st) (kf : ¬ (x ≤ y') → B = some y → Z F nL cc own nm ret hh h (pc + 3) lc st) : Z F nL cc own nm ret hh h pc lc (.int y' :: .int x :: st) := by
  have kt : (x ≤ y') → Z F nL cc own nm ret hh h tgt lc st := fun q => kt q (by rw [if_pos q] at hf; exact hf)
  have kf : ¬ (x ≤ y') → Z F nL cc own nm ret hh h (pc + 3) lc st := fun q => kf q (by rw [if_neg q] at hf; exact hf)
  clear hf
  refine ⟨(Classical.em ((x ≤ y'))).elim (fun q => (kt q).1) (fun q => (kf q).1), fun K hC r H locs ls hz => ?_⟩
  have hz := hz.pop (st' := st) (fun v hv => List.mem_cons_of_mem _ (List.mem_cons_of_mem _ hv))
  obtain ⟨l, d, h0, x0⟩ := F
  obtain ⟨p, e, s, m, args, below, meth, c, D, bs, r0⟩ := K
  exact lv_icmp_le hC.1 hC.2.1 hd ht (fun q => (kt q).2 _ hC r H locs ls hz) (fun q => (kf q).2 _ hC r H locs ls hz)
theorem z_goto {F : zF} {nL : Nat} {cc : ByteArray} {own nm : String} {ret : Option FieldType} {hh : List (Nat × Nat × Nat × Nat)} {h : zH} {pc : Nat} {lc : List (Nat × Value)} {st : List Value} {off : Int} (tgt : Nat) (hd : decode cc pc = .ok (.goto off, 3)) (ht : (pc : Int) + off = (tgt : Int)) (k : Z F nL cc own nm ret hh h tgt lc st) : Z F nL cc own nm ret hh h pc lc st := by
  exact z_op k (fun n hs => hs) (fun K hC r H locs ls w => by obtain ⟨l, d, h0, x0⟩ := F; obtain ⟨p, e, s, m, args, below, meth, c, D, bs, r0⟩ := K; exact lv_goto hC.1 hC.2.1 hd ht w)
theorem z_ld {F : zF} {nL : Nat} {cc : ByteArray} {own nm : String} {ret : Option FieldType} {hh : List (Nat × Nat × Nat × Nat)} {h : zH} {pc : Nat} {lc : List (Nat × Value)} {st : List Value} {pc' j i : Nat} {v : Value} (hj : lc[j]? = some (i, v)) (k : Z F nL cc own nm ret hh h pc' lc (v :: st))
    (hw : ∀ K : zK, zCx K nL cc own nm ret hh → ∀ (r : Nat → Nat) (H : Heap) (locs : List Loc) (ls : Array Slot), ls[i]? = some (.val (zv r v)) → zWp F K h H locs ls pc' (zv r v :: st.map (zv r)) → zWp F K h H locs ls pc (st.map (zv r))) : Z F nL cc own nm ret hh h pc lc st := by
  refine ⟨k.1, fun K hC r H locs ls hz => ?_⟩
  have hk := k.2 K hC r H locs ls
  have hw := hw K hC r H locs ls
  clear k hC
  obtain ⟨l, d, h0, x⟩ := F
  obtain ⟨p, e, s, m, args, below, meth, c, D, bs, r0⟩ := K
  obtain ⟨z1, z2, z3, z4, z5, z6, z7⟩ := hz
  have hm : (i, v) ∈ lc := List.mem_of_getElem? hj
  refine hw (z7.2.2 (i, zv r v) (List.mem_map.mpr ⟨(i, v), hm, rfl⟩)) (hk ⟨z1, z2, z3, z4, z5, ?_, z7⟩)
  exact zok_1 (z5 _ hm) z6 (fun _ h => h)
theorem z_iload_n {F : zF} {nL : Nat} {cc : ByteArray} {own nm : String} {ret : Option FieldType} {hh : List (Nat × Nat × Nat × Nat)} {h : zH} {pc : Nat} {lc : List (Nat × Value)} {st : List Value} (j : Nat) {k' : Fin 4} {i : Nat} {x : Int32} (hd : decode cc pc = .ok (.iload_n k', 1)) (hi : (k' : Nat) = i) (hj : lc[j]? = some (i, .int x)) (k : Z F nL cc own nm ret hh h (pc + 1) lc (.int x :: st)) : Z F nL cc own nm ret hh h pc lc st :=
  z_ld hj k (fun K hC r H locs ls hl w => by obtain ⟨l, d, h0, x0⟩ := F; obtain ⟨p, e, s, m, args, below, meth, c, D, bs, r0⟩ := K; exact lv_iload_n hC.1 hC.2.1 hd hi hl w)
theorem z_iload {F : zF} {nL : Nat} {cc : ByteArray} {own nm : String} {ret : Option FieldType} {hh : List (Nat × Nat × Nat × Nat)} {h : zH} {pc : Nat} {lc : List (Nat × Value)} {st : List Value} (j : Nat) {i : Nat} {x : Int32} (hd : decode cc pc = .ok (.iload i, 2)) (hj : lc[j]? = some (i, .int x)) (k : Z F nL cc own nm ret hh h (pc + 2) lc (.int x :: st)) : Z F nL cc own nm ret hh h pc lc st :=
  z_ld hj k (fun K hC r H locs ls hl w => by obtain ⟨l, d, h0, x0⟩ := F; obtain ⟨p, e, s, m, args, below, meth, c, D, bs, r0⟩ := K; exact lv_iload hC.1 hC.2.1 hd hl w)
theorem z_lload_n {F : zF} {nL : Nat} {cc : ByteArray} {own nm : String} {ret : Option FieldType} {hh : List (Nat × Nat × Nat × Nat)} {h : zH} {pc : Nat} {lc : List (Nat × Value)} {st : List Value} (j : Nat) {k' : Fin 4} {i : Nat} {x : Int64} (hd : decode cc pc = .ok (.lload_n k', 1)) (hi : (k' : Nat) = i) (hj : lc[j]? = some (i, .long x)) (k : Z F nL cc own nm ret hh h (pc + 1) lc (.long x :: st)) : Z F nL cc own nm ret hh h pc lc st :=
  z_ld hj k (fun K hC r H locs ls hl w => by obtain ⟨l, d, h0, x0⟩ := F; obtain ⟨p, e, s, m, args, below, meth, c, D, bs, r0⟩ := K; exact lv_lload_n hC.1 hC.2.1 hd hi hl w)
theorem z_lload {F : zF} {nL : Nat} {cc : ByteArray} {own nm : String} {ret : Option FieldType} {hh : List (Nat × Nat × Nat × Nat)} {h : zH} {pc : Nat} {lc : List (Nat × Value)} {st : List Value} (j : Nat) {i : Nat} {x : Int64} (hd : decode cc pc = .ok (.lload i, 2)) (hj : lc[j]? = some (i, .long x)) (k : Z F nL cc own nm ret hh h (pc + 2) lc (.long x :: st)) : Z F nL cc own nm ret hh h pc lc st :=
  z_ld hj k (fun K hC r H locs ls hl w => by obtain ⟨l, d, h0, x0⟩ := F; obtain ⟨p, e, s, m, args, below, meth, c, D, bs, r0⟩ := K; exact lv_lload hC.1 hC.2.1 hd hl w)
theorem z_aload_n {F : zF} {nL : Nat} {cc : ByteArray} {own nm : String} {ret : Option FieldType} {hh : List (Nat × Nat × Nat × Nat)} {h : zH} {pc : Nat} {lc : List (Nat × Value)} {st : List Value} (j : Nat) {k' : Fin 4} {i : Nat} {x : Nat} (hd : decode cc pc = .ok (.aload_n k', 1)) (hi : (k' : Nat) = i) (hj : lc[j]? = some (i, .ref x)) (k : Z F nL cc own nm ret hh h (pc + 1) lc (.ref x :: st)) : Z F nL cc own nm ret hh h pc lc st :=
  z_ld hj k (fun K hC r H locs ls hl w => by obtain ⟨l, d, h0, x0⟩ := F; obtain ⟨p, e, s, m, args, below, meth, c, D, bs, r0⟩ := K; exact lv_aload_n hC.1 hC.2.1 hd hi hl w)
theorem z_aload {F : zF} {nL : Nat} {cc : ByteArray} {own nm : String} {ret : Option FieldType} {hh : List (Nat × Nat × Nat × Nat)} {h : zH} {pc : Nat} {lc : List (Nat × Value)} {st : List Value} (j : Nat) {i : Nat} {x : Nat} (hd : decode cc pc = .ok (.aload i, 2)) (hj : lc[j]? = some (i, .ref x)) (k : Z F nL cc own nm ret hh h (pc + 2) lc (.ref x :: st)) : Z F nL cc own nm ret hh h pc lc st :=
  z_ld hj k (fun K hC r H locs ls hl w => by obtain ⟨l, d, h0, x0⟩ := F; obtain ⟨p, e, s, m, args, below, meth, c, D, bs, r0⟩ := K; exact lv_aload hC.1 hC.2.1 hd hl w)
theorem z_aloadq {F : zF} {nL : Nat} {cc : ByteArray} {own nm : String} {ret : Option FieldType} {hh : List (Nat × Nat × Nat × Nat)} {h : zH} {pc : Nat} {lc : List (Nat × Value)} {st : List Value} (j : Nat) {i : Nat} {x : Option Nat} (hd : decode cc pc = .ok (.aload i, 2)) (hj : lc[j]? = some (i, va_rf x)) (k : Z F nL cc own nm ret hh h (pc + 2) lc (va_rf x :: st)) : Z F nL cc own nm ret hh h pc lc st :=
  z_ld hj k (fun K hC r H locs ls hl w => by obtain ⟨l, d, h0, x0⟩ := F; obtain ⟨p, e, s, m, args, below, meth, c, D, bs, r0⟩ := K; cases x with
    | none => exact lv_aloadN hC.1 hC.2.1 hd hl w
    | some a => exact lv_aload hC.1 hC.2.1 hd hl w)
theorem z_aload_nq {F : zF} {nL : Nat} {cc : ByteArray} {own nm : String} {ret : Option FieldType} {hh : List (Nat × Nat × Nat × Nat)} {h : zH} {pc : Nat} {lc : List (Nat × Value)} {st : List Value} (j : Nat) {k' : Fin 4} {i : Nat} {x : Option Nat} (hd : decode cc pc = .ok (.aload_n k', 1)) (hi : (k' : Nat) = i) (hj : lc[j]? = some (i, va_rf x)) (k : Z F nL cc own nm ret hh h (pc + 1) lc (va_rf x :: st)) : Z F nL cc own nm ret hh h pc lc st :=
  z_ld hj k (fun K hC r H locs ls hl w => by obtain ⟨l, d, h0, x0⟩ := F; obtain ⟨p, e, s, m, args, below, meth, c, D, bs, r0⟩ := K; cases x with
    | none => exact lv_aload_nN hC.1 hC.2.1 hd hi hl w
    | some a => exact lv_aload_n hC.1 hC.2.1 hd hi hl w)
def zF1 (i : Nat) (q : Nat × Value) : Bool := !(q.1 == i) && !(q.1 + 1 == i && q.2.category == 2)
def zset1 (i : Nat) (v : Value) (lc : List (Nat × Value)) : List (Nat × Value) := lc.filter (fun q => decide (q.1 < i) && !(q.1 + 1 == i && q.2.category == 2)) ++ (i, v) :: lc.filter (fun q => decide (i < q.1))
def zset2 (i : Nat) (v : Value) (lc : List (Nat × Value)) : List (Nat × Value) := lc.filter (fun q => decide (q.1 < i) && !(q.1 + 1 == i && q.2.category == 2)) ++ (i, v) :: lc.filter (fun q => decide (i + 1 < q.1))
theorem zset1_mem {i : Nat} {v : Value} {lc : List (Nat × Value)} {q : Nat × Value} (h : q ∈ zset1 i v lc) : q ∈ (i, v) :: lc.filter (fun q => !(q.1 == i) && !(q.1 + 1 == i && q.2.category == 2)) := by
  rcases List.mem_append.mp h with h | h
  · have h1 := List.mem_filter.mp h
    have h2 := h1.2
    simp only [Bool.and_eq_true, decide_eq_true_eq] at h2
    refine List.mem_cons_of_mem _ (List.mem_filter.mpr ⟨h1.1, ?_⟩)
    rw [Bool.and_eq_true]
    refine ⟨?_, h2.2⟩
    simp only [Bool.not_eq_true', beq_eq_false_iff_ne]
    omega
  · rcases List.mem_cons.mp h with h | h
    · rw [h]; exact List.mem_cons_self
    · have h1 := List.mem_filter.mp h
      have h2 := h1.2
      simp only [decide_eq_true_eq] at h2
      refine List.mem_cons_of_mem _ (List.mem_filter.mpr ⟨h1.1, ?_⟩)
      simp only [Bool.and_eq_true, Bool.not_eq_true', beq_eq_false_iff_ne, Bool.and_eq_false_iff]
      exact ⟨by omega, Or.inl (by omega)⟩
theorem zset2_mem {i : Nat} {v : Value} {lc : List (Nat × Value)} {q : Nat × Value} (h : q ∈ zset2 i v lc) : q ∈ (i, v) :: lc.filter (fun q => !(q.1 == i) && (!(q.1 == i + 1) && !(q.1 + 1 == i && q.2.category == 2))) := by
  rcases List.mem_append.mp h with h | h
  · have h1 := List.mem_filter.mp h
    have h2 := h1.2
    simp only [Bool.and_eq_true, decide_eq_true_eq] at h2
    refine List.mem_cons_of_mem _ (List.mem_filter.mpr ⟨h1.1, ?_⟩)
    rw [Bool.and_eq_true, Bool.and_eq_true]
    refine ⟨?_, ?_, h2.2⟩
    · simp only [Bool.not_eq_true', beq_eq_false_iff_ne]
      omega
    · simp only [Bool.not_eq_true', beq_eq_false_iff_ne]
      omega
  · rcases List.mem_cons.mp h with h | h
    · rw [h]; exact List.mem_cons_self
    · have h1 := List.mem_filter.mp h
      have h2 := h1.2
      simp only [decide_eq_true_eq] at h2
      refine List.mem_cons_of_mem _ (List.mem_filter.mpr ⟨h1.1, ?_⟩)
      simp only [Bool.and_eq_true, Bool.not_eq_true', beq_eq_false_iff_ne, Bool.and_eq_false_iff]
      exact ⟨by omega, by omega, Or.inl (by omega)⟩
theorem zset1_map (r : Nat → Nat) (i : Nat) (v : Value) (lc : List (Nat × Value)) : (zset1 i v lc).map (fun q => (q.1, zv r q.2)) = zset1 i (zv r v) (lc.map fun q => (q.1, zv r q.2)) := by
  unfold zset1
  rw [List.map_append, List.map_cons, List.filter_map, List.filter_map]
  simp only [Function.comp_def, zv_cat]
theorem zset2_map (r : Nat → Nat) (i : Nat) (v : Value) (lc : List (Nat × Value)) : (zset2 i v lc).map (fun q => (q.1, zv r q.2)) = zset2 i (zv r v) (lc.map fun q => (q.1, zv r q.2)) := by
  unfold zset2
  rw [List.map_append, List.map_cons, List.filter_map, List.filter_map]
  simp only [Function.comp_def, zv_cat]
theorem zset1_ok {n i : Nat} {v : Value} {lc : List (Nat × Value)} (hv : zok n v) (h : ∀ q ∈ lc, zok n q.2) : ∀ q ∈ zset1 i v lc, zok n q.2 := by
  intro q hq
  rcases List.mem_cons.mp (zset1_mem hq) with e | e
  · rw [e]; exact hv
  · exact h q (List.mem_filter.mp e).1
theorem zset2_ok {n i : Nat} {v : Value} {lc : List (Nat × Value)} (hv : zok n v) (h : ∀ q ∈ lc, zok n q.2) : ∀ q ∈ zset2 i v lc, zok n q.2 := by
  intro q hq
  rcases List.mem_cons.mp (zset2_mem hq) with e | e
  · rw [e]; exact hv
  · exact h q (List.mem_filter.mp e).1
theorem z_sto1 {F : zF} {nL : Nat} {cc : ByteArray} {own nm : String} {ret : Option FieldType} {hh : List (Nat × Nat × Nat × Nat)} {h : zH} {pc : Nat} {lc : List (Nat × Value)} {st : List Value} {pc' i : Nat} {v : Value} {lc' : List (Nat × Value)} {st1 : List Value} (hlc : zset1 i v lc = lc') (hs : st1 = v :: st ∨ (st1 = st ∧ ∀ n, zok n v)) (k : Z F nL cc own nm ret hh h pc' lc' st)
    (hw : ∀ K : zK, zCx K nL cc own nm ret hh → ∀ (r : Nat → Nat) (H : Heap) (locs : List Loc) (ls : Array Slot), lv_has ls nL (lc.map fun q => (q.1, zv r q.2)) → (∀ ls' : Array Slot, lv_has ls' nL ((i, zv r v) :: (lc.map fun q => (q.1, zv r q.2)).filter (fun q => !(q.1 == i) && !(q.1 + 1 == i && q.2.category == 2))) → zWp F K h H locs ls' pc' (st.map (zv r))) → zWp F K h H locs ls pc (st1.map (zv r))) : Z F nL cc own nm ret hh h pc lc st1 := by
  refine ⟨k.1, fun K hC r H locs ls hz => ?_⟩
  have hk := k.2 K hC r H locs
  have hw := hw K hC r H locs ls
  clear k hC
  obtain ⟨l, d, h0, x⟩ := F
  obtain ⟨p, e, s, m, args, below, meth, c, D, bs, r0⟩ := K
  obtain ⟨z1, z2, z3, z4, z5, z6, z7⟩ := hz
  have hv : zok (zn h) v := by
    rcases hs with e | e
    · rw [e] at z6; exact z6 v List.mem_cons_self
    · exact e.2 _
  have hst : ∀ v ∈ st, zok (zn h) v := by
    rcases hs with e | e
    · rw [e] at z6; exact fun v hv => z6 v (List.mem_cons_of_mem _ hv)
    · rw [e.1] at z6; exact z6
  refine hw z7 (fun ls' hl => hk ls' ⟨z1, z2, z3, z4, ?_, hst, ?_⟩)
  · rw [← hlc]; exact zset1_ok hv z5
  · rw [← hlc, zset1_map]
    exact ⟨hl.1, hl.2.1, fun q hq => hl.2.2 q (zset1_mem hq)⟩
theorem z_sto2 {F : zF} {nL : Nat} {cc : ByteArray} {own nm : String} {ret : Option FieldType} {hh : List (Nat × Nat × Nat × Nat)} {h : zH} {pc : Nat} {lc : List (Nat × Value)} {st : List Value} {pc' i : Nat} {v : Value} {lc' : List (Nat × Value)} {st1 : List Value} (hlc : zset2 i v lc = lc') (hs : st1 = v :: st ∨ (st1 = st ∧ ∀ n, zok n v)) (k : Z F nL cc own nm ret hh h pc' lc' st)
    (hw : ∀ K : zK, zCx K nL cc own nm ret hh → ∀ (r : Nat → Nat) (H : Heap) (locs : List Loc) (ls : Array Slot), lv_has ls nL (lc.map fun q => (q.1, zv r q.2)) → (∀ ls' : Array Slot, lv_has ls' nL ((i, zv r v) :: (lc.map fun q => (q.1, zv r q.2)).filter (fun q => !(q.1 == i) && (!(q.1 == i + 1) && !(q.1 + 1 == i && q.2.category == 2)))) → zWp F K h H locs ls' pc' (st.map (zv r))) → zWp F K h H locs ls pc (st1.map (zv r))) : Z F nL cc own nm ret hh h pc lc st1 := by
  refine ⟨k.1, fun K hC r H locs ls hz => ?_⟩
  have hk := k.2 K hC r H locs
  have hw := hw K hC r H locs ls
  clear k hC
  obtain ⟨l, d, h0, x⟩ := F
  obtain ⟨p, e, s, m, args, below, meth, c, D, bs, r0⟩ := K
  obtain ⟨z1, z2, z3, z4, z5, z6, z7⟩ := hz
  have hv : zok (zn h) v := by
    rcases hs with e | e
    · rw [e] at z6; exact z6 v List.mem_cons_self
    · exact e.2 _
  have hst : ∀ v ∈ st, zok (zn h) v := by
    rcases hs with e | e
    · rw [e] at z6; exact fun v hv => z6 v (List.mem_cons_of_mem _ hv)
    · rw [e.1] at z6; exact z6
  refine hw z7 (fun ls' hl => hk ls' ⟨z1, z2, z3, z4, ?_, hst, ?_⟩)
  · rw [← hlc]; exact zset2_ok hv z5
  · rw [← hlc, zset2_map]
    exact ⟨hl.1, hl.2.1, fun q hq => hl.2.2 q (zset2_mem hq)⟩
theorem z_istore_n {F : zF} {nL : Nat} {cc : ByteArray} {own nm : String} {ret : Option FieldType} {hh : List (Nat × Nat × Nat × Nat)} {h : zH} {pc : Nat} {lc : List (Nat × Value)} {st : List Value} {k' : Fin 4} {i : Nat} {x : Int32} {lc' : List (Nat × Value)} (hd : decode cc pc = .ok (.istore_n k', 1)) (hi : (k' : Nat) = i) (hn : i < nL) (hlc : zset1 i (.int x) lc = lc') (k : Z F nL cc own nm ret hh h (pc + 1) lc' st) : Z F nL cc own nm ret hh h pc lc (.int x :: st) :=
  z_sto1 hlc (Or.inl rfl) k (fun K hC r H locs ls hl w => by obtain ⟨l, d, h0, x0⟩ := F; obtain ⟨p, e, s, m, args, below, meth, c, D, bs, r0⟩ := K; exact lv_istore_n hC.1 hC.2.1 hd hi hl hn rfl w)
theorem z_istore {F : zF} {nL : Nat} {cc : ByteArray} {own nm : String} {ret : Option FieldType} {hh : List (Nat × Nat × Nat × Nat)} {h : zH} {pc : Nat} {lc : List (Nat × Value)} {st : List Value} {i : Nat} {x : Int32} {lc' : List (Nat × Value)} (hd : decode cc pc = .ok (.istore i, 2)) (hn : i < nL) (hlc : zset1 i (.int x) lc = lc') (k : Z F nL cc own nm ret hh h (pc + 2) lc' st) : Z F nL cc own nm ret hh h pc lc (.int x :: st) :=
  z_sto1 hlc (Or.inl rfl) k (fun K hC r H locs ls hl w => by obtain ⟨l, d, h0, x0⟩ := F; obtain ⟨p, e, s, m, args, below, meth, c, D, bs, r0⟩ := K; exact lv_istore hC.1 hC.2.1 hd hl hn rfl w)
theorem z_lstore_n {F : zF} {nL : Nat} {cc : ByteArray} {own nm : String} {ret : Option FieldType} {hh : List (Nat × Nat × Nat × Nat)} {h : zH} {pc : Nat} {lc : List (Nat × Value)} {st : List Value} {k' : Fin 4} {i : Nat} {x : Int64} {lc' : List (Nat × Value)} (hd : decode cc pc = .ok (.lstore_n k', 1)) (hi : (k' : Nat) = i) (hn : i + 1 < nL) (hlc : zset2 i (.long x) lc = lc') (k : Z F nL cc own nm ret hh h (pc + 1) lc' st) : Z F nL cc own nm ret hh h pc lc (.long x :: st) :=
  z_sto2 hlc (Or.inl rfl) k (fun K hC r H locs ls hl w => by obtain ⟨l, d, h0, x0⟩ := F; obtain ⟨p, e, s, m, args, below, meth, c, D, bs, r0⟩ := K; exact lv_lstore_n hC.1 hC.2.1 hd hi hl hn rfl w)
theorem z_lstore {F : zF} {nL : Nat} {cc : ByteArray} {own nm : String} {ret : Option FieldType} {hh : List (Nat × Nat × Nat × Nat)} {h : zH} {pc : Nat} {lc : List (Nat × Value)} {st : List Value} {i : Nat} {x : Int64} {lc' : List (Nat × Value)} (hd : decode cc pc = .ok (.lstore i, 2)) (hn : i + 1 < nL) (hlc : zset2 i (.long x) lc = lc') (k : Z F nL cc own nm ret hh h (pc + 2) lc' st) : Z F nL cc own nm ret hh h pc lc (.long x :: st) :=
  z_sto2 hlc (Or.inl rfl) k (fun K hC r H locs ls hl w => by obtain ⟨l, d, h0, x0⟩ := F; obtain ⟨p, e, s, m, args, below, meth, c, D, bs, r0⟩ := K; exact lv_lstore hC.1 hC.2.1 hd hl hn rfl w)
theorem z_astore_n {F : zF} {nL : Nat} {cc : ByteArray} {own nm : String} {ret : Option FieldType} {hh : List (Nat × Nat × Nat × Nat)} {h : zH} {pc : Nat} {lc : List (Nat × Value)} {st : List Value} {k' : Fin 4} {i : Nat} {x : Nat} {lc' : List (Nat × Value)} (hd : decode cc pc = .ok (.astore_n k', 1)) (hi : (k' : Nat) = i) (hn : i < nL) (hlc : zset1 i (.ref x) lc = lc') (k : Z F nL cc own nm ret hh h (pc + 1) lc' st) : Z F nL cc own nm ret hh h pc lc (.ref x :: st) :=
  z_sto1 hlc (Or.inl rfl) k (fun K hC r H locs ls hl w => by obtain ⟨l, d, h0, x0⟩ := F; obtain ⟨p, e, s, m, args, below, meth, c, D, bs, r0⟩ := K; exact lv_astore_n hC.1 hC.2.1 hd hi hl hn rfl w)
theorem z_astore {F : zF} {nL : Nat} {cc : ByteArray} {own nm : String} {ret : Option FieldType} {hh : List (Nat × Nat × Nat × Nat)} {h : zH} {pc : Nat} {lc : List (Nat × Value)} {st : List Value} {i : Nat} {x : Nat} {lc' : List (Nat × Value)} (hd : decode cc pc = .ok (.astore i, 2)) (hn : i < nL) (hlc : zset1 i (.ref x) lc = lc') (k : Z F nL cc own nm ret hh h (pc + 2) lc' st) : Z F nL cc own nm ret hh h pc lc (.ref x :: st) :=
  z_sto1 hlc (Or.inl rfl) k (fun K hC r H locs ls hl w => by obtain ⟨l, d, h0, x0⟩ := F; obtain ⟨p, e, s, m, args, below, meth, c, D, bs, r0⟩ := K; exact lv_astore hC.1 hC.2.1 hd hl hn rfl w)
theorem z_astoreq {F : zF} {nL : Nat} {cc : ByteArray} {own nm : String} {ret : Option FieldType} {hh : List (Nat × Nat × Nat × Nat)} {h : zH} {pc : Nat} {lc : List (Nat × Value)} {st : List Value} {i : Nat} {x : Option Nat} {lc' : List (Nat × Value)} (hd : decode cc pc = .ok (.astore i, 2)) (hn : i < nL) (hlc : zset1 i (va_rf x) lc = lc') (k : Z F nL cc own nm ret hh h (pc + 2) lc' st) : Z F nL cc own nm ret hh h pc lc (va_rf x :: st) :=
  z_sto1 hlc (Or.inl rfl) k (fun K hC r H locs ls hl w => by obtain ⟨l, d, h0, x0⟩ := F; obtain ⟨p, e, s, m, args, below, meth, c, D, bs, r0⟩ := K; cases x with
    | none => exact lv_astoreN hC.1 hC.2.1 hd hl hn rfl w
    | some a => exact lv_astore hC.1 hC.2.1 hd hl hn rfl w)
theorem z_astore_nq {F : zF} {nL : Nat} {cc : ByteArray} {own nm : String} {ret : Option FieldType} {hh : List (Nat × Nat × Nat × Nat)} {h : zH} {pc : Nat} {lc : List (Nat × Value)} {st : List Value} {k' : Fin 4} {i : Nat} {x : Option Nat} {lc' : List (Nat × Value)} (hd : decode cc pc = .ok (.astore_n k', 1)) (hi : (k' : Nat) = i) (hn : i < nL) (hlc : zset1 i (va_rf x) lc = lc') (k : Z F nL cc own nm ret hh h (pc + 1) lc' st) : Z F nL cc own nm ret hh h pc lc (va_rf x :: st) :=
  z_sto1 hlc (Or.inl rfl) k (fun K hC r H locs ls hl w => by obtain ⟨l, d, h0, x0⟩ := F; obtain ⟨p, e, s, m, args, below, meth, c, D, bs, r0⟩ := K; cases x with
    | none => exact lv_astore_nN hC.1 hC.2.1 hd hi hl hn rfl w
    | some a => exact lv_astore_n hC.1 hC.2.1 hd hi hl hn rfl w)
theorem z_iinc {F : zF} {nL : Nat} {cc : ByteArray} {own nm : String} {ret : Option FieldType} {hh : List (Nat × Nat × Nat × Nat)} {h : zH} {pc : Nat} {lc : List (Nat × Value)} {st : List Value} (j : Nat) {i : Nat} {n : Int} {x : Int32} (v : Int32) {lc' : List (Nat × Value)} (hd : decode cc pc = .ok (.iinc i n, 3)) (hj : lc[j]? = some (i, .int x)) (hv : x + Int32.ofInt n = v) (hn : i < nL) (hlc : zset1 i (.int v) lc = lc') (k : Z F nL cc own nm ret hh h (pc + 3) lc' st) : Z F nL cc own nm ret hh h pc lc st :=
  z_sto1 hlc (Or.inr ⟨rfl, fun n => zok_int n v⟩) k (fun K hC r H locs ls hl w => by obtain ⟨l, d, h0, x0⟩ := F; obtain ⟨p, e, s, m, args, below, meth, c, D, bs, r0⟩ := K; exact lv_iinc (k := j) (x := x) hC.1 hC.2.1 hd hl (by rw [List.getElem?_map, hj]; rfl) hv hn rfl w)
theorem z_lc {F : zF} {nL : Nat} {cc : ByteArray} {own nm : String} {ret : Option FieldType} {hh : List (Nat × Nat × Nat × Nat)} {h : zH} {pc : Nat} {lc : List (Nat × Value)} {st : List Value} {lc' : List (Nat × Value)} (hs : ∀ q ∈ lc', q ∈ lc) (k : Z F nL cc own nm ret hh h pc lc' st) : Z F nL cc own nm ret hh h pc lc st := by
  refine ⟨k.1, fun K hC r H locs ls hz => k.2 K hC r H locs ls ?_⟩
  clear k hC
  obtain ⟨l, d, h0, x⟩ := F
  obtain ⟨p, e, s, m, args, below, meth, c, D, bs, r0⟩ := K
  obtain ⟨z1, z2, z3, z4, z5, z6, z7⟩ := hz
  refine ⟨z1, z2, z3, z4, fun q hq => z5 q (hs q hq), z6, z7.1, z7.2.1, fun q hq => z7.2.2 q ?_⟩
  obtain ⟨q', h1, h2⟩ := List.mem_map.mp hq
  exact List.mem_map.mpr ⟨q', hs q' h1, h2⟩
theorem z_sub {F : zF} {nL : Nat} {cc : ByteArray} {own nm : String} {ret : Option FieldType} {hh : List (Nat × Nat × Nat × Nat)} {h : zH} {pc : Nat} {lc : List (Nat × Value)} {st : List Value} (ks : List Nat) {lc' : List (Nat × Value)} (hl : lv_pick lc ks = lc') (k : Z F nL cc own nm ret hh h pc lc' st) : Z F nL cc own nm ret hh h pc lc st :=
  z_lc (fun q hq => by rw [← hl] at hq; obtain ⟨k, -, hk⟩ := List.mem_filterMap.mp hq; exact List.mem_of_getElem? hk) k
