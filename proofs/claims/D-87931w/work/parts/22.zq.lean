/-! the machine's own exceptions with a message, in a launch without traces: made, and thrown in the method's own frame -/
section ZVM
variable {p : Program} {l : Launch} {e : Env} {R : Room} {s : State} {m₀ : MethodId} {args : Array Value} {below : List Frame} {meth : Method} {c : Code} {S : State} {locs : List Loc} {cells slots : Nat}
theorem zvmMsg (X : Stand p l e R s m₀ args below meth c S locs cells slots) (hexec : p.tables.exec = Jvm.exec) (htr : e.platform.stackTraces = false) {cls : String} {names : List String} {text : String}
    (hcls : Bundle.fit cls = true) (hnames : ∀ n ∈ names, Bundle.fit n = true) (hsoe : (cls == "java/lang/StackOverflowError") = false) (hoom : (cls == "java/lang/OutOfMemoryError") = false)
    (h : ∀ a ∈ Bundle.messageArmAtoms cls names, a.before args s = true) (hsa : ∀ (cT : ClassId) (k : Class) (aS : Addr), s.vm.findClass "java/lang/Throwable" = some cT → s.vm.classes[cT]? = some k → k.statics = some aS → ∀ i, (⟨aS, i⟩ : Loc) ∉ locs)
    (htext : (text == notModelled) = false) (hlimit : ¬ (stringBytes (stringToUtf16 text)).size > e.platform.arrayLengthLimit) (hheap : ¬ (stringBytes (stringToUtf16 text)).size * componentBytes .byte > e.platform.maxHeapBytes)
    {g : JFrame} (hg : g.method = m₀) (hsize : g.locals.size = c.maxLocals)
    (hRframes : names.length + 4 < R.frames) (hRlocals : 2 * g.monitorRoom + (g.stack.map fun v => v.category).sum + 10240 ≤ R.locals) (hshort : 13 * names.length + 55 ≤ 10240)
    (hRcells : cells + 3 ≤ R.cells) (hRslots : slots + ((stringBytes (stringToUtf16 text)).size + 4 + 6) ≤ R.slots) :
    ∃ (U : State) (locs' : List Loc) (cX : ClassId) (ce : Cell), Stand p l e R s m₀ args below meth c U locs' (cells + 3) (slots + ((stringBytes (stringToUtf16 text)).size + 4 + 6)) ∧ (∀ y ∈ locs', y ∈ locs ∨ y.base = S.heap.size + 2) ∧
      Steps p.tables e below ((S.setTop g).pushFrame (.throwNew cls (some text) none)) ((U.setTop g).pushFrame (.throwing (S.heap.size + 2))) ∧
      U.heap.size = S.heap.size + 3 ∧ (∀ a0, a0 < S.heap.size → U.heap[a0]? = S.heap[a0]?) ∧ s.vm.findClass cls = some cX ∧ U.heap[S.heap.size + 2]? = some ce ∧ ce.cls = cX ∧ ce.vm = .none := by
  have howns : e.platform.frameOwnsMonitors = true := by rw [X.admits.platform]
  have hfin : e.platform.finalization = false := by rw [X.admits.platform]
  have hpl : e.platform.magicAccessors = ({} : Platform).magicAccessors := by rw [X.admits.platform]
  have a : ∀ x, x ∈ Bundle.messageArmAtoms cls names → x.holds args s none s [] = true := fun x hx => h x hx
  obtain ⟨T, Z0, L, -, Y⟩ := ThrowableC.of_atoms (args := args) howns hfin hpl (fun x hx => h x (by simp [Bundle.messageArmAtoms, hx]))
  obtain ⟨Z, M, LZ, LM, hnZ⟩ := Init0T.ofS_atoms (args := args) hpl L Y (fun x hx => h x (by simp [Bundle.messageArmAtoms, hx]))
  obtain ⟨P1, Ps, hlen, L1, hL, hP1m, hlink1, hlink⟩ := Bundle.chainS (args := args) hpl hnZ names cls hcls hnames (fun x hx => h x (by simp [Bundle.messageArmAtoms, hx]))
  obtain ⟨Zs, LZs, hn4, hfitv, hfitc⟩ := StringT.of_atoms (args := args) (fun x hx => h x (by simp [Bundle.messageArmAtoms, hx]))
  have hfound : s.vm.findClass cls = some P1.m.cls := findClass_of_methodNamed hP1m
  obtain ⟨c1, kX, hc1, hk, hord, -, -, hn6⟩ := Cond.instantiable_spec (a (.instantiable cls 6) (by simp [Bundle.messageArmAtoms]))
  cases Option.some.inj (hc1.symm.trans hfound)
  have hinit := Cond.initialized_spec hfound hk (a (.initialized cls) (by simp [Bundle.messageArmAtoms]))
  have hctor : kX.findMethod "<init>" "(Ljava/lang/String;)V" = some P1.m.idx := findMethod_of_methodNamed hP1m hk
  have hsel : ∀ x : MethodName, ∀ mx : MethodId, s.methodNamed? x = some mx → Cond.selects cls x x ∈ Bundle.messageArmAtoms cls names → x.cls ≠ cls ∨ True → (∀ c0 i0, s.methodFound? x.cls x.name x.desc = some (⟨c0, i0⟩ : MethodId) → (⟨c0, i0⟩ : MethodId) = mx) → selectMethod e.platform s.vm P1.m.cls mx = .method mx := by
    intro x mx hn hm _ hsame
    obtain ⟨c2, r2, m2, q1, q2, q3, q4, -⟩ := Cond.selects_spec (a _ hm)
    cases Option.some.inj (q1.symm.trans hfound)
    have e2 : r2 = mx := hsame r2.cls r2.idx q2
    cases Option.some.inj (q3.symm.trans hn)
    rw [Launch.admits_selectMethod X.admits, ← e2]
    rw [e2] at q4 ⊢
    exact q4
  have hsel0 := hsel Bundle.tFill0 T.fill0 Y.fill0 (by simp [Bundle.messageArmAtoms]) (Or.inr trivial) (fun c0 i0 hx => Option.some.inj (hx.symm.trans (State.methodFound?_of_named Y.fill0 (by decide))))
  have hselF := hsel Bundle.tFill T.fill Y.fill (by simp [Bundle.messageArmAtoms]) (Or.inr trivial) (fun c0 i0 hx => Option.some.inj (hx.symm.trans (State.methodFound?_of_named Y.fill (by decide))))
  obtain ⟨cellS0, hcS0, hiss⟩ := Y.statics
  obtain ⟨u0, hu0⟩ := Cond.staticRefV Y.unassigned L.unassignedStatic L.statics hcS0 hiss (a (.isRef (.static Bundle.tN "UNASSIGNED_STACK" Bundle.steD)) (by simp [Bundle.messageArmAtoms]))
  obtain ⟨sen, hsen⟩ := Cond.staticRefV Y.sentinel L.sentinelStatic L.statics hcS0 hiss (a (.isRef (.static Bundle.tN "SUPPRESSED_SENTINEL" Bundle.listD)) (by simp [Bundle.messageArmAtoms]))
  obtain ⟨ci198, i198, fB, hk198, hg198, ha198, hsB, -, hnB, htB, hffB⟩ := Cond.ownField (t := .object "java/lang/Object") Y.found L.cls (by decide +kernel) (a (.fieldLink Bundle.tN 198 Bundle.tN "backtrace" "Ljava/lang/Object;") (by simp [Bundle.messageArmAtoms])) (a (.lays Bundle.tN Bundle.tN "backtrace" "Ljava/lang/Object;") (by simp [Bundle.messageArmAtoms])) e.platform hpl
  obtain ⟨cellS, hcS', heS, -, hkeep⟩ := X.same.2.2.2.2.2 T.aS cellS0 hcS0
  have hcellS : S.heap[T.aS]? = some cellS := hcS'
  have hout' : ∀ i, (⟨T.aS, i⟩ : Loc) ∉ locs := hsa _ _ _ Y.found L.cls L.statics
  have hknownS : cellS.vm ≠ .unknown := by
    rw [heS]; intro hu
    rw [show cellS0.vm = .unknown from hu] at hiss
    cases hiss
  have hvU : cellS.slots[T.fUnassigned.slot]? = some u0.v := by rw [hkeep _ (hout' _)]; exact hu0
  have hvSen : cellS.slots[T.fSentinel.slot]? = some sen.v := by rw [hkeep _ (hout' _)]; exact hsen
  obtain ⟨iM, hffM⟩ := Y.msg
  obtain ⟨tyC, dC, hdC, hdnC⟩ := Cond.laysAt hfound hk Y.cause (a (.lays cls Bundle.tN "cause" "Ljava/lang/Throwable;") (by simp [Bundle.messageArmAtoms]))
  obtain ⟨tyS, dS, hdS, hdnS⟩ := Cond.laysAt hfound hk Y.stack (a (.lays cls Bundle.tN "stackTrace" Bundle.steD) (by simp [Bundle.messageArmAtoms]))
  obtain ⟨tyP, dP, hdP, hdnP⟩ := Cond.laysAt hfound hk Y.supp (a (.lays cls Bundle.tN "suppressedExceptions" Bundle.listD) (by simp [Bundle.messageArmAtoms]))
  obtain ⟨tyM, dM, hdM, hdnM⟩ := Cond.laysAt hfound hk hffM (a (.lays cls Bundle.tN "detailMessage" "Ljava/lang/String;") (by simp [Bundle.messageArmAtoms]))
  obtain ⟨tyB, dB, hdB, hdnB⟩ := Cond.laysAt hfound hk hffB (a (.lays cls Bundle.tN "backtrace" "Ljava/lang/Object;") (by simp [Bundle.messageArmAtoms]))
  have bC := Cond.laysApart hdB hdC hdnB hdnC (by rw [hnB, Y.causeName]; decide)
  have bS := Cond.laysApart hdB hdS hdnB hdnS (by rw [hnB, Y.stackName]; decide)
  have bP := Cond.laysApart hdB hdP hdnB hdnP (by rw [hnB, Y.suppName]; decide)
  have hbk : ((preparedCellV T.toThrowableT (freshCell P1.m.cls kX) (S.heap.size + 2) u0 sen).withEntry S.cur).slots[fB.slot]? = some .null := by
    have := fresh_default (c := P1.m.cls) tyB
    rw [htB] at this
    simpa [preparedCellV, Cell.setSlot, Cell.withEntry, Array.getElem?_setIfInBounds, bC, bS, bP, bC.symm, bS.symm, bP.symm, defaultValue] using this
  have tkC := Takes.of_laid (v := .ref (S.heap.size + 2)) hk hord tyC (by rw [Y.causeType]; rfl)
  have tkS := Takes.of_laid (v := u0.v) hk hord tyS (by rw [Y.stackType]; exact fits_refV_array _ u0)
  have tkP := Takes.of_laid (v := sen.v) hk hord tyP (by rw [Y.suppType]; exact fits_refV_object _ sen)
  have tkM := Takes.of_laid (v := .ref (S.heap.size + 1)) hk hord tyM (by rw [Y.msgType]; rfl)
  have hA : At S g.method c below := by rw [hg]; exact X.here
  obtain ⟨hbeyond, hfreeW⟩ := X.vmMayThrow hsize (.throwNew cls (some text) none) (fun f hf => by cases hf) rfl hRlocals
  have hfr' : S.frames.length + Ps.length + 4 < (e.platform.stackLimits S.me).1 := by have := X.framesAbove hRframes; rw [hlen]; omega
  have hwd' : (stackUse (.java g :: S.frames.tail)).2 + 13 * Ps.length + 55 ≤ (e.platform.stackLimits S.me).2 := by have := X.stackAbove hsize (K := 13 * Ps.length + 55) (by rw [hlen]; omega); omega
  have hslots : S.slotsUsed + (stringBytes (stringToUtf16 text)).size + Zs.kS.instanceTypes.size + kX.instanceTypes.size ≤ e.platform.maxSlots := by have := X.slotsAbove hRslots; rw [hn4, hn6]; omega
  obtain ⟨vm', hW', st⟩ := Steps.vmThrowsMessageColdByV p (s₀ := s) (S := S) (g := g) hA hexec T L Z LZ M LM X.warmed (t := S.cur) rfl Zs LZs P1 L1 Ps hL hlink1 hlink hsoe hoom hfound hk hinit hord hctor
    (Launch.admits_hotImplicitExceptions X.admits) hbeyond hfreeW htext hlimit hheap (X.cellsAbove hRcells) hslots (hfitv _) (hfitc _)
    (Nn := fun u => u) heapOnly_id (fun _ _ => rfl) (fun _ => rfl) (fun u x y => setCell_twice _ _ _ _) (fun _ => Nat.le_refl _) (cN := ((preparedCellV T.toThrowableT (freshCell P1.m.cls kX) (S.heap.size + 2) u0 sen).withEntry S.cur))
    hsel0 hcellS hknownS hvU tkS (fun _ hu => hu) (fun _ hu => hu) rfl rfl rfl (by simp [preparedCellV, Cell.setSlot, Cell.withEntry]) ⟨{ ci198 := ci198, i198 := i198, fBack := fB }, ⟨hk198, hg198, ha198, hsB⟩, hbk, fun _ _ => rfl⟩ (fun _ _ hA hW _ hroom _ hrest => L.nativeOff p htr hA hW hroom hrest) hselF hvSen tkC tkP tkM Y.objLocals rfl hfr' hwd'
  rw [plainBareV_eq T.toThrowableT (S.heap.size + 2) u0 sen (.ref (S.heap.size + 1)) S.cur rfl rfl] at st
  obtain ⟨-, -, w3, w4, w5, -, -⟩ := withThrown_facts e.platform S Zs text P1.m.cls kX
  have X3 := ((X.pushed (bytesOf Zs.cB (stringToUtf16 text))).pushed (stringAt Zs.cS Zs.kS Zs.fv Zs.fc (stringToUtf16 text) S.heap.size)).pushed (freshCell P1.m.cls kX)
  rw [← withString_eq] at X3
  have X4 := X3.noted hW'
  have ha : (S.heap.size + 2) < ((withThrown S Zs text P1.m.cls kX).setVm vm').heap.size := by show _ < (withThrown S Zs text P1.m.cls kX).heap.size; rw [w3]; omega
  have hcell : ((withThrown S Zs text P1.m.cls kX).setVm vm').heap[(S.heap.size + 2)]? = some (freshCell P1.m.cls kX) := w4
  have X5 := ((((X4.stored hcell T.fCause.slot (.ref (S.heap.size + 2))).storedAgain ha T.fStack.slot u0.v).storedAgain ha T.fSupp.slot sen.v).storedAgain ha T.fStack.slot u0.v).storedAgain ha T.fMsg.slot (.ref (S.heap.size + 1))
  have b1 : (bytesOf Zs.cB (stringToUtf16 text)).slots.size = (stringBytes (stringToUtf16 text)).size := by
    rw [(Cell.writeAll_facts _ _).2.2]; simp [bytes0]
  have b2 : (stringAt Zs.cS Zs.kS Zs.fv Zs.fc (stringToUtf16 text) S.heap.size).slots.size = 4 := by simp [string0, Cell.setSlot, hn4]
  have b3 : (freshCell P1.m.cls kX).slots.size = 6 := by simp [hn6]
  rw [b1, b2, b3, show slots + (stringBytes (stringToUtf16 text)).size + 4 + 6 = slots + ((stringBytes (stringToUtf16 text)).size + 4 + 6) by omega] at X5
  obtain ⟨g₁, hfrM⟩ := X5.frames_eq
  have hU : ((((withThrown S Zs text P1.m.cls kX).setVm vm').setCell (S.heap.size + 2) (plainBareV T.toThrowableT (freshCell P1.m.cls kX) (S.heap.size + 2) u0 sen (.ref (S.heap.size + 1)))).setTop g).pushFrame (.throwing (S.heap.size + 2)) = (((withThrown S Zs text P1.m.cls kX).setVm vm').setCell (S.heap.size + 2) (plainBareV T.toThrowableT (freshCell P1.m.cls kX) (S.heap.size + 2) u0 sen (.ref (S.heap.size + 1)))).setFrames (.throwing (S.heap.size + 2) :: .java g :: below) := by
    rw [State.pushFrame, State.frames_setTop _ hfrM, State.setTop_of_frames _ hfrM, State.setFrames_setFrames]
  rw [X.tail] at st
  refine ⟨_, _, P1.m.cls, _, X5, fun y hy => ?_, st _ ?_, ?_, fun a0 h0 => ?_, hfound, heapAt_setCell_self _ ha, rfl, rfl⟩
  · simp only [List.append_assoc, List.cons_append, List.nil_append] at hy
    rcases List.mem_append.mp hy with h1 | h1
    · exact Or.inl h1
    · refine Or.inr ?_
      simp only [List.mem_cons, List.not_mem_nil, or_false] at h1
      rcases h1 with rfl | rfl | rfl | rfl | rfl <;> rfl
  · rw [← hU]
    exact Steps.refl _
  · rw [size_setCell]
    show (withThrown S Zs text P1.m.cls kX).heap.size = _
    rw [w3]
  · rw [State.heap_setCell_other (by omega : S.heap.size + 2 ≠ a0)]
    exact w5 a0 h0
end ZVM
section ZVN
variable {p : Program} {l : Launch} {e : Env} {R : Room} {s : State} {m₀ : MethodId} {args : Array Value} {below : List Frame} {meth : Method} {c : Code} {S : State} {locs : List Loc} {cells slots n : Nat}
theorem zvmNpe (X : Stand p l e R s m₀ args below meth c S locs cells slots) (hexec : p.tables.exec = Jvm.exec) (htr : e.platform.stackTraces = false)
    (h : ∀ a ∈ Bundle.npeArmAtoms n, a.before args s = true) (hsa : ∀ (cT : ClassId) (k : Class) (aS : Addr), s.vm.findClass "java/lang/Throwable" = some cT → s.vm.classes[cT]? = some k → k.statics = some aS → ∀ i, (⟨aS, i⟩ : Loc) ∉ locs)
    {g : JFrame} (hg : g.method = m₀) (hsize : g.locals.size = c.maxLocals)
    (hRframes : 7 < R.frames) (hRlocals : 2 * g.monitorRoom + (g.stack.map fun v => v.category).sum + 10240 ≤ R.locals)
    (hRcells : cells + 1 ≤ R.cells) (hRslots : slots + n ≤ R.slots) :
    ∃ (U : State) (locs' : List Loc) (cX : ClassId) (ce : Cell), Stand p l e R s m₀ args below meth c U locs' (cells + 1) (slots + n) ∧ (∀ y ∈ locs', y ∈ locs ∨ y.base = S.heap.size) ∧
      Steps p.tables e below ((S.setTop g).pushFrame (.throwNew "java/lang/NullPointerException" none none)) ((U.setTop g).pushFrame (.throwing S.heap.size)) ∧
      U.heap.size = S.heap.size + 1 ∧ (∀ a0, a0 < S.heap.size → U.heap[a0]? = S.heap[a0]?) ∧ s.vm.findClass "java/lang/NullPointerException" = some cX ∧ U.heap[S.heap.size]? = some ce ∧ ce.cls = cX ∧ ce.vm = .none := by
  have howns : e.platform.frameOwnsMonitors = true := by rw [X.admits.platform]
  have hfin : e.platform.finalization = false := by rw [X.admits.platform]
  have hpl : e.platform.magicAccessors = ({} : Platform).magicAccessors := by rw [X.admits.platform]
  have hpl2 : e.platform.arrayCloneIsPublic = true := by rw [X.admits.platform]
  have a : ∀ x, x ∈ Bundle.npeArmAtoms n → x.holds args s none s [] = true := fun x hx => h x hx
  obtain ⟨T, Z, L, LZ, Y⟩ := ThrowableC.of_atoms (args := args) howns hfin hpl (fun x hx => h x (by simp [Bundle.npeArmAtoms, hx]))
  obtain ⟨N, LN, hcN, hnNF, hordN, hffS⟩ := NpeC.of_atoms (args := args) hpl hpl2 L Y (fun x hx => h x (by simp [Bundle.npeArmAtoms, hx]))
  obtain ⟨P1, L1, hP1m, hP1s⟩ := PassC.of_atoms (args := args) (s := s) hpl (X := Bundle.nN) (Y := Bundle.rN) (by decide) (by decide) LibCode.NullPointerException.Init0.at_0 LibCode.NullPointerException.Init0.at_1 LibCode.NullPointerException.Init0.at_4 (fun x hx => h x (by simp [Bundle.npeArmAtoms, hx]))
  obtain ⟨PR, LR, hPRm, hPRs⟩ := PassC.of_atoms (args := args) (s := s) hpl (X := Bundle.rN) (Y := Bundle.eN) (by decide) (by decide) LibCode.RuntimeException.Init0.at_0 LibCode.RuntimeException.Init0.at_1 LibCode.RuntimeException.Init0.at_4 (fun x hx => h x (by simp [Bundle.npeArmAtoms, hx]))
  obtain ⟨PE, LEx, hPEm, hPEs⟩ := PassC.of_atoms (args := args) (s := s) hpl (X := Bundle.eN) (Y := Bundle.tN) (by decide) (by decide) LibCode.Exception.Init0.at_0 LibCode.Exception.Init0.at_1 LibCode.Exception.Init0.at_4 (fun x hx => h x (by simp [Bundle.npeArmAtoms, hx]))
  have hfound : s.vm.findClass Bundle.nN = some P1.m.cls := findClass_of_methodNamed hP1m
  have ecls : N.cN = P1.m.cls := Option.some.inj (hcN.symm.trans hfound)
  have hk : s.vm.classes[P1.m.cls]? = some N.kN := by rw [← ecls]; exact LN.cls
  have hinit := Cond.initialized_spec hfound hk (a (.initialized Bundle.nN) (by simp [Bundle.npeArmAtoms]))
  have hctor : N.kN.findMethod "<init>" "()V" = some P1.m.idx := findMethod_of_methodNamed hP1m hk
  obtain ⟨c1, k1, hc1, hk1, -, -, -, hn⟩ := Cond.instantiable_spec (a (.instantiable Bundle.nN n) (by simp [Bundle.npeArmAtoms]))
  cases Option.some.inj (hc1.symm.trans hfound)
  cases Option.some.inj (hk1.symm.trans hk)
  have hlink1 : P1.sup = PR.m := Option.some.inj (hP1s.symm.trans hPRm)
  have hlinkR : PR.sup = PE.m := Option.some.inj (hPRs.symm.trans hPEm)
  have hlinkE : PE.sup = Z.m T.toThrowableT := Option.some.inj (hPEs.symm.trans Y.init0)
  have hsel0 : selectMethod e.platform s.vm P1.m.cls T.fill0 = .method T.fill0 := by
    obtain ⟨c2, r2, m2, q1, q2, q3, q4, -⟩ := Cond.selects_spec (a (.selects Bundle.nN Bundle.tFill0 Bundle.tFill0) (by simp [Bundle.npeArmAtoms]))
    cases Option.some.inj (q1.symm.trans hfound)
    cases Option.some.inj (q2.symm.trans (State.methodFound?_of_named Y.fill0 (by decide)))
    cases Option.some.inj (q3.symm.trans Y.fill0)
    rw [Launch.admits_selectMethod X.admits]; exact q4
  have hselF : selectMethod e.platform s.vm P1.m.cls T.fill = .method N.fill := by
    obtain ⟨c2, r2, m2, q1, q2, q3, q4, -⟩ := Cond.selects_spec (a (.selects Bundle.nN Bundle.tFill Bundle.nFill) (by simp [Bundle.npeArmAtoms]))
    cases Option.some.inj (q1.symm.trans hfound)
    cases Option.some.inj (q2.symm.trans (State.methodFound?_of_named Y.fill (by decide)))
    cases Option.some.inj (q3.symm.trans hnNF)
    rw [Launch.admits_selectMethod X.admits]; exact q4
  obtain ⟨cellS0, hcS0, hiss⟩ := Y.statics
  obtain ⟨u0, hu0⟩ := Cond.staticRefV Y.unassigned L.unassignedStatic L.statics hcS0 hiss (a (.isRef (.static Bundle.tN "UNASSIGNED_STACK" Bundle.steD)) (by simp [Bundle.npeArmAtoms]))
  obtain ⟨sen, hsen⟩ := Cond.staticRefV Y.sentinel L.sentinelStatic L.statics hcS0 hiss (a (.isRef (.static Bundle.tN "SUPPRESSED_SENTINEL" Bundle.listD)) (by simp [Bundle.npeArmAtoms]))
  obtain ⟨ci198, i198, fB, hk198, hg198, ha198, hsB, -, hnB, htB, hffB⟩ := Cond.ownField (t := .object "java/lang/Object") Y.found L.cls (by decide +kernel) (a (.fieldLink Bundle.tN 198 Bundle.tN "backtrace" Bundle.objD) (by simp [Bundle.npeArmAtoms])) (a (.lays Bundle.tN Bundle.tN "backtrace" Bundle.objD) (by simp [Bundle.npeArmAtoms])) e.platform hpl
  obtain ⟨cellS, hcS', heS, -, hkeep⟩ := X.same.2.2.2.2.2 T.aS cellS0 hcS0
  have hcellS : S.heap[T.aS]? = some cellS := hcS'
  have hout' : ∀ i, (⟨T.aS, i⟩ : Loc) ∉ locs := hsa _ _ _ Y.found L.cls L.statics
  have hknownS : cellS.vm ≠ .unknown := by
    rw [heS]; intro hu
    rw [show cellS0.vm = .unknown from hu] at hiss
    cases hiss
  have hvU : cellS.slots[T.fUnassigned.slot]? = some u0.v := by rw [hkeep _ (hout' _)]; exact hu0
  have hvSen : cellS.slots[T.fSentinel.slot]? = some sen.v := by rw [hkeep _ (hout' _)]; exact hsen
  obtain ⟨tyC, dC, hdC, hdnC⟩ := Cond.laysAt hfound hk Y.cause (a (.lays Bundle.nN Bundle.tN "cause" "Ljava/lang/Throwable;") (by simp [Bundle.npeArmAtoms]))
  obtain ⟨tyS, dS, hdS, hdnS⟩ := Cond.laysAt hfound hk Y.stack (a (.lays Bundle.nN Bundle.tN "stackTrace" Bundle.steD) (by simp [Bundle.npeArmAtoms]))
  obtain ⟨tyP, dP, hdP, hdnP⟩ := Cond.laysAt hfound hk Y.supp (a (.lays Bundle.nN Bundle.tN "suppressedExceptions" Bundle.listD) (by simp [Bundle.npeArmAtoms]))
  obtain ⟨tyX, dX, hdX, hdnX⟩ := Cond.laysAt hfound hk hffS (a (.lays Bundle.nN Bundle.nN "extendedMessageState" "I") (by simp [Bundle.npeArmAtoms, Bundle.npeAtoms]))
  have hnX : N.fState.name = "extendedMessageState" := (State.fieldFound?_type hffS (t := .int) (by decide +kernel)).1
  obtain ⟨tyB, dB, hdB, hdnB⟩ := Cond.laysAt hfound hk hffB (a (.lays Bundle.nN Bundle.tN "backtrace" Bundle.objD) (by simp [Bundle.npeArmAtoms]))
  have bC := Cond.laysApart hdB hdC hdnB hdnC (by rw [hnB, Y.causeName]; decide)
  have bS := Cond.laysApart hdB hdS hdnB hdnS (by rw [hnB, Y.stackName]; decide)
  have bP := Cond.laysApart hdB hdP hdnB hdnP (by rw [hnB, Y.suppName]; decide)
  have bX := Cond.laysApart hdB hdX hdnB hdnX (by rw [hnB, hnX]; decide)
  have hskip : SkipFacts T e.platform s (fun u => u) u0 ((npeCell N.toNpeT (preparedCellV T.toThrowableT (freshCell P1.m.cls N.kN) S.heap.size u0 sen) S.cur).withEntry S.cur) :=
    ⟨{ ci198 := ci198, i198 := i198, fBack := fB }, ⟨hk198, hg198, ha198, hsB⟩, by
      have := fresh_default (c := P1.m.cls) tyB
      rw [htB] at this
      simpa [npeCell, preparedCellV, Cell.setSlot, Cell.withEntry, Array.getElem?_setIfInBounds, bC, bS, bP, bX, bC.symm, bS.symm, bP.symm, bX.symm, defaultValue] using this, fun _ _ => rfl⟩
  have hL : ∀ P, P ∈ [PR, PE] → P.Links0 e.platform s := fun P hP => by
    simp only [List.mem_cons, List.not_mem_nil, or_false] at hP
    rcases hP with rfl | rfl
    · exact LR
    · exact LEx
  have tkC := Takes.of_laid (v := .ref S.heap.size) hk hordN tyC (by rw [Y.causeType]; rfl)
  have tkS := Takes.of_laid (v := u0.v) hk hordN tyS (by rw [Y.stackType]; exact fits_refV_array _ u0)
  have tkP := Takes.of_laid (v := sen.v) hk hordN tyP (by rw [Y.suppType]; exact fits_refV_object _ sen)
  have tk1 := Takes.of_laid (v := .int 1) hk hordN tyX (by rw [LN.stateInt]; rfl)
  have hA : At S g.method c below := by rw [hg]; exact X.here
  obtain ⟨hbeyond, hfreeW⟩ := X.vmMayThrow hsize (.throwNew "java/lang/NullPointerException" none none) (fun f hf => by cases hf) rfl hRlocals
  have hfr' : S.frames.length + [PR, PE].length + 5 < (e.platform.stackLimits S.me).1 := by have := X.framesAbove hRframes; show _ + 2 + 5 < _; omega
  have hwd' : (stackUse (.java g :: S.frames.tail)).2 + 13 * [PR, PE].length + 68 ≤ (e.platform.stackLimits S.me).2 := by have := X.stackAbove hsize (K := 13 * 2 + 68) (by omega); show _ + 13 * 2 + 68 ≤ _; omega
  obtain ⟨vm', hW', st⟩ := Steps.vmThrowsNpeColdByV p (s₀ := s) (S := S) (g := g) hA hexec T L Z LZ N LN X.warmed (t := S.cur) rfl P1 L1 [PR, PE] hL hlink1 ⟨hlinkR, hlinkE, trivial⟩ hfound hk hinit hordN hctor
    (Launch.admits_hotImplicitExceptions X.admits) hbeyond hfreeW (X.cellsAbove hRcells) (by rw [hn]; exact X.slotsAbove hRslots)
    (Nn := fun u => u) heapOnly_id (fun _ _ => rfl) (fun _ => rfl) (fun u x y => setCell_twice _ _ _ _) (fun _ => Nat.le_refl _) (cN := ((npeCell N.toNpeT (preparedCellV T.toThrowableT (freshCell P1.m.cls N.kN) S.heap.size u0 sen) S.cur).withEntry S.cur))
    hsel0 hcellS hknownS hvU (by rw [fresh_default tyX, LN.stateInt]; rfl) (Cond.laysApart hdC hdX hdnC hdnX (by rw [Y.causeName, hnX]; decide)) (Cond.laysApart hdS hdX hdnS hdnX (by rw [Y.stackName, hnX]; decide)) (Cond.laysApart hdP hdX hdnP hdnX (by rw [Y.suppName, hnX]; decide)) tkS tk1 (fun _ hu => hu) (fun _ hu => hu) rfl rfl rfl (by simp [npeCell, preparedCellV, Cell.setSlot, Cell.withEntry]) hskip (fun _ _ hA hW _ hroom _ hrest => L.nativeOff p htr hA hW hroom hrest) hselF hvSen tkC tkP Y.objLocals rfl hfr' hwd'
  rw [npeBareV_eq T.toThrowableT N.toNpeT S.heap.size u0 sen S.cur rfl rfl] at st
  have X2 := (X.pushed (freshCell P1.m.cls N.kN)).noted hW'
  have hsz : ((S.pushCell (freshCell P1.m.cls N.kN)).setVm vm').heap.size = S.heap.size + 1 := State.heap_size_pushCell _ _
  have ha : S.heap.size < ((S.pushCell (freshCell P1.m.cls N.kN)).setVm vm').heap.size := by rw [hsz]; omega
  have hcell : ((S.pushCell (freshCell P1.m.cls N.kN)).setVm vm').heap[S.heap.size]? = some (freshCell P1.m.cls N.kN) := State.heap_pushCell_size S (freshCell P1.m.cls N.kN)
  have X3 := ((((X2.stored hcell T.fCause.slot (.ref S.heap.size)).storedAgain ha T.fStack.slot u0.v).storedAgain ha T.fSupp.slot sen.v).storedAgain ha N.fState.slot (.int 1)).storedAgain ha T.fStack.slot u0.v
  rw [show (freshCell P1.m.cls N.kN).slots.size = n by simp [hn]] at X3
  obtain ⟨g₁, hfrM⟩ := X3.frames_eq
  have hU : ((((S.pushCell (freshCell P1.m.cls N.kN)).setVm vm').setCell S.heap.size (npeBareV T.toThrowableT N.toNpeT (freshCell P1.m.cls N.kN) S.heap.size u0 sen)).setTop g).pushFrame (.throwing S.heap.size) = (((S.pushCell (freshCell P1.m.cls N.kN)).setVm vm').setCell S.heap.size (npeBareV T.toThrowableT N.toNpeT (freshCell P1.m.cls N.kN) S.heap.size u0 sen)).setFrames (.throwing S.heap.size :: .java g :: below) := by
    rw [State.pushFrame, State.frames_setTop _ hfrM, State.setTop_of_frames _ hfrM, State.setFrames_setFrames]
  rw [X.tail] at st
  refine ⟨_, _, P1.m.cls, _, X3, fun y hy => ?_, st _ ?_, ?_, fun a0 h0 => ?_, hfound, heapAt_setCell_self _ ha, rfl, rfl⟩
  · simp only [List.append_assoc, List.cons_append, List.nil_append] at hy
    rcases List.mem_append.mp hy with h1 | h1
    · exact Or.inl h1
    · refine Or.inr ?_
      simp only [List.mem_cons, List.not_mem_nil, or_false] at h1
      rcases h1 with rfl | rfl | rfl | rfl | rfl <;> rfl
  · rw [← hU]
    exact Steps.refl _
  · rw [size_setCell]
    exact hsz
  · rw [State.heap_setCell_other (by omega : S.heap.size ≠ a0)]
    show (S.heap.push _)[a0]? = _
    rw [Array.getElem?_push, if_neg (by omega)]
end ZVN
/-! the atoms of the machine's own exceptions are words of the tables (written by genE.py) -/
def zHas (a : Cond) : Prop := a ∈ lw_all ∨ (a ∈ lw_tbl ∧ zNk a = true) ∨ a ∈ zSt
theorem zmA_cce : ∀ a ∈ Bundle.messageArmAtoms "java/lang/ClassCastException" ["java/lang/RuntimeException", "java/lang/Exception"], zHas a := by
  simp only [Bundle.messageArmAtoms, Bundle.npeArmAtoms, Bundle.throwableAtoms, Bundle.throwableSAtoms, Bundle.chainSAtoms, Bundle.passSAtoms, Bundle.passAtoms, Bundle.npeAtoms, Bundle.stringAtoms, List.cons_append, List.nil_append]
  refine List.forall_mem_cons.mpr ⟨Or.inl q98, ?_⟩
  refine List.forall_mem_cons.mpr ⟨Or.inl q151, ?_⟩
  refine List.forall_mem_cons.mpr ⟨Or.inl q160, ?_⟩
  refine List.forall_mem_cons.mpr ⟨Or.inl q178, ?_⟩
  refine List.forall_mem_cons.mpr ⟨Or.inl q181, ?_⟩
  refine List.forall_mem_cons.mpr ⟨Or.inl q183, ?_⟩
  refine List.forall_mem_cons.mpr ⟨Or.inl q152, ?_⟩
  refine List.forall_mem_cons.mpr ⟨Or.inl q153, ?_⟩
  refine List.forall_mem_cons.mpr ⟨Or.inl q127, ?_⟩
  refine List.forall_mem_cons.mpr ⟨Or.inl q128, ?_⟩
  refine List.forall_mem_cons.mpr ⟨Or.inl q154, ?_⟩
  refine List.forall_mem_cons.mpr ⟨Or.inl q159, ?_⟩
  refine List.forall_mem_cons.mpr ⟨Or.inl q179, ?_⟩
  refine List.forall_mem_cons.mpr ⟨Or.inl q199, ?_⟩
  refine List.forall_mem_cons.mpr ⟨Or.inl q141, ?_⟩
  refine List.forall_mem_cons.mpr ⟨Or.inl q200, ?_⟩
  refine List.forall_mem_cons.mpr ⟨Or.inl q143, ?_⟩
  refine List.forall_mem_cons.mpr ⟨Or.inl q201, ?_⟩
  refine List.forall_mem_cons.mpr ⟨Or.inl q145, ?_⟩
  refine List.forall_mem_cons.mpr ⟨Or.inl q155, ?_⟩
  refine List.forall_mem_cons.mpr ⟨Or.inr (Or.inr (by simp [Bundle.tN, Bundle.steD, Bundle.listD])), ?_⟩
  refine List.forall_mem_cons.mpr ⟨Or.inl q157, ?_⟩
  refine List.forall_mem_cons.mpr ⟨Or.inr (Or.inr (by simp [Bundle.tN, Bundle.steD, Bundle.listD])), ?_⟩
  refine List.forall_mem_cons.mpr ⟨Or.inl q147, ?_⟩
  refine List.forall_mem_cons.mpr ⟨Or.inl q653, ?_⟩
  refine List.forall_mem_cons.mpr ⟨Or.inl q654, ?_⟩
  refine List.forall_mem_cons.mpr ⟨Or.inl q198, ?_⟩
  refine List.forall_mem_cons.mpr ⟨Or.inl q147, ?_⟩
  refine List.forall_mem_cons.mpr ⟨Or.inl q644, ?_⟩
  refine List.forall_mem_cons.mpr ⟨Or.inl q645, ?_⟩
  refine List.forall_mem_cons.mpr ⟨Or.inl q646, ?_⟩
  refine List.forall_mem_cons.mpr ⟨Or.inl q647, ?_⟩
  refine List.forall_mem_cons.mpr ⟨Or.inr (Or.inl ⟨q133, rfl⟩), ?_⟩
  refine List.forall_mem_cons.mpr ⟨Or.inl q647, ?_⟩
  refine List.forall_mem_cons.mpr ⟨Or.inl q648, ?_⟩
  refine List.forall_mem_cons.mpr ⟨Or.inl q649, ?_⟩
  refine List.forall_mem_cons.mpr ⟨Or.inl q650, ?_⟩
  refine List.forall_mem_cons.mpr ⟨Or.inr (Or.inl ⟨q135, rfl⟩), ?_⟩
  refine List.forall_mem_cons.mpr ⟨Or.inl q650, ?_⟩
  refine List.forall_mem_cons.mpr ⟨Or.inl q651, ?_⟩
  refine List.forall_mem_cons.mpr ⟨Or.inl q652, ?_⟩
  refine List.forall_mem_cons.mpr ⟨Or.inl q653, ?_⟩
  refine List.forall_mem_cons.mpr ⟨Or.inr (Or.inl ⟨q137, rfl⟩), ?_⟩
  refine List.forall_mem_cons.mpr ⟨Or.inl q115, ?_⟩
  refine List.forall_mem_cons.mpr ⟨Or.inl q664, ?_⟩
  refine List.forall_mem_cons.mpr ⟨Or.inl q665, ?_⟩
  refine List.forall_mem_cons.mpr ⟨Or.inl q666, ?_⟩
  refine List.forall_mem_cons.mpr ⟨Or.inl q668, ?_⟩
  refine List.forall_mem_cons.mpr ⟨Or.inl q667, ?_⟩
  refine List.forall_mem_cons.mpr ⟨Or.inl q669, ?_⟩
  refine List.forall_mem_cons.mpr ⟨Or.inl q114, ?_⟩
  refine List.forall_mem_cons.mpr ⟨Or.inl q643, ?_⟩
  refine List.forall_mem_cons.mpr ⟨Or.inr (Or.inl ⟨q662, rfl⟩), ?_⟩
  refine List.forall_mem_cons.mpr ⟨Or.inl q663, ?_⟩
  refine List.forall_mem_cons.mpr ⟨Or.inl q163, ?_⟩
  refine List.forall_mem_cons.mpr ⟨Or.inl q657, ?_⟩
  refine List.forall_mem_cons.mpr ⟨Or.inl q658, ?_⟩
  refine List.forall_mem_cons.mpr ⟨Or.inl q660, ?_⟩
  refine List.forall_mem_cons.mpr ⟨Or.inl q656, ?_⟩
  refine List.forall_mem_cons.mpr ⟨Or.inr (Or.inr (by simp [Bundle.tN, Bundle.steD, Bundle.listD])), ?_⟩
  refine List.forall_mem_cons.mpr ⟨Or.inr (Or.inr (by simp [Bundle.tN, Bundle.steD, Bundle.listD])), ?_⟩
  refine List.forall_mem_cons.mpr ⟨Or.inl q197, ?_⟩
  refine List.forall_mem_cons.mpr ⟨Or.inl q149, ?_⟩
  refine List.forall_mem_cons.mpr ⟨Or.inl q655, ?_⟩
  exact fun a h => by cases h
theorem zmA_idx : ∀ a ∈ Bundle.messageArmAtoms "java/lang/ArrayIndexOutOfBoundsException" ["java/lang/IndexOutOfBoundsException", "java/lang/RuntimeException", "java/lang/Exception"], zHas a := by
  simp only [Bundle.messageArmAtoms, Bundle.npeArmAtoms, Bundle.throwableAtoms, Bundle.throwableSAtoms, Bundle.chainSAtoms, Bundle.passSAtoms, Bundle.passAtoms, Bundle.npeAtoms, Bundle.stringAtoms, List.cons_append, List.nil_append]
  refine List.forall_mem_cons.mpr ⟨Or.inl q98, ?_⟩
  refine List.forall_mem_cons.mpr ⟨Or.inl q151, ?_⟩
  refine List.forall_mem_cons.mpr ⟨Or.inl q160, ?_⟩
  refine List.forall_mem_cons.mpr ⟨Or.inl q178, ?_⟩
  refine List.forall_mem_cons.mpr ⟨Or.inl q181, ?_⟩
  refine List.forall_mem_cons.mpr ⟨Or.inl q183, ?_⟩
  refine List.forall_mem_cons.mpr ⟨Or.inl q152, ?_⟩
  refine List.forall_mem_cons.mpr ⟨Or.inl q153, ?_⟩
  refine List.forall_mem_cons.mpr ⟨Or.inl q127, ?_⟩
  refine List.forall_mem_cons.mpr ⟨Or.inl q128, ?_⟩
  refine List.forall_mem_cons.mpr ⟨Or.inl q154, ?_⟩
  refine List.forall_mem_cons.mpr ⟨Or.inl q159, ?_⟩
  refine List.forall_mem_cons.mpr ⟨Or.inl q179, ?_⟩
  refine List.forall_mem_cons.mpr ⟨Or.inl q199, ?_⟩
  refine List.forall_mem_cons.mpr ⟨Or.inl q141, ?_⟩
  refine List.forall_mem_cons.mpr ⟨Or.inl q200, ?_⟩
  refine List.forall_mem_cons.mpr ⟨Or.inl q143, ?_⟩
  refine List.forall_mem_cons.mpr ⟨Or.inl q201, ?_⟩
  refine List.forall_mem_cons.mpr ⟨Or.inl q145, ?_⟩
  refine List.forall_mem_cons.mpr ⟨Or.inl q155, ?_⟩
  refine List.forall_mem_cons.mpr ⟨Or.inr (Or.inr (by simp [Bundle.tN, Bundle.steD, Bundle.listD])), ?_⟩
  refine List.forall_mem_cons.mpr ⟨Or.inl q157, ?_⟩
  refine List.forall_mem_cons.mpr ⟨Or.inr (Or.inr (by simp [Bundle.tN, Bundle.steD, Bundle.listD])), ?_⟩
  refine List.forall_mem_cons.mpr ⟨Or.inl q147, ?_⟩
  refine List.forall_mem_cons.mpr ⟨Or.inl q653, ?_⟩
  refine List.forall_mem_cons.mpr ⟨Or.inl q654, ?_⟩
  refine List.forall_mem_cons.mpr ⟨Or.inl q198, ?_⟩
  refine List.forall_mem_cons.mpr ⟨Or.inl q147, ?_⟩
  refine List.forall_mem_cons.mpr ⟨Or.inl q701, ?_⟩
  refine List.forall_mem_cons.mpr ⟨Or.inl q702, ?_⟩
  refine List.forall_mem_cons.mpr ⟨Or.inl q703, ?_⟩
  refine List.forall_mem_cons.mpr ⟨Or.inl q704, ?_⟩
  refine List.forall_mem_cons.mpr ⟨Or.inr (Or.inl ⟨q716, rfl⟩), ?_⟩
  refine List.forall_mem_cons.mpr ⟨Or.inl q704, ?_⟩
  refine List.forall_mem_cons.mpr ⟨Or.inl q705, ?_⟩
  refine List.forall_mem_cons.mpr ⟨Or.inl q706, ?_⟩
  refine List.forall_mem_cons.mpr ⟨Or.inl q647, ?_⟩
  refine List.forall_mem_cons.mpr ⟨Or.inr (Or.inl ⟨q133, rfl⟩), ?_⟩
  refine List.forall_mem_cons.mpr ⟨Or.inl q647, ?_⟩
  refine List.forall_mem_cons.mpr ⟨Or.inl q648, ?_⟩
  refine List.forall_mem_cons.mpr ⟨Or.inl q649, ?_⟩
  refine List.forall_mem_cons.mpr ⟨Or.inl q650, ?_⟩
  refine List.forall_mem_cons.mpr ⟨Or.inr (Or.inl ⟨q135, rfl⟩), ?_⟩
  refine List.forall_mem_cons.mpr ⟨Or.inl q650, ?_⟩
  refine List.forall_mem_cons.mpr ⟨Or.inl q651, ?_⟩
  refine List.forall_mem_cons.mpr ⟨Or.inl q652, ?_⟩
  refine List.forall_mem_cons.mpr ⟨Or.inl q653, ?_⟩
  refine List.forall_mem_cons.mpr ⟨Or.inr (Or.inl ⟨q137, rfl⟩), ?_⟩
  refine List.forall_mem_cons.mpr ⟨Or.inl q115, ?_⟩
  refine List.forall_mem_cons.mpr ⟨Or.inl q664, ?_⟩
  refine List.forall_mem_cons.mpr ⟨Or.inl q665, ?_⟩
  refine List.forall_mem_cons.mpr ⟨Or.inl q666, ?_⟩
  refine List.forall_mem_cons.mpr ⟨Or.inl q668, ?_⟩
  refine List.forall_mem_cons.mpr ⟨Or.inl q667, ?_⟩
  refine List.forall_mem_cons.mpr ⟨Or.inl q669, ?_⟩
  refine List.forall_mem_cons.mpr ⟨Or.inl q118, ?_⟩
  refine List.forall_mem_cons.mpr ⟨Or.inl q700, ?_⟩
  refine List.forall_mem_cons.mpr ⟨Or.inr (Or.inl ⟨q714, rfl⟩), ?_⟩
  refine List.forall_mem_cons.mpr ⟨Or.inl q717, ?_⟩
  refine List.forall_mem_cons.mpr ⟨Or.inl q162, ?_⟩
  refine List.forall_mem_cons.mpr ⟨Or.inl q709, ?_⟩
  refine List.forall_mem_cons.mpr ⟨Or.inl q710, ?_⟩
  refine List.forall_mem_cons.mpr ⟨Or.inl q712, ?_⟩
  refine List.forall_mem_cons.mpr ⟨Or.inl q708, ?_⟩
  refine List.forall_mem_cons.mpr ⟨Or.inr (Or.inr (by simp [Bundle.tN, Bundle.steD, Bundle.listD])), ?_⟩
  refine List.forall_mem_cons.mpr ⟨Or.inr (Or.inr (by simp [Bundle.tN, Bundle.steD, Bundle.listD])), ?_⟩
  refine List.forall_mem_cons.mpr ⟨Or.inl q197, ?_⟩
  refine List.forall_mem_cons.mpr ⟨Or.inl q149, ?_⟩
  refine List.forall_mem_cons.mpr ⟨Or.inl q707, ?_⟩
  exact fun a h => by cases h
theorem zmA_npe : ∀ a ∈ Bundle.npeArmAtoms 8, zHas a := by
  simp only [Bundle.messageArmAtoms, Bundle.npeArmAtoms, Bundle.throwableAtoms, Bundle.throwableSAtoms, Bundle.chainSAtoms, Bundle.passSAtoms, Bundle.passAtoms, Bundle.npeAtoms, Bundle.stringAtoms, List.cons_append, List.nil_append]
  refine List.forall_mem_cons.mpr ⟨Or.inl q98, ?_⟩
  refine List.forall_mem_cons.mpr ⟨Or.inl q151, ?_⟩
  refine List.forall_mem_cons.mpr ⟨Or.inl q160, ?_⟩
  refine List.forall_mem_cons.mpr ⟨Or.inl q178, ?_⟩
  refine List.forall_mem_cons.mpr ⟨Or.inl q181, ?_⟩
  refine List.forall_mem_cons.mpr ⟨Or.inl q183, ?_⟩
  refine List.forall_mem_cons.mpr ⟨Or.inl q152, ?_⟩
  refine List.forall_mem_cons.mpr ⟨Or.inl q153, ?_⟩
  refine List.forall_mem_cons.mpr ⟨Or.inl q127, ?_⟩
  refine List.forall_mem_cons.mpr ⟨Or.inl q128, ?_⟩
  refine List.forall_mem_cons.mpr ⟨Or.inl q154, ?_⟩
  refine List.forall_mem_cons.mpr ⟨Or.inl q159, ?_⟩
  refine List.forall_mem_cons.mpr ⟨Or.inl q179, ?_⟩
  refine List.forall_mem_cons.mpr ⟨Or.inl q199, ?_⟩
  refine List.forall_mem_cons.mpr ⟨Or.inl q141, ?_⟩
  refine List.forall_mem_cons.mpr ⟨Or.inl q200, ?_⟩
  refine List.forall_mem_cons.mpr ⟨Or.inl q143, ?_⟩
  refine List.forall_mem_cons.mpr ⟨Or.inl q201, ?_⟩
  refine List.forall_mem_cons.mpr ⟨Or.inl q145, ?_⟩
  refine List.forall_mem_cons.mpr ⟨Or.inl q155, ?_⟩
  refine List.forall_mem_cons.mpr ⟨Or.inr (Or.inr (by simp [Bundle.tN, Bundle.steD, Bundle.listD])), ?_⟩
  refine List.forall_mem_cons.mpr ⟨Or.inl q157, ?_⟩
  refine List.forall_mem_cons.mpr ⟨Or.inr (Or.inr (by simp [Bundle.tN, Bundle.steD, Bundle.listD])), ?_⟩
  refine List.forall_mem_cons.mpr ⟨Or.inl q147, ?_⟩
  refine List.forall_mem_cons.mpr ⟨Or.inl q175, ?_⟩
  refine List.forall_mem_cons.mpr ⟨Or.inl q165, ?_⟩
  refine List.forall_mem_cons.mpr ⟨Or.inl q166, ?_⟩
  refine List.forall_mem_cons.mpr ⟨Or.inl q680, ?_⟩
  refine List.forall_mem_cons.mpr ⟨Or.inl q682, ?_⟩
  refine List.forall_mem_cons.mpr ⟨Or.inl q172, ?_⟩
  refine List.forall_mem_cons.mpr ⟨Or.inl q173, ?_⟩
  refine List.forall_mem_cons.mpr ⟨Or.inr (Or.inl ⟨q694, rfl⟩), ?_⟩
  refine List.forall_mem_cons.mpr ⟨Or.inl q671, ?_⟩
  refine List.forall_mem_cons.mpr ⟨Or.inl q672, ?_⟩
  refine List.forall_mem_cons.mpr ⟨Or.inl q673, ?_⟩
  refine List.forall_mem_cons.mpr ⟨Or.inl q674, ?_⟩
  refine List.forall_mem_cons.mpr ⟨Or.inr (Or.inl ⟨q132, rfl⟩), ?_⟩
  refine List.forall_mem_cons.mpr ⟨Or.inl q674, ?_⟩
  refine List.forall_mem_cons.mpr ⟨Or.inl q675, ?_⟩
  refine List.forall_mem_cons.mpr ⟨Or.inl q676, ?_⟩
  refine List.forall_mem_cons.mpr ⟨Or.inl q677, ?_⟩
  refine List.forall_mem_cons.mpr ⟨Or.inr (Or.inl ⟨q134, rfl⟩), ?_⟩
  refine List.forall_mem_cons.mpr ⟨Or.inl q677, ?_⟩
  refine List.forall_mem_cons.mpr ⟨Or.inl q678, ?_⟩
  refine List.forall_mem_cons.mpr ⟨Or.inl q679, ?_⟩
  refine List.forall_mem_cons.mpr ⟨Or.inl q152, ?_⟩
  refine List.forall_mem_cons.mpr ⟨Or.inr (Or.inl ⟨q136, rfl⟩), ?_⟩
  refine List.forall_mem_cons.mpr ⟨Or.inl q116, ?_⟩
  refine List.forall_mem_cons.mpr ⟨Or.inl q170, ?_⟩
  refine List.forall_mem_cons.mpr ⟨Or.inr (Or.inl ⟨q692, rfl⟩), ?_⟩
  refine List.forall_mem_cons.mpr ⟨Or.inl q693, ?_⟩
  refine List.forall_mem_cons.mpr ⟨Or.inl q164, ?_⟩
  refine List.forall_mem_cons.mpr ⟨Or.inl q688, ?_⟩
  refine List.forall_mem_cons.mpr ⟨Or.inl q689, ?_⟩
  refine List.forall_mem_cons.mpr ⟨Or.inl q691, ?_⟩
  refine List.forall_mem_cons.mpr ⟨Or.inr (Or.inr (by simp [Bundle.tN, Bundle.steD, Bundle.listD])), ?_⟩
  refine List.forall_mem_cons.mpr ⟨Or.inr (Or.inr (by simp [Bundle.tN, Bundle.steD, Bundle.listD])), ?_⟩
  refine List.forall_mem_cons.mpr ⟨Or.inl q197, ?_⟩
  refine List.forall_mem_cons.mpr ⟨Or.inl q149, ?_⟩
  refine List.forall_mem_cons.mpr ⟨Or.inl q686, ?_⟩
  exact fun a h => by cases h
/-! the machine's own exceptions, caught in the method itself -/
section ZEX
/-- a cell of which nothing is told (an exception of the machine's own), with what was made beside it -/
def zmke (h : zH) (nc nu : Nat) : zH := (zn h + 1, zc h + nc, zu h + nu, va_up (zT h) (zn h) (0, 0), va_up (zP h) (zn h) (fun _ => none), va_up (zI h) (zn h) (fun _ => 0), va_up (zL h) (zn h) (fun _ => 0))
theorem zLx_mke' (h : zH) (nc nu : Nat) : zLx h (zmke h nc nu) :=
  ⟨⟨Nat.le_succ _, Nat.le_add_right _ _, Nat.le_add_right _ _⟩, fun a ha => va_up_ne _ _ (Nat.ne_of_lt ha), fun a j b ha _ e => by
    have : zP (zmke h nc nu) a = zP h a := va_up_ne _ _ (Nat.ne_of_lt ha)
    rw [this]; exact e⟩
theorem zLx_mke {h h' : zH} {nc nu : Nat} (he : h' = zmke h nc nu) : zLx h h' := he ▸ zLx_mke' h nc nu
theorem zSim_mke {D : zD} {bs : Nat} {r : Nat → Nat} {h : zH} {H H' : Heap} {nc nu b0 : Nat} (hS : zSim D bs r h H) (hb : H.size ≤ b0) (hb2 : b0 < H'.size) (ho : ∀ q, q < H.size → H'[q]? = H[q]?) : zSim D bs (va_up r (zn h) b0) (zmke h nc nu) H' := by
  obtain ⟨s1, s2, s3, s4, s5, s6, s7, s8, s9, s10, s12, s11⟩ := hS
  have hn : zn (zmke h nc nu) = zn h + 1 := rfl
  have hr : ∀ a, a < zn h → va_up r (zn h) b0 a = r a := fun a ha => va_up_ne r b0 (Nat.ne_of_lt ha)
  have hr1 : va_up r (zn h) b0 (zn h) = b0 := va_up_self r (zn h) b0
  have hT : ∀ a, a ≠ zn h → zT (zmke h nc nu) a = zT h a := fun a ha => va_up_ne _ _ ha
  have hT1 : zT (zmke h nc nu) (zn h) = (0, 0) := va_up_self _ _ _
  have hf : ∀ (ty : FieldType) (a k : Nat), a < zn h → zfv (va_up r (zn h) b0) (zmke h nc nu) ty a k = zfv r h ty a k := fun ty a k ha =>
    zfv_ext (congrFun (va_up_ne (zI h) _ (Nat.ne_of_lt ha)) k) (congrFun (va_up_ne (zL h) _ (Nat.ne_of_lt ha)) k) (congrFun (va_up_ne (zP h) _ (Nat.ne_of_lt ha)) k) (fun b e => hr b (s5 a k b ha e))
  refine ⟨fun a b ha hb9 e => ?_, fun a ha h0 => ?_, fun a ha => ?_, by omega, fun a k b ha e => ?_, fun a ci q ty ha e1 e2 e3 => ?_, fun a tt n ty ha e1 e2 => ?_, fun a ha => ?_, s9.to (hT 0 (by omega)) (hr 0 s10) (ho _ (s3 0 s10)) (fun j => congrFun (va_up_ne (zI h) _ (Nat.ne_of_lt s10)) j), by rw [hn]; omega, s12, fun q hq => by rw [ho q (by omega)]; exact s11 q hq⟩
  · rw [hn] at ha hb9
    by_cases h1 : a = zn h
    · by_cases h2 : b = zn h
      · rw [h1, h2]
      · exfalso
        rw [h1, hr1, hr b (by omega)] at e
        have := s3 b (by omega)
        omega
    · by_cases h2 : b = zn h
      · exfalso
        rw [h2, hr1, hr a (by omega)] at e
        have := s3 a (by omega)
        omega
      · rw [hr a (by omega), hr b (by omega)] at e
        exact s1 a b (by omega) (by omega) e
  · rw [hn] at ha
    by_cases h1 : a = zn h
    · rw [h1, hr1]; omega
    · rw [hr a (by omega)]; exact s2 a (by omega) h0
  · rw [hn] at ha
    by_cases h1 : a = zn h
    · rw [h1, hr1]; exact hb2
    · rw [hr a (by omega)]; have := s3 a (by omega); omega
  · rw [hn] at ha ⊢
    by_cases h1 : a = zn h
    · subst h1
      have e2 : zP (zmke h nc nu) (zn h) k = none := congrFun (va_up_self (zP h) (zn h) (fun _ => none)) k
      rw [e2] at e
      cases e
    · have e2 : zP (zmke h nc nu) a k = zP h a k := congrFun (va_up_ne (zP h) _ h1) k
      rw [e2] at e
      have := s5 a k b (by omega) e
      omega
  · rw [hn] at ha
    by_cases h1 : a = zn h
    · exfalso
      rw [h1, hT1] at e1
      simp at e1
    · rw [hT a h1] at e1
      have hlt : r a < H.size := s3 a (by omega)
      rw [hr a (by omega)]
      exact (t_OB.kept (s6 a ci q ty (by omega) e1 e2 e3) (ho _ hlt)).to (fun k _ => (hf _ a k (by omega)).symm)
  · rw [hn] at ha
    by_cases h1 : a = zn h
    · exfalso
      rw [h1, hT1] at e1
      simp at e1
    · rw [hT a h1] at e1
      have hlt : r a < H.size := s3 a (by omega)
      rw [hr a (by omega), ho _ hlt, s7 a tt n ty (by omega) e1 e2]
      congr 2
      funext j
      exact (hf _ a j (by omega)).symm
  · rw [hn] at ha
    rw [hT a (by omega)]
    exact s8 a (by omega)
theorem zHas.use {a : Cond} {D : zD} {s : State} {args : Array Value} (h : zHas a) (hts : ∀ w ∈ lw_all, w.before args s = true) (hKn : zKn D s) (hHa : zHa D s.heap) : a.before args s = true := by
  rcases h with h | ⟨h, hk⟩ | h
  · exact hts _ h
  · have := hKn.2.2.1 a h hk
    refine va_Nw.use ?_ this
    cases a <;> first | rfl | cases hk
  · exact (hKn.2.2.2.2.2 s (Vm.Alike.refl _) hHa).1 a h args
/-- Throwable's statics are old -/
theorem zThrO {s : State} {D : zD} {bs : Nat} {r : Nat → Nat} {h : zH} {H : Heap} {locs : List Loc} (hKn : zKn D s) (z3 : zSim D bs r h H) (hlo : ∀ q ∈ locs, bs ≤ q.base) : ∀ (cT : ClassId) (k : Class) (aS : Addr), s.vm.findClass "java/lang/Throwable" = some cT → s.vm.classes[cT]? = some k → k.statics = some aS → ∀ i, (⟨aS, i⟩ : Loc) ∉ locs := by
  intro cT k aS hc hk ha i hm
  have hV := (hKn.2.2.2.2.2 { s with heap := D.2.2.2 } (Vm.Alike.refl _) (fun q _ => rfl)).1
  obtain ⟨c, k', i', f, a, cell, hc', hf, hst, ha', hcell, -⟩ := Cond.laysStatic_spec (hV (.laysStatic "java/lang/Throwable" "UNASSIGNED_STACK" "[Ljava/lang/StackTraceElement;") (by simp) #[])
  have hc' : s.vm.findClass "java/lang/Throwable" = some c := hc'
  cases hc.symm.trans hc'
  have hk' : s.vm.classes[cT]? = some k' := zfound_cls (s := { s with heap := D.2.2.2 }) hf
  cases hk.symm.trans hk'
  cases ha.symm.trans ha'
  have hcell : D.2.2.2[aS]? = some cell := hcell
  have h1 : aS < D.2.2.2.size := (Array.getElem?_eq_some_iff.mp hcell).1
  have h2 : D.2.2.2.size ≤ bs := z3.2.2.2.2.2.2.2.2.2.2.1
  have h3 : bs ≤ aS := hlo _ hm
  exact absurd (Nat.lt_of_lt_of_le h1 h2) (Nat.not_lt.mpr h3)
variable {F : zF} {nL : Nat} {cc : ByteArray} {own nm : String} {ret : Option FieldType} {hh : List (Nat × Nat × Nat × Nat)} {h h' : zH} {pc : Nat} {lc : List (Nat × Value)} {st : List Value} {index hp ct B : Nat}
/-- what is owed where an exception of the machine's own is to be made at pc -/
def zNew (F : zF) (K : zK) (h : zH) (H : Heap) (locs : List Loc) (ls : Array Slot) (pc : Nat) (st : List Value) (cls : String) (tx : Option String) : Prop := match F, K with
  | (l, d, h0, x), (p, e, s, m, args, below, meth, c, D, bs, r0) => ∀ T : State, T.heap = H → Stand p l e (zRm d (zc x.2 - zc h0) (zu x.2 - zu h0)) s m args below meth c T locs (zc h - zc h0) (zu h - zu h0) →
      ∃ t, Steps p.tables e below ((T.setTop (F0 m pc ls st)).pushFrame (.throwNew cls tx none)) t ∧ zMQ below (zQ D bs r0 h0 x) args s (zc x.2 - zc h0) (zu x.2 - zu h0) (fun q => bs ≤ q) t
theorem zExM {cls : String} {names : List String} {text : String} (hA : ∀ a ∈ Bundle.messageArmAtoms cls names, zHas a) (hcls : Bundle.fit cls = true) (hnames : ∀ n ∈ names, Bundle.fit n = true) (hsoe : (cls == "java/lang/StackOverflowError") = false) (hoom : (cls == "java/lang/OutOfMemoryError") = false) (hlen : names.length ≤ 3)
    (hn : zHd hh pc = some (hp, ct)) (hct : ct ≠ 0) (hl : Cond.classLink own ct cls ∈ lw_all) (htext : (text == notModelled) = false) (hB : (stringBytes (stringToUtf16 text)).size + 10 ≤ B) (hB2 : B ≤ 100000) (hD : 110 ≤ F.2.1) (kk : Z F nL cc own nm ret hh (zmke h 3 B) hp lc [.ref (zn h)])
    {K : zK} (hC : zCx K nL cc own nm ret hh) {r : Nat → Nat} {H : Heap} {locs : List Loc} {ls : Array Slot} {st0 : List Value} (hz : zAtH F K nL h r H locs ls lc st0) {st : List Value} (hcat : (st.map fun v => v.category).sum ≤ 8) : zNew F K h H locs ls pc st cls (some text) := by
  have k1 := kk.1.1
  have hw := kk.2 K hC
  have hz1 := hz
  obtain ⟨l, d, h0', x0⟩ := F
  obtain ⟨p, e, s, m, args, below, meth, c, D, bs, r0⟩ := K
  obtain ⟨z1, z2, z3, z4, z5, z6, z7⟩ := hz
  obtain ⟨hx1, hb, hml, hown, hts, hKn, hlk, hrt, hht, -, hHa, hstt⟩ := hC
  have a1 : zc h + 3 ≤ zc x0.2 := k1.2.1
  have a2 : zu h + B ≤ zu x0.2 := k1.2.2
  have b1 := z1.2.1
  have b2 := z1.2.2
  have hD : 110 ≤ d := hD
  intro T hT X
  have hlim : e.platform.arrayLengthLimit = 2147483645 := Launch.admits_arrayLengthLimit X.admits
  have hmax : e.platform.maxHeapBytes = 536870912 := Launch.admits_maxHeapBytes X.admits
  have hat : ∀ a ∈ Bundle.messageArmAtoms cls names, a.before args s = true := fun a ha => (hA a ha).use hts hKn hHa
  obtain ⟨U, locs', cX, ce, XU, hlo, hst, hus, huo, hcX, hce, hcc, hcv⟩ := zvmMsg X hx1 hstt hcls hnames hsoe hoom hat (zThrO hKn z3 z4.2.2) htext (by rw [hlim]; omega) (by rw [hmax]; show ¬ _ * 1 > _; omega) (g := F0 m pc ls st) rfl (z7.1.trans hml.symm) (by show names.length + 4 < d; omega) (by show 2 * 0 + (st.map fun v => v.category).sum + 10240 ≤ 100 * d; omega) (by omega) (by show _ + 3 ≤ zc x0.2 - zc h0'; omega) (by show _ + _ ≤ zu x0.2 - zu h0'; omega)
  obtain ⟨pre, y, rest, e1, e2, e3, e4, e5⟩ := zHd_some hn hht
  obtain ⟨c3, c4, hc3, hc4, hasg⟩ := Cond.castable_spec (hat (.castable cls cls) (by simp [Bundle.messageArmAtoms]))
  cases hc3.symm.trans hcX
  cases hc4.symm.trans hcX
  subst e4; subst e5
  obtain ⟨vm', XC, hstC⟩ := zCaught XU (T.heap.size + 2) (g := F0 m pc ls st) rfl hown pre y rest e1 e2 e3 hct (hts _ hl) hcX hce (by rw [hcv]; rfl) (by rw [hcc]; exact hasg)
  have hH : T.heap.size = H.size := by rw [hT]
  have hr : ∀ b, b < zn h → va_up r (zn h) (H.size + 2) b = r b := fun b hb => va_up_ne r _ (Nat.ne_of_lt hb)
  have S1 : zSim D bs (va_up r (zn h) (H.size + 2)) (zmke h 3 B) U.heap := zSim_mke z3 (by omega) (by rw [hus]; omega) (fun q hq => by rw [huo q (by omega), hT])
  have hz2 := zAtH_gen (locs' := locs') (st' := [.ref (zn h)]) hz1 (zLx_mke' h 3 B).1 hr (by rw [hus]; omega) (fun q hq hb9 => by rw [huo q (by omega), hT]) (fun q hq => (hlo q hq).elim Or.inl (fun e9 => Or.inr (by rw [e9]; have := z3.2.2.2.1; show bs ≤ _; omega))) (fun v hv => Or.inr (by rw [List.mem_singleton.mp hv]; intro b eb; cases eb; exact Nat.lt_succ_self _)) S1
  have hw2 := hw _ U.heap locs' ls hz2
  have hw2 : W p l e (zRm d (zc x0.2 - zc h0') (zu x0.2 - zu h0')) s m args below meth c U.heap locs' (zc h + 3 - zc h0') (zu h + B - zu h0') _ (F0 m y.handlerPc ls [.ref (va_up r (zn h) (H.size + 2) (zn h))]) := hw2
  rw [va_up_self, ← hH] at hw2
  obtain ⟨t, a3, b3⟩ := hw2 (U.setVm vm') rfl (XC.mono (by omega) (by omega))
  exact ⟨t, hst.trans (hstC t a3), b3⟩
theorem zExN {n : Nat} (hA : ∀ a ∈ Bundle.npeArmAtoms n, zHas a) (hn : zHd hh pc = some (hp, ct)) (hct : ct ≠ 0) (hl : Cond.classLink own ct "java/lang/NullPointerException" ∈ lw_all) (hD : 110 ≤ F.2.1) (kk : Z F nL cc own nm ret hh (zmke h 1 n) hp lc [.ref (zn h)])
    {K : zK} (hC : zCx K nL cc own nm ret hh) {r : Nat → Nat} {H : Heap} {locs : List Loc} {ls : Array Slot} {st0 : List Value} (hz : zAtH F K nL h r H locs ls lc st0) {st : List Value} (hcat : (st.map fun v => v.category).sum ≤ 8) : zNew F K h H locs ls pc st "java/lang/NullPointerException" none := by
  have k1 := kk.1.1
  have hw := kk.2 K hC
  have hz1 := hz
  obtain ⟨l, d, h0', x0⟩ := F
  obtain ⟨p, e, s, m, args, below, meth, c, D, bs, r0⟩ := K
  obtain ⟨z1, z2, z3, z4, z5, z6, z7⟩ := hz
  obtain ⟨hx1, hb, hml, hown, hts, hKn, hlk, hrt, hht, -, hHa, hstt⟩ := hC
  have a1 : zc h + 1 ≤ zc x0.2 := k1.2.1
  have a2 : zu h + n ≤ zu x0.2 := k1.2.2
  have b1 := z1.2.1
  have b2 := z1.2.2
  have hD : 110 ≤ d := hD
  intro T hT X
  have hat : ∀ a ∈ Bundle.npeArmAtoms n, a.before args s = true := fun a ha => (hA a ha).use hts hKn hHa
  obtain ⟨U, locs', cX, ce, XU, hlo, hst, hus, huo, hcX, hce, hcc, hcv⟩ := zvmNpe X hx1 hstt hat (zThrO hKn z3 z4.2.2) (g := F0 m pc ls st) rfl (z7.1.trans hml.symm) (by show 7 < d; omega) (by show 2 * 0 + (st.map fun v => v.category).sum + 10240 ≤ 100 * d; omega) (by show _ + 1 ≤ zc x0.2 - zc h0'; omega) (by show _ + _ ≤ zu x0.2 - zu h0'; omega)
  obtain ⟨pre, y, rest, e1, e2, e3, e4, e5⟩ := zHd_some hn hht
  obtain ⟨c3, c4, hc3, hc4, hasg⟩ := Cond.castable_spec (hat (.castable Bundle.nN Bundle.nN) (by simp [Bundle.npeArmAtoms]))
  cases hc3.symm.trans hcX
  cases hc4.symm.trans hcX
  subst e4; subst e5
  obtain ⟨vm', XC, hstC⟩ := zCaught XU T.heap.size (g := F0 m pc ls st) rfl hown pre y rest e1 e2 e3 hct (hts _ hl) hcX hce (by rw [hcv]; rfl) (by rw [hcc]; exact hasg)
  have hH : T.heap.size = H.size := by rw [hT]
  have hr : ∀ b, b < zn h → va_up r (zn h) H.size b = r b := fun b hb => va_up_ne r _ (Nat.ne_of_lt hb)
  have S1 : zSim D bs (va_up r (zn h) H.size) (zmke h 1 n) U.heap := zSim_mke z3 (by omega) (by rw [hus]; omega) (fun q hq => by rw [huo q (by omega), hT])
  have hz2 := zAtH_gen (locs' := locs') (st' := [.ref (zn h)]) hz1 (zLx_mke' h 1 n).1 hr (by rw [hus]; omega) (fun q hq hb9 => by rw [huo q (by omega), hT]) (fun q hq => (hlo q hq).elim Or.inl (fun e9 => Or.inr (by rw [e9]; have := z3.2.2.2.1; show bs ≤ _; omega))) (fun v hv => Or.inr (by rw [List.mem_singleton.mp hv]; intro b eb; cases eb; exact Nat.lt_succ_self _)) S1
  have hw2 := hw _ U.heap locs' ls hz2
  have hw2 : W p l e (zRm d (zc x0.2 - zc h0') (zu x0.2 - zu h0')) s m args below meth c U.heap locs' (zc h + 1 - zc h0') (zu h + n - zu h0') _ (F0 m y.handlerPc ls [.ref (va_up r (zn h) H.size (zn h))]) := hw2
  rw [va_up_self, ← hH] at hw2
  obtain ⟨t, a3, b3⟩ := hw2 (U.setVm vm') rfl (XC.mono (by omega) (by omega))
  exact ⟨t, hst.trans (hstC t a3), b3⟩
end ZEX
section ZEY
variable {F : zF} {nL : Nat} {cc : ByteArray} {own nm : String} {ret : Option FieldType} {hh : List (Nat × Nat × Nat × Nat)} {h h' : zH} {pc : Nat} {lc : List (Nat × Value)} {st : List Value} {index hp ct B : Nat}
theorem z_aaldX {t n a : Nat} {ty : FieldType} {i : Int32} (hty : zAt[t]? = some ty) (hnn : n < 2 ^ 31) (hi : ¬ vp_in i n) (ha : zT h a = (t + 100, n)) (hn : zHd hh pc = some (hp, ct)) (hct : ct ≠ 0) (hl : Cond.classLink own ct "java/lang/ArrayIndexOutOfBoundsException" ∈ lw_all) (hD : 110 ≤ F.2.1) (hcat : (st.map fun v => v.category).sum ≤ 8) (he : h' = zmke h 3 300) (hd : decode cc pc = .ok (.aaload, 1)) (kk : Z F nL cc own nm ret hh h' hp lc [.ref (zn h)]) : Z F nL cc own nm ret hh h pc lc (.int i :: .ref a :: st) := by
  subst he
  refine ⟨zLx_tr (zLx_mke' h 3 300) kk.1, fun K hC r H locs ls hz => ?_⟩
  have hnew := zExM (st := st.map (zv r)) zmA_idx (by decide) (by decide) rfl rfl (by decide) hn hct hl (index_text_modelled i n) (by have := index_text_bytes i hnn; omega) (by decide) hD kk hC hz (by rw [List.map_map]; simp only [Function.comp_def, zv_cat]; exact hcat)
  obtain ⟨l, d, h0', x0⟩ := F
  obtain ⟨p, e, s, m, args, below, meth, c, D, bs, r0⟩ := K
  obtain ⟨z1, z2, z3, z4, z5, z6, z7⟩ := hz
  obtain ⟨hx1, hb, hml, hown, hts, hKn, -⟩ := hC
  have han : a < zn h := z6 (.ref a) (by simp) a rfl
  have hc := z3.2.2.2.2.2.2.1 a t n ty han ha hty
  intro T hT X
  obtain ⟨t', s1, s2⟩ := hnew T hT X
  refine ⟨t', ?_, s2⟩
  have hdg : decode c.code pc = .ok (.aaload, 1) := by rw [hb]; exact hd
  jvm_step X.here [hx1, hdg, aaload.wp_sem, zv]
  obtain ⟨g1, k, hk, comp, hkind⟩ := (hKn.2.1 t ty hty).1 n (fun j => zfv r h ty a j)
  obtain ⟨k', hk', hke⟩ := X.warmed.alike.2.2 _ _ hk
  refine ⟨_, by rw [hT]; exact hc, ⟨g1, k', hk', comp, ty, by rw [hke]; exact hkind⟩, ?_⟩
  rw [if_pos (by rw [arrV_size]; exact Classical.not_not.mp hi), arrV_size]
  intro acts
  rw [outOfBounds, afterInstr_throwNew]
  exact s1
end ZEY
section ZEZ
theorem zfc {vm : Vm} {n : String} {c : ClassId} {k : Class} (h : vm.findClass n = some c) (hk : vm.classes[c]? = some k) : k.name = n ∧ k.hidden = none ∧ k.loader = none := by
  obtain ⟨hlt, hp, -⟩ := Array.findIdx?_eq_some_iff_getElem.mp h
  rw [Array.getElem?_eq_getElem hlt] at hk
  cases hk
  simp at hp
  exact ⟨hp.1.1.1, hp.1.1.2, hp.2⟩
theorem zhome {V : State} {k : Class} (hm : modulesRight_1 V = true) (hl : k.loader = none) (hp : packageOf k.name = "") : (V.vm.home k).toList.length ≤ 40 := by
  have hmo : ∀ m, V.vm.moduleOf k = some m → m.name = "java.base" := by
    intro m h
    unfold Vm.moduleOf at h
    split at h
    · have := List.find?_some h
      simpa using this
    · have h1 := List.find?_some h
      have h2 := List.mem_of_find?_eq_some h
      simp only [hl, hp, Bool.and_eq_true, beq_iff_eq] at h1
      unfold modulesRight_1 at hm
      rw [List.all_eq_true] at hm
      have h3 := hm m h2
      rw [h1.1] at h3
      simp only [Option.isSome_none, Bool.false_or, Bool.or_eq_true, beq_iff_eq, Bool.not_eq_true'] at h3
      rcases h3 with h3 | h3
      · exact h3
      · exfalso
        unfold castPackages_1 at h3
        simp only [List.any_cons, List.any_nil, Bool.or_false, Bool.or_eq_false_iff] at h3
        rw [h1.2] at h3
        exact absurd h3.1 (by decide)
  unfold Vm.home
  rw [hl]
  have a2 : (Vm.loaderName V.vm none).toList.length = 11 := by
    show ("'bootstrap'" : String).toList.length = 11
    decide
  simp only [String.toList_append, List.length_append, a2]
  have a1 : (" of loader " : String).toList.length = 11 := by decide
  rw [a1]
  split
  · rename_i m h
    rw [hmo m h]
    have : ("module " ++ "java.base" : String).toList.length = 16 := by decide
    simp only [String.toList_append, List.length_append] at this ⊢
    omega
  · have : ("unnamed module" : String).toList.length = 14 := by decide
    omega
theorem zshown {k : Class} {n : String} (hn : k.name = n) (hh : k.hidden = none) (hl : (dotted n).toList.length ≤ 30) : k.shown.toList.length ≤ 30 := by
  unfold Class.shown
  rw [hh, hn]
  exact hl
theorem zmsgL {V : State} {ks kt : Class} (hm : modulesRight_1 V = true) (hs : ks.shown.toList.length ≤ 30) (ht : kt.shown.toList.length ≤ 30) (hls : ks.loader = none) (hps : packageOf ks.name = "") (hlt : kt.loader = none) (hpt : packageOf kt.name = "") : (stringBytes (stringToUtf16 (Op.checkcast.message V.vm ks kt))).size ≤ 1280 := by
  have b1 := stringBytes_size_le (stringToUtf16 (Op.checkcast.message V.vm ks kt))
  have b2 := utf16_size_le (Op.checkcast.message V.vm ks kt)
  have m1 := zhome hm hls hps
  have m2 := zhome hm hlt hpt
  have b3 : (Op.checkcast.message V.vm ks kt).toList.length ≤ 320 := by
    have hh : (V.vm.homes ks kt).toList.length ≤ 200 := by
      unfold Vm.homes
      split
      · show (toString ks.shown ++ toString " and " ++ toString kt.shown ++ toString " are in " ++ toString (V.vm.home ks)).toList.length ≤ 200
        simp only [String.toList_append, List.length_append]
        have a1 : (toString " and ").toList.length = 5 := by decide
        have a2 : (toString " are in ").toList.length = 8 := by decide
        rw [a1, a2]
        show ks.shown.toList.length + 5 + kt.shown.toList.length + 8 + (V.vm.home ks).toList.length ≤ 200
        omega
      · show (toString ks.shown ++ toString " is in " ++ toString (V.vm.home ks) ++ toString "; " ++ toString kt.shown ++ toString " is in " ++ toString (V.vm.home kt)).toList.length ≤ 200
        simp only [String.toList_append, List.length_append]
        have a1 : (toString " is in ").toList.length = 7 := by decide
        have a2 : (toString "; ").toList.length = 2 := by decide
        rw [a1, a2]
        show ks.shown.toList.length + 7 + (V.vm.home ks).toList.length + 2 + kt.shown.toList.length + 7 + (V.vm.home kt).toList.length ≤ 200
        omega
    show (toString "class " ++ toString ks.shown ++ toString " cannot be cast to class " ++ toString kt.shown ++ toString " (" ++ toString (V.vm.homes ks kt) ++ toString ")").toList.length ≤ 320
    simp only [String.toList_append, List.length_append]
    have a1 : (toString "class ").toList.length = 6 := by decide
    have a2 : (toString " cannot be cast to class ").toList.length = 25 := by decide
    have a3 : (toString " (").toList.length = 2 := by decide
    have a4 : (toString ")").toList.length = 1 := by decide
    rw [a1, a2, a3, a4]
    show 6 + ks.shown.toList.length + 25 + kt.shown.toList.length + 2 + (V.vm.homes ks kt).toList.length + 1 ≤ 320
    omega
  omega
theorem zmsgM {vm : Vm} {ks kt : Class} : (Op.checkcast.message vm ks kt == notModelled) = false := by
  rw [beq_eq_false_iff_ne]
  intro h
  have h2 := congrArg String.toList h
  have h3 : (Op.checkcast.message vm ks kt).toList = 'c' :: ("lass ".toList ++ ks.shown.toList ++ " cannot be cast to class ".toList ++ kt.shown.toList ++ " (".toList ++ (vm.homes ks kt).toList ++ ")".toList) := by
    show (toString "class " ++ toString ks.shown ++ toString " cannot be cast to class " ++ toString kt.shown ++ toString " (" ++ toString (vm.homes ks kt) ++ toString ")").toList = _
    simp only [String.toList_append]
    rfl
  rw [h3] at h2
  have h4 : notModelled.toList = '\u0000' :: " a message that is not modelled".toList := by decide
  rw [h4] at h2
  simp at h2
variable {F : zF} {nL : Nat} {cc : ByteArray} {own nm : String} {ret : Option FieldType} {hh : List (Nat × Nat × Nat × Nat)} {h h' : zH} {pc : Nat} {lc : List (Nat × Value)} {st : List Value} {index hp ct ci : Nat}
/-- a field of null, under a handler of NullPointerException's -/
theorem z_getNX {k n : Nat} {ty : FieldType} {fin : Bool} (hf : zFd own index ci k ty fin) (hA : ∀ a ∈ Bundle.npeArmAtoms n, zHas a) (hn : zHd hh pc = some (hp, ct)) (hct : ct ≠ 0) (hl : Cond.classLink own ct "java/lang/NullPointerException" ∈ lw_all) (hD : 110 ≤ F.2.1) (hcat : (st.map fun v => v.category).sum ≤ 8) (he : h' = zmke h 1 n) (hd : decode cc pc = .ok (.getfield index, 3)) (kk : Z F nL cc own nm ret hh h' hp lc [.ref (zn h)]) : Z F nL cc own nm ret hh h pc lc (.null :: st) := by
  obtain ⟨ref, q, tys, hq, hts0, hk, hty, hfi, hlk, hsm⟩ := hf
  subst he
  refine ⟨zLx_tr (zLx_mke' h 1 n) kk.1, fun K hC r H locs ls hz => ?_⟩
  have hnew := zExN (st := st.map (zv r)) hA hn hct hl hD kk hC hz (by rw [List.map_map]; simp only [Function.comp_def, zv_cat]; exact hcat)
  obtain ⟨l, d, h0', x0⟩ := F
  obtain ⟨p, e, s, m, args, below, meth, c, D, bs, r0⟩ := K
  obtain ⟨z1, z2, z3, z4, z5, z6, z7⟩ := hz
  obtain ⟨hx1, hb, hml, hown, hts, hKn, -⟩ := hC
  obtain ⟨hSl, hfc, kC, hkC, hkind⟩ := hKn.1 ci q hq
  obtain ⟨cf, kf, fi, f, hi, hsl⟩ := hSl k hk
  obtain ⟨hin, -, -⟩ := zCl_ok hq hts0
  have hi' : s.fieldFound? ref (q.2.1 k).2.1 (q.2.1 k).2.2.1 = some (cf, kf, fi, f) := by
    rcases hsm with e | e
    · rw [e]; exact hi
    · exact u_same (hts _ e) _ hi
  have hst := (u_facts hfc hkC (u_lays hts hin hk) hi).1
  intro T hT X
  have hdg : decode c.code pc = .ok (.getfield index, 3) := by rw [hb]; exact hd
  rcases hlk with hlk | ⟨host, hlk⟩
  · obtain ⟨vm', X', st'⟩ := X.getfieldNull hx1 hown (hts _ hlk) hi' hst (g := F0 m pc ls ((Value.null :: st).map (zv r))) rfl (rest := st.map (zv r)) rfl hdg
    obtain ⟨t', s1, s2⟩ := hnew (T.setVm vm') hT X'
    exact ⟨t', st' t' s1, s2⟩
  · obtain ⟨vm', X', st'⟩ := X.getfieldNullNest hx1 hown (va_Nw.use rfl (hKn.2.2.1 _ hlk rfl)) hi' hst (g := F0 m pc ls ((Value.null :: st).map (zv r))) rfl (rest := st.map (zv r)) rfl hdg
    obtain ⟨t', s1, s2⟩ := hnew (T.setVm vm') hT X'
    exact ⟨t', st' t' s1, s2⟩
/-- a cast that fails, under a handler of ClassCastException's -/
theorem z_castX {a : Nat} {q : vw_C} {tys : Nat → FieldType} {C : String} (hq : zCl[ci]? = some q) (hts0 : zTys[ci]? = some tys) (hcl : Cond.classLink own index C ∈ lw_all) (hno : (q.1, C) ∈ zNc) (ha : zT h a = (ci + 1, 0)) (hp1 : packageOf q.1 = "" ∧ (dotted q.1).toList.length ≤ 30) (hp2 : packageOf C = "" ∧ (dotted C).toList.length ≤ 30) (hn : zHd hh pc = some (hp, ct)) (hct : ct ≠ 0) (hl : Cond.classLink own ct "java/lang/ClassCastException" ∈ lw_all) (hD : 110 ≤ F.2.1) (hcat : (st.map fun v => v.category).sum ≤ 7) (he : h' = zmke h 3 1300) (hd : decode cc pc = .ok (.checkcast index, 3)) (kk : Z F nL cc own nm ret hh h' hp lc [.ref (zn h)]) : Z F nL cc own nm ret hh h pc lc (.ref a :: st) := by
  subst he
  refine ⟨zLx_tr (zLx_mke' h 3 1300) kk.1, fun K hC r H locs ls hz => ?_⟩
  have hnew := fun text h1 h2 => zExM (st := (Value.ref a :: st).map (zv r)) (text := text) zmA_cce (by decide) (by decide) rfl rfl (by decide) hn hct hl h1 h2 (by decide) hD kk hC hz (by rw [List.map_map]; simp only [Function.comp_def, zv_cat]; show 1 + (st.map fun v => v.category).sum ≤ 8; omega)
  obtain ⟨l, d, h0', x0⟩ := F
  obtain ⟨p, e, s, m, args, below, meth, c, D, bs, r0⟩ := K
  obtain ⟨z1, z2, z3, z4, z5, z6, z7⟩ := hz
  obtain ⟨hx1, hb, hml, hown, hts, hKn, -, -, -, -, hHa, -⟩ := hC
  have han : a < zn h := z6 (.ref a) (by simp) a rfl
  obtain ⟨cell, q1, q2, q3, -⟩ := z3.2.2.2.2.2.1 a ci q tys han ha hq hts0
  obtain ⟨hSl, hfc, kC, hkC, hkind⟩ := hKn.1 ci q hq
  obtain ⟨c1, c2, hn1, hn2, hn3⟩ := hKn.2.2.2.2.1 _ hno
  have hn1 : s.vm.findClass q.1 = some c1 := hn1
  have hn2 : s.vm.findClass C = some c2 := hn2
  have hn3 : s.vm.assignable c1 c2 = false := hn3
  have e1 : c1 = D.1 ci := Option.some.inj (hn1.symm.trans hfc)
  subst e1
  intro T hT X
  have hpl : e.platform.magicAccessors = ({} : Platform).magicAccessors := by rw [X.admits.platform]
  obtain ⟨cc', hfcc, hcl9⟩ := Cond.classLink_spec hown (hts _ hcl) e.platform hpl
  cases hn2.symm.trans hfcc
  obtain ⟨hg₁, hwarm₁, hready₁⟩ := State.classEntry (e := e) X.warmed hcl9
  generalize T.vm.noted m.cls index (.cls c2) = vm₁ at hg₁ hwarm₁ hready₁
  have hal : s.vm.Alike vm₁ := hwarm₁.alike
  obtain ⟨kT, hkT, -⟩ := Vm.findClass_spec hn2
  obtain ⟨ks₁, hks₁, heks⟩ := hal.2.2 _ _ hkC
  obtain ⟨kt₁, hkt₁, hekt⟩ := hal.2.2 _ _ hkT
  obtain ⟨a1, a2, a3⟩ := zfc hfc hkC
  obtain ⟨b1, b2, b3⟩ := zfc hn2 hkT
  have as1 : ks₁.name = q.1 ∧ ks₁.hidden = none ∧ ks₁.loader = none := by rw [heks]; exact ⟨a1, a2, a3⟩
  have bs1 : kt₁.name = C ∧ kt₁.hidden = none ∧ kt₁.loader = none := by rw [hekt]; exact ⟨b1, b2, b3⟩
  have hmr : modulesRight_1 (s.setVm vm₁) = true := (hKn.2.2.2.2.2 (s.setVm vm₁) hal hHa).2.1
  have hX₁ := X.noted hwarm₁
  obtain ⟨t', s1, s2⟩ := hnew (Op.checkcast.message vm₁ ks₁ kt₁) zmsgM (by have := zmsgL (V := s.setVm vm₁) hmr (zshown as1.1 as1.2.1 hp1.2) (zshown bs1.1 bs1.2.1 hp2.2) as1.2.2 (by rw [as1.1]; exact hp1.1) bs1.2.2 (by rw [bs1.1]; exact hp2.1); have this : (stringBytes (stringToUtf16 (Op.checkcast.message vm₁ ks₁ kt₁))).size ≤ 1280 := this; omega) (T.setVm vm₁) hT hX₁
  refine ⟨t', ?_, s2⟩
  have hdg : decode c.code pc = .ok (.checkcast index, 3) := by rw [hb]; exact hd
  show Steps p.tables e below (T.setTop (F0 m pc ls (.ref (r a) :: st.map (zv r)))) t'
  jvm_step X.here [hx1, hdg, checkcast.wp_cold (e := e) (s := T) (f := F0 m pc ls (.ref (r a) :: st.map (zv r))) (a := r a) (rest := st.map (zv r)) X.here.top rfl hg₁ hready₁, checkcast.wp_ready (e := e) (s := T.setVm vm₁) (f := F0 m pc ls (.ref (r a) :: st.map (zv r))) (x := .ref (r a)) (rest := st.map (zv r)) X.here.top hready₁ rfl]
  refine ⟨cell, by show T.heap[r a]? = _; rw [hT]; exact q1, (fun k9 => by rw [q3]; simp), ks₁, by rw [q2]; exact hks₁, kt₁, hkt₁, ?_⟩
  rw [if_neg (by rw [q2]; show ¬ vm₁.assignable _ _ = true; rw [hal.assignable, hn3]; decide)]
  exact s1
end ZEZ
/-! an exception goes past a handler of another class -/
section ZPS
theorem zFt_go2 {Q : Handler → Pre} {E : CtlPost} {e : Env} {d : Bool} {acts : List Action} {s : State} {f : JFrame} {a : Addr} {x : ExceptionTableEntry} {t : List ExceptionTableEntry} {c : ClassId} {cell : Cell} (hx : covers x f.pc = true) (h0 : x.catchType ≠ 0)
    (hl : s.vm.ClassLinks e.platform f.method.cls x.catchType c) (hcell : s.heap[a]? = some cell) (hobj : ∀ k, cell.vm ≠ .statics k) (hk : ∃ k, s.vm.classes[cell.cls]? = some k) (hc : ∃ k, s.vm.classes[c]? = some k) (hfit : s.vm.assignable cell.cls c = false) :
    wp (findHandler.go f a (x :: t)) Q E e d acts s ↔ wp (findHandler.go f a t) Q E e d acts (s.setVm (s.vm.noted f.method.cls x.catchType (.cls c))) := by
  simp only [covers] at hx
  obtain ⟨ha, ht⟩ := (resolveClass_links e.toSetting hl).op (op := VmOp.resolveClass f.method.cls x.catchType) rfl
  have hal : s.vm.Alike (s.vm.noted f.method.cls x.catchType (.cls c)) := (Vm.Alike.refl s.vm).noted _ _ _
  obtain ⟨k1, hk1⟩ := hk
  obtain ⟨k2, hk2⟩ := hc
  obtain ⟨k1', hk1', -⟩ := hal.2.2 _ _ hk1
  obtain ⟨k2', hk2', -⟩ := hal.2.2 _ _ hk2
  have hfit' : (s.vm.noted f.method.cls x.catchType (.cls c)).assignable cell.cls c = false := by rw [hal.assignable]; exact hfit
  simp [findHandler.go, hx, h0, ha, ht, hcell, hobj, hk1', hk2', hfit', VmOp.dirties, VmOp.acts]
theorem zFt_pass {e : Env} {s : State} {f : JFrame} {a : Addr} {meth : Method} {code : Code} (hm : s.vm.method? f.method = some meth) (hc : meth.code = some code)
    (pre : List ExceptionTableEntry) (x : ExceptionTableEntry) (rest : List ExceptionTableEntry) (hsplit : code.exceptionTable.toList = pre ++ x :: rest)
    (hskip : ∀ y ∈ pre, covers y f.pc = false) (hrest : ∀ y ∈ rest, covers y f.pc = false) (hx : covers x f.pc = true) (h0 : x.catchType ≠ 0) {c : ClassId} {cell : Cell}
    (hl : s.vm.ClassLinks e.platform f.method.cls x.catchType c) (hcell : s.heap[a]? = some cell) (hobj : ∀ k, cell.vm ≠ .statics k)
    (hk : ∃ k, s.vm.classes[cell.cls]? = some k) (hcl : ∃ k, s.vm.classes[c]? = some k) (hfit : s.vm.assignable cell.cls c = false) :
    zFt e s f a .none (s.vm.noted f.method.cls x.catchType (.cls c)) := by
  intro Q E d acts
  rw [Jvm.W.findHandler_eq hm hc, hsplit]
  clear hsplit
  induction pre with
  | nil =>
    rw [List.nil_append, zFt_go2 hx h0 hl hcell hobj hk hcl hfit]
    exact Jvm.W.findHandler_go_outside rest hrest
  | cons y ys ih =>
    rw [List.cons_append, Jvm.W.findHandler_go_skip (hskip y List.mem_cons_self)]
    exact ih (fun z hz => hskip z (List.mem_cons_of_mem _ hz))
theorem zFt_leave {e : Env} {s : State} {a : Addr} {f : JFrame} {r : List Frame} {meth : Method} {vm' : Vm}
    (hm : vm'.method? f.method = some meth) (hl : meth.locks = false) (hlocked : f.locked = none) (hentered : f.entered = []) (hfind : zFt e s f a .none vm') :
    (stepThrowing e s a (.java f :: r)).Is ((s.setVm vm').setFrames (.throwing a :: r)) [] := by
  simp only [stepThrowing, searchFrame, vmDo]
  generalize hr : Sem.go _ e false [] s = res
  obtain ⟨as, rfl, ha⟩ := Sem.eq_ok_of hr (a := Handler.none) (s' := s.setVm vm') (acts' := [])
    (by cases hp : e.platform.frameOwnsMonitors <;> simp [hfind _ _ _ _, hm, hl, hlocked, hentered, hp, leaveIfLocked])
  exact ⟨rfl, ha⟩
theorem zPassed {p : Program} {l : Launch} {e : Env} {R : Room} {s : State} {m : MethodId} {args : Array Value} {below : List Frame} {meth : Method} {c : Code} {T : State} {locs : List Loc} {cells slots : Nat} (X : Stand p l e R s m args below meth c T locs cells slots) (a : Addr) {g : JFrame} (hg : g.method = m) (hlocked : g.locked = none) (hentered : g.entered = []) (hlocks : meth.locks = false) {own name : String} (hown : s.vm.findClass own = some m.cls)
    (pre : List ExceptionTableEntry) (x : ExceptionTableEntry) (rest : List ExceptionTableEntry) (hsplit : c.exceptionTable.toList = pre ++ x :: rest) (hskip : ∀ y ∈ pre, covers y g.pc = false) (hrest : ∀ y ∈ rest, covers y g.pc = false) (hx : covers x g.pc = true) (h0 : x.catchType ≠ 0)
    (hlink : (Cond.classLink own x.catchType name).before args s = true) {cT : ClassId} {cell : Cell} (hcT : s.vm.findClass name = some cT) (hcell : T.heap[a]? = some cell) (hobj : cell.vm.isStatics = false) (hk : ∃ k, s.vm.classes[cell.cls]? = some k) (hfit : s.vm.assignable cell.cls cT = false) :
    ∃ U : State, U.heap = T.heap ∧ Steps p.tables e below ((T.setTop g).pushFrame (.throwing a)) U ∧ U.status = .running ∧ Ended U below (.threw a) ∧ s.WarmedH U.vm ∧ s.sameButNew ({ U with vm := s.vm } : State) locs cells slots := by
  have hpl : e.platform.magicAccessors = ({} : Platform).magicAccessors := by rw [X.admits.platform]
  obtain ⟨c', hc', hcl⟩ := Cond.classLink_spec hown hlink e.platform hpl
  cases hcT.symm.trans hc'
  obtain ⟨dk, _, _, kt, hd, _, _, _, _, hkt, _, hopen⟩ := hcl.here
  have hcl₀ := X.warmed.classLinks hcl
  have hW' : s.WarmedH (T.vm.noted m.cls x.catchType (.cls cT)) := X.warmed.noted hd hopen (State.rightAt_cls hcl)
  have hal := X.warmed.alike
  obtain ⟨kt', hkt', -⟩ := hal.2.2 _ _ hkt
  obtain ⟨k0, hk0⟩ := hk
  obtain ⟨k0', hk0', -⟩ := hal.2.2 _ _ hk0
  have hfit' : T.vm.assignable cell.cls cT = false := by rw [hal.assignable]; exact hfit
  have X' := X.noted hW'
  have hft := zFt_pass (e := e) (s := (T.setTop g).pushFrame (.throwing a)) (f := g) (a := a) (meth := meth) (code := c) (by rw [hg]; exact X.method') X.code pre x rest hsplit hskip hrest hx h0 (c := cT) (cell := cell) (by rw [hg]; exact hcl₀) hcell (VmData.ne_statics_of hobj) ⟨k0', hk0'⟩ ⟨kt', hkt'⟩ hfit'
  subst hg
  have hA : At T g.method c below := X.here
  obtain ⟨g₀, hfr⟩ := X'.frames_eq
  refine ⟨(T.setVm (T.vm.noted g.method.cls x.catchType (.cls cT))).setFrames (.throwing a :: below), rfl, ?_, X'.here.running, State.frames_setFrames _ (State.cur_lt_of_frames hfr), (X'.ends _).1, (X'.ends _).2⟩
  obtain ⟨hgo, hw⟩ := hA.throwing a
  refine Steps.head hgo hw ?_
  rw [stepThread_throwing (frames_entered hA.top _), (zFt_leave (s := (T.setTop g).pushFrame (.throwing a)) (meth := meth) X'.method' hlocks hlocked hentered hft).1]
  obtain ⟨g₁, hg1⟩ := Option.isSome_iff_exists.mp hA.top
  obtain ⟨r, hr⟩ := State.topJava?_eq_some.mp hg1
  have hrb : r = below := by have := X.tail; rw [hr] at this; exact this
  rw [hr, List.tail_cons, State.pushFrame, zFt_fr, State.setTop_of_frames _ hr, zFt_fr, hrb]
  exact Steps.refl _
/-- handlers that cover a place: one alone, of a class that isn't the exception's -/
def zH1 (hh : List (Nat × Nat × Nat × Nat)) (pc ct : Nat) : Bool := match hh.filter (fun q => decide (q.1 ≤ pc ∧ pc < q.2.1)) with
  | [q] => q.2.2.2 == ct
  | _ => false
theorem zH1_some {hh : List (Nat × Nat × Nat × Nat)} {pc ct : Nat} (h : zH1 hh pc ct = true) {tb : List ExceptionTableEntry} (ht : tb.map (fun x => (x.startPc, x.endPc, x.handlerPc, x.catchType)) = hh) : ∃ (pre : List ExceptionTableEntry) (x : ExceptionTableEntry) (rest : List ExceptionTableEntry), tb = pre ++ x :: rest ∧ (∀ y ∈ pre, covers y pc = false) ∧ (∀ y ∈ rest, covers y pc = false) ∧ covers x pc = true ∧ x.catchType = ct := by
  subst ht
  have hcov : ∀ y : ExceptionTableEntry, covers y pc = decide (y.startPc ≤ pc ∧ pc < y.endPc) := fun y => by simp [covers, Bool.decide_and]
  induction tb with
  | nil => simp [zH1] at h
  | cons y t ih =>
    by_cases hy : covers y pc = true
    · have h1 : decide (y.startPc ≤ pc ∧ pc < y.endPc) = true := by rw [← hcov]; exact hy
      have h2 : (List.map (fun x : ExceptionTableEntry => (x.startPc, x.endPc, x.handlerPc, x.catchType)) (y :: t)).filter (fun q => decide (q.1 ≤ pc ∧ pc < q.2.1)) = (y.startPc, y.endPc, y.handlerPc, y.catchType) :: (List.map (fun x : ExceptionTableEntry => (x.startPc, x.endPc, x.handlerPc, x.catchType)) t).filter (fun q => decide (q.1 ≤ pc ∧ pc < q.2.1)) := by
        rw [List.map_cons, List.filter_cons, if_pos h1]
      unfold zH1 at h
      rw [h2] at h
      split at h
      · rename_i q e
        have e1 := List.cons.inj e
        refine ⟨[], y, t, rfl, (fun z hz => by cases hz), fun z hz => ?_, hy, by rw [← e1.1] at h; simpa using h⟩
        rw [hcov]
        have e2 := e1.2
        rw [List.filter_eq_nil_iff] at e2
        simpa using e2 _ (List.mem_map.mpr ⟨z, hz, rfl⟩)
      · cases h
    · have h1 : ¬ decide (y.startPc ≤ pc ∧ pc < y.endPc) = true := by rw [← hcov]; exact hy
      have h2 : zH1 (List.map (fun x : ExceptionTableEntry => (x.startPc, x.endPc, x.handlerPc, x.catchType)) (y :: t)) pc ct = zH1 (List.map (fun x : ExceptionTableEntry => (x.startPc, x.endPc, x.handlerPc, x.catchType)) t) pc ct := by
        unfold zH1
        rw [List.map_cons, List.filter_cons, if_neg h1]
      rw [h2] at h
      obtain ⟨pre, x, rest, e1, e2, e3, e4, e5⟩ := ih h
      refine ⟨y :: pre, x, rest, by rw [e1]; rfl, fun z hz => ?_, e3, e4, e5⟩
      rcases List.mem_cons.mp hz with e | e
      · rw [e]; simpa using hy
      · exact e2 z e
variable {F : zF} {nL : Nat} {cc : ByteArray} {own nm : String} {ret : Option FieldType} {hh : List (Nat × Nat × Nat × Nat)} {h : zH} {pc : Nat} {lc : List (Nat × Value)}
theorem zt_pass {a ci ct : Nat} {C : String} {q : vw_C} {ty : Nat → FieldType} (hn : zH1 hh pc ct = true) (hct : ct ≠ 0) (hl : Cond.classLink own ct C ∈ lw_all) (hq : zCl[ci]? = some q) (hty : zTys[ci]? = some ty) (ha : zT h a = (ci + 1, 0)) (hno : (q.1, C) ∈ zNc) (hx : (.inr a, h) = zEnd F) : ZT F nL cc own nm ret hh h pc lc a := by
  obtain ⟨l, d, h0, x⟩ := F
  have hx : (.inr a, h) = x := hx
  subst hx
  refine ⟨zLx_rf h, fun K hC r H locs ls st hz => ?_⟩
  obtain ⟨p, e, s, m, args, below, meth, c, D, bs, r0⟩ := K
  obtain ⟨z1, z2, z3, z4, z5, z6, z7⟩ := hz
  obtain ⟨hx1, hb, -, hown, hts, hKn, hlk, hrt, hht, -⟩ := hC
  intro T hT X
  obtain ⟨pre, y, rest, e1, e2, e3, e4, e5⟩ := zH1_some hn hht
  have han : a < zn h := z6 (.ref a) List.mem_cons_self a rfl
  obtain ⟨cell, q1, q2, q3, -⟩ := z3.2.2.2.2.2.1 a ci q ty han ha hq hty
  obtain ⟨-, hfc, kC, hkC, hkind⟩ := hKn.1 ci q hq
  obtain ⟨c1, c2, hn1, hn2, hn3⟩ := hKn.2.2.2.2.1 _ hno
  have hn1 : s.vm.findClass q.1 = some c1 := hn1
  have hn2 : s.vm.findClass C = some c2 := hn2
  have hn3 : s.vm.assignable c1 c2 = false := hn3
  have e6 : c1 = D.1 ci := Option.some.inj (hn1.symm.trans hfc)
  subst e6; subst e5
  obtain ⟨U, hU, hs, h1, h2, h3, h4⟩ := zPassed X (r a) (g := F0 m pc ls st) rfl rfl rfl hlk hown pre y rest e1 e2 e3 e4 hct (hts _ hl) hn2 (by rw [hT]; exact q1) (by rw [q3]; rfl) ⟨kC, by rw [q2]; exact hkC⟩ (by rw [q2]; exact hn3)
  refine ⟨U, hs, _, h1, h2, ⟨r, z2, ?_, rfl, z6 (.ref a) List.mem_cons_self a rfl, z4.F (hU.trans hT)⟩, locs, ⟨h3, h4⟩, z4.2.2⟩
  rw [hU, hT]
  exact z3
end ZPS
/-! two roads, by what holds -/
noncomputable def zcs {α : Type} (c : Prop) (x y : Option α) : Option α := @ite _ c (Classical.propDecidable c) x y
theorem zcs_some {α : Type} {c : Prop} {x y : Option α} {z : α} (h : zcs c x y = some z) : (c ∧ x = some z) ∨ (¬ c ∧ y = some z) := by
  unfold zcs at h
  split at h
  · rename_i hc; exact Or.inl ⟨hc, h⟩
  · rename_i hc; exact Or.inr ⟨hc, h⟩
/-- a page that is no table -/
def zFm (h : zH) (a : Nat) : Prop := ∃ ci, (ci = 8 ∨ ci = 9 ∨ ci = 10) ∧ zOb ci h a
section ZCF
variable {F : zF} {nL : Nat} {cc : ByteArray} {own nm : String} {ret : Option FieldType} {hh : List (Nat × Nat × Nat × Nat)} {h h' : zH} {pc : Nat} {lc : List (Nat × Value)} {st : List Value} {index hp ct ci : Nat}
theorem z_castF {a : Nat} (hcl : Cond.classLink own index "CodeExchange$Table" ∈ lw_all) (hF : zFm h a) (hn : zHd hh pc = some (hp, ct)) (hct : ct ≠ 0) (hl : Cond.classLink own ct "java/lang/ClassCastException" ∈ lw_all) (hD : 110 ≤ F.2.1) (hcat : (st.map fun v => v.category).sum ≤ 7) (he : h' = zmke h 3 1300) (hd : decode cc pc = .ok (.checkcast index, 3)) (kk : Z F nL cc own nm ret hh h' hp lc [.ref (zn h)]) : Z F nL cc own nm ret hh h pc lc (.ref a :: st) := by
  obtain ⟨ci, hci, hO⟩ := hF
  have hp2 : packageOf "CodeExchange$Table" = "" ∧ (dotted "CodeExchange$Table").toList.length ≤ 30 := by decide +kernel
  rcases hci with rfl | rfl | rfl
  · exact z_castX (ci := 8) rfl rfl hcl (by decide) ((hO.b 0 rfl).t 0 rfl) (by decide +kernel) hp2 hn hct hl hD hcat he hd kk
  · exact z_castX (ci := 9) rfl rfl hcl (by decide) ((hO.b 0 rfl).t 0 rfl) (by decide +kernel) hp2 hn hct hl hD hcat he hd kk
  · exact z_castX (ci := 10) rfl rfl hcl (by decide) ((hO.b 0 rfl).t 0 rfl) (by decide +kernel) hp2 hn hct hl hD hcat he hd kk
end ZCF
/-! a call of an interface's default method: the interface itself isn't told to be ready, so the callee's walk is taken as it stands -/
section ZDF
variable {p : Program} {l : Launch} {e : Env} {R : Room} {s : State} {m : MethodId} {args : Array Value} {below : List Frame} {meth : Method} {c : Code} {U : State} {locs : List Loc} {cells slots : Nat}
theorem zBackD (X : Stand p l e R s m args below meth c U locs cells slots) {g : JFrame} (hg : g.method = m) (hsize : g.locals.size = c.maxLocals) {ig : Instr} {len : Nat} (hdg : decode c.code g.pc = .ok (ig, len)) (hW : 2 * g.monitorRoom + (g.stack.map fun v => v.category).sum ≤ 8)
    {y : MethodName} {mk : MethodId} {a : Array Value} (hy : plainName y.cls = true) (hn : U.methodNamed? y = some mk) {rm : Room} {Qc : Outcome → State → Prop} {mc ms : Nat} {free : Addr → Prop}
    {methY : Method} {cY : Code} {maxL : Nat} (hmY : U.vm.method? mk = some methY) (hcY : methY.code = some cY) (hlY : cY.maxLocals = maxL) (hlk : methY.locks = false)
    (hframes : rm.frames + 1 ≤ R.frames) (hlocals : 8 + (maxL + 11) + rm.locals ≤ R.locals) (hcells : cells + rm.cells ≤ R.cells) (hslots : slots + rm.slots ≤ R.slots)
    (body : ∀ s₁ : State, s₁ = (U.calling g mk a).setFrames (.java (entryFrame mk a maxL) :: .java g :: below) → Stand p l e rm (U.calling g mk a) mk a (.java g :: below) methY cY s₁ [] 0 0 →
      ∃ (s₂ : State) (o : Outcome), Steps p.tables e (.java g :: below) (s₁.setTop (entryFrame mk a maxL)) s₂ ∧ Ended s₂ (.java g :: below) o ∧ Qc o s₂ ∧ ∃ L, zE (U.calling g mk a) s₂ L mc ms ∧ ∀ q ∈ L, free q.base) :
    ∃ (o : Outcome) (t T' : State) (L : List Loc), Stand p l e R s m args below meth c T' (locs ++ L) (cells + mc) (slots + ms) ∧ (∀ q ∈ L, free q.base) ∧ T'.heap = t.heap ∧ Qc o t ∧
      (∀ v, o = .returned v → Steps p.tables e below (doInvoke e (U.setTop g) [] mk a).1 (T'.setTop { g with pc := g.pc + len, stack := v.toList ++ g.stack })) := by
  have h : At U g.method c below := by rw [hg]; exact X.here
  have hf : (U.calling g mk a).frames = .invoking mk a :: .java g :: below := by rw [State.frames_calling h.top, X.tail]
  have hroom : (U.calling g mk a).hasRoom e.platform rm = true := X.room_calling (g := g) (R' := rm) hsize hmY hcY hframes (by rw [hlY]; omega) hcells hslots
  have hcode : (U.calling g mk a).code? g.method = some c := by
    have := h.code
    rw [State.code?_eq] at this ⊢
    simpa [State.calling, State.pushFrame, State.setFrames] using this
  have hhears : (U.calling g mk a).hears mk (.java g :: below) = true := by simp [State.hears, hcode, hdg, Except.toOption]
  have hrun : (U.calling g mk a).status = .running := h.running
  have hable : (U.calling g mk a).curStatus? = some .runnable := by simpa [State.calling] using h.runnable
  have halone : (U.calling g mk a).alone = true := by simpa [State.calling] using h.alone
  have hcur := State.cur_lt_of_frames hf
  have hmc : (U.calling g mk a).vm.method? mk = some methY := hmY
  have hf1 : ((U.calling g mk a).setFrames (.java (entryFrame mk a maxL) :: .java g :: below)).frames = .java (entryFrame mk a maxL) :: .java g :: below := State.frames_setFrames _ hcur
  have ht1 := State.topJava?_of_frames hf1
  have hplain : ((U.calling g mk a).setFrames (.java (entryFrame mk a maxL) :: .java g :: below)).plainMethod mk := by
    refine State.plainMethod.of_name ?_
    intro k hk
    obtain ⟨k', hk', hn'⟩ := className_of_methodNamed hn
    cases (show U.vm.classes[mk.cls]? = some k from hk).symm.trans hk'
    rw [hn']; exact hy
  have hAt : At ((U.calling g mk a).setFrames (.java (entryFrame mk a maxL) :: .java g :: below)) mk cY (.java g :: below) :=
    ⟨by rw [ht1]; rfl, ⟨[], by rw [hf1]; rfl⟩, hrun, by simpa using hable, by simpa using halone, by rw [State.code?_eq]; simp [State.setFrames, hmc, hcY], hplain⟩
  obtain ⟨t0, ht0, -⟩ := State.frames_cons hf
  have X₀ : Stand p l e rm (U.calling g mk a) mk a (.java g :: below) methY cY ((U.calling g mk a).setFrames (.java (entryFrame mk a maxL) :: .java g :: below)) [] 0 0 := by
    refine ⟨X.admits, X.cas, X.clock, hf, hroom, hhears, hmc, hcY, hAt, by rw [hf1]; rfl, State.WarmedH.refl _, by rw [State.stackLimits_setFrames], by rw [State.stackBytes_setFrames], ?_⟩
    exact (State.sameButNew.refl _ ht0).setFrames _ hcur
  obtain ⟨s₂, o, hs, hend, hq, L, ⟨hW₂, hsame⟩, hL⟩ := body _ rfl X₀
  have hstep : (doInvoke e (U.setTop g) [] mk a).1 = ((U.calling g mk a).setFrames (.java (entryFrame mk a maxL) :: .java g :: below)).setTop (entryFrame mk a maxL) := by
    have hfs : (U.setTop g).frames = .java g :: below := by rw [State.frames_setTop' g h.top, X.tail]
    have hlim : e.platform.stackLimits (U.calling g mk a).me = e.platform.stackLimits (U.setTop g).me := by rw [State.calling, State.pushFrame, State.stackLimits_setFrames]
    have hfull : e.platform.stackFull (U.setTop g).me (U.setTop g).frames cY.maxLocals = false := by
      obtain ⟨-, h1, -, h2⟩ := State.hasRoom_stack hroom
      rw [hf, List.length_cons] at h1
      rw [State.localsInUse_invoking hf hmc hcY] at h2
      have hw := stackUse_le_stackWeight (.java g :: below)
      rw [hfs]
      rw [hlim] at h1 h2
      exact Platform.stackFull_eq_false (by omega) (by omega)
    rw [(doInvoke_java (s := U.setTop g) (e := e) (meth := methY) (code := cY) hmY hcY hlk hfull).1, State.setTop_self ht1, State.pushFrame, hfs, State.calling, State.pushFrame, State.setFrames_setFrames, hlY]
    rfl
  have hs' : Steps p.tables e below (doInvoke e (U.setTop g) [] mk a).1 s₂ := by
    rw [hstep]
    obtain ⟨n, hn1, hw⟩ := hs
    exact ⟨n, hn1, fun j hj => Within.weaken (mid := [.java g]) (hw j hj)⟩
  cases o with
  | returned v =>
    obtain ⟨T', X', -, -, ht⟩ := X.outOf hg hdg hend hW₂ hsame
    refine ⟨_, s₂, T', L, X', hL, by rw [ht, zheap_top], hq, fun v' ev => ?_⟩
    cases ev
    rw [← ht]
    exact hs'
  | threw x =>
    obtain ⟨T', X', -, -, ht⟩ := X.outOfThrown hg hend hW₂ hsame
    refine ⟨_, s₂, T', L, X', hL, ?_, hq, (fun v' ev => by cases ev)⟩
    rw [ht]; exact (throwing_heap T' g x).symm
end ZDF
section ZDG
variable {F : zF} {nL : Nat} {cc : ByteArray} {nm : String} {ret : Option FieldType} {hh : List (Nat × Nat × Nat × Nat)} {h : zH} {pc : Nat} {lc : List (Nat × Value)} {st : List Value} {ci b d' count : Nat} {v : Int32}
theorem z_invD (hci : ci = 3 ∨ ci = 4) (k : Z (F.1, d', h, (.inl (some (.int v)), h)) 1 cX14_isEmpty RX14 "isEmpty" (some .boolean) [] h 0 [(0, .ref b)] []) (hb : zT h b = (ci + 1, 0)) (hdp : d' + 1 ≤ F.2.1) (hcat : (st.map fun v => v.category).sum ≤ 8) (hd : decode cc pc = .ok (.invokeinterface 357 count, 5)) (kk : Z F nL cc RX0 nm ret hh h (pc + 5) lc (.int v :: st)) : Z F nL cc RX0 nm ret hh h pc lc (.ref b :: st) := by
  refine ⟨kk.1, fun K hC r H locs ls hz => ?_⟩
  obtain ⟨l, d, h0, x0⟩ := F
  obtain ⟨p, e, s, m, args, below, meth, c, D, bs, r0⟩ := K
  obtain ⟨z1, z2, z3, z4, z5, z6, z7⟩ := hz
  obtain ⟨hx1, hbc, hml, hown, hts, hKn, hC1⟩ := hC
  obtain ⟨-, -, -, -, hHa, hstt⟩ := id hC1
  have hbn : b < zn h := z6 (.ref b) List.mem_cons_self b rfl
  have hst : ∀ v ∈ st, zok (zn h) v := fun v hv => z6 v (List.mem_cons_of_mem _ hv)
  obtain ⟨q, ty, hq, hty, hland, hcast⟩ : ∃ (q : vw_C) (ty : Nat → FieldType), zCl[ci]? = some q ∧ zTys[ci]? = some ty ∧ q.1 ∈ ["CodeExchange$Reader", "CodeExchange$Writer"] ∧ Cond.castable q.1 "CodeExchange$Steps" ∈ lw_tbl := by
    rcases hci with rfl | rfl
    · exact ⟨_, _, rfl, rfl, by simp [RX5], q1256⟩
    · exact ⟨_, _, rfl, rfl, by simp [RX6], q1270⟩
  obtain ⟨cellB, q1, q2, q3, -⟩ := z3.2.2.2.2.2.1 b ci q ty hbn hb hq hty
  obtain ⟨hfc, kB, hkB, -⟩ := (hKn.1 ci q hq).2
  have hcls : s.vm.findClass q.1 = some cellB.cls := by rw [q2]; exact hfc
  obtain ⟨hdecl, hface⟩ := hKn.2.2.2.1 yX14_isEmpty (by simp [yX14_isEmpty, RX14])
  obtain ⟨rr0, rr, hnx, hrm, hstR, hsigR⟩ := Cond.declares_spec (va_Nw.use (A := args) rfl hdecl)
  obtain ⟨cL, kL, r1, hcL, hkL, hiL, hfoundL, hn1⟩ := Cond.interfaceMethod_spec (va_Nw.use (A := args) rfl hface)
  cases hnx.symm.trans hn1
  have hr0cls : rr0.cls = cL := Option.some.inj ((findClass_of_methodNamed hnx).symm.trans hcL)
  obtain ⟨mk, methM, hnamed, hmethM, -, habM⟩ := Cond.instanceMethod_spec (hts _ q1258)
  obtain ⟨c2, r2, m2, rm, p1, p2, p3, p5, p4, p6⟩ := (hKn.2.2.2.2.2 s (Vm.Alike.refl _) hHa).2.2.1 _ hland
  cases hcls.symm.trans p1
  cases hfoundL.symm.trans p2
  cases (show s.methodNamed? yX14_isEmpty = some mk from hnamed).symm.trans p3
  cases hrm.symm.trans p5
  intro T hT X
  have hselP : selectMethod e.platform s.vm cellB.cls rr0 = .method mk := by rw [Launch.admits_selectMethod X.admits]; exact p4
  have hpubM : hasFlag methM.accessFlags Acc.public_ = true := Cond.publicMethod_spec hnamed hmethM (va_Nw.use (A := args) rfl (hKn.2.2.1 _ q1259 rfl))
  obtain ⟨c3, t3, w1, w2, w3⟩ := Cond.castable_spec (va_Nw.use (A := args) rfl (hKn.2.2.1 _ hcast rfl))
  cases hcls.symm.trans w1
  cases hcL.symm.trans w2
  have hlen : ([] : List Value).length = rr.sig.parameters.length := by
    have e1 : parseMethodDescriptor "()Z" = some rr.sig := hsigR
    have e2 : (parseMethodDescriptor "()Z").map (fun d => d.parameters.length) = some 0 := by decide +kernel
    rw [e1] at e2
    exact (Option.some.inj e2).symm
  have hdg : decode c.code pc = .ok (.invokeinterface 357 count, 5) := by rw [hbc]; exact hd
  obtain ⟨vm₁, X₁, hstep₁⟩ := X.invokeinterface hx1 hown (hts _ q1253) hnx hrm hstR (by rw [hr0cls]; exact hkL) hiL ⟨by decide, by decide⟩ (a := r b) (cell := cellB) (kcell := kB) (by rw [hT]; exact q1)
    (fun z h9 => by rw [q3] at h9; cases h9) (by rw [q2]; exact hkB) (by rw [hr0cls]; exact w3) hselP hmethM p6 hpubM habM (g := F0 m pc ls ((Value.ref b :: st).map (zv r))) rfl (argsL := []) (rest := st.map (zv r)) hlen rfl hdg
  have hW1 : s.WarmedH (T.setVm vm₁).vm := X₁.warmed
  have hn1 : (T.setVm vm₁).methodNamed? yX14_isEmpty = some mk := X₁.named hnamed
  obtain ⟨methY, cY, hmY, hcY, hbY, hlY, hrY, hkY, hnoY, -⟩ := Cond.code_spec hn1 (zword hW1 q1260 (hts _ q1260) (a' := args))
  have hst9 : l.stackTraces = false := by have e1 := hstt; rw [X.admits.platform] at e1; exact e1
  have hdp1 : d' + 1 ≤ d := hdp
  have a1 : zc h ≤ zc x0.2 := kk.1.1.2.1
  have a2 : zu h ≤ zu x0.2 := kk.1.1.2.2
  obtain ⟨o, t, T', L, X', hL, hTt, hqq, hret⟩ := zBackD X₁ (g := F0 m pc ls (st.map (zv r))) rfl (z7.1.trans hml.symm) hdg (by show 2 * 0 + _ ≤ 8; rw [List.map_map]; simp only [Function.comp_def, zv_cat]; omega) (y := yX14_isEmpty) (by decide) hn1 (a := #[.ref (r b)]) (rm := zRm d' 0 0) (mc := 0) (ms := 0) (free := fun q => bs ≤ q) (Qc := fun o t => zQ D bs r h (.inl (some (.int v)), h) #[.ref (r b)] ((T.setVm vm₁).calling (F0 m pc ls (st.map (zv r))) mk #[.ref (r b)]) o t) hmY hcY hlY hkY
    (by show d' + 1 ≤ d; exact hdp1) (by show 8 + (1 + 11) + 100 * d' ≤ 100 * d; omega) (by show _ + 0 ≤ zc x0.2 - zc h0; omega) (by show _ + 0 ≤ zu x0.2 - zu h0; omega) (fun s₁ hs1 X0 => by
      have hl := lv_entry ([Value.ref b].map (zv r)) (n := 1) (Nat.le_of_eq rfl)
      rw [zlv_args] at hl
      have hne : cY.exceptionTable.toList.map (fun x => (x.startPc, x.endPc, x.handlerPc, x.catchType)) = [] := by
        have h2 : cY.exceptionTable = #[] := by simpa using hnoY
        rw [h2]; rfl
      have hW2 : s.WarmedH ((T.setVm vm₁).calling (F0 m pc ls (st.map (zv r))) mk #[.ref (r b)]).vm := hW1
      have hh9 : ((T.setVm vm₁).calling (F0 m pc ls (st.map (zv r))) mk #[.ref (r b)]).heap = H := by
        show (((T.setVm vm₁).setTop (F0 m pc ls (st.map (zv r))))).heap = H
        rw [zheap_top]
        exact hT
      have hag : D.2.2.2.size ≤ bs ∧ ∀ q : Nat, q < bs → H[q]? = D.2.2.2[q]? := z3.2.2.2.2.2.2.2.2.2.2
      have hk := k.2 (p, e, (T.setVm vm₁).calling (F0 m pc ls (st.map (zv r))) mk #[.ref (r b)], mk, #[.ref (r b)], .java (F0 m pc ls (st.map (zv r))) :: below, methY, cY, D, bs, r) ⟨hx1, hbY, hlY, findClass_of_methodNamed hn1, fun w hw9 => zword hW2 hw9 (hts w hw9), zKn_warm hW2 hKn, hkY, hrY, hne, (name_of_methodNamed hn1 hmY).1, (fun q hq => by rw [hh9]; exact hag.2 q (Nat.lt_of_lt_of_le hq hag.1)), hstt⟩ r H [] _ ⟨zLe_rf h, fun _ _ => rfl, z3, (by rw [hh9]; exact va_S.rf), (fun q hq => by rw [List.mem_singleton.mp hq]; intro b9 eb; cases eb; exact hbn), (fun w hw9 => by cases hw9), hl⟩
      have hk : W p l e (zRm d' (zc h - zc h) (zu h - zu h)) ((T.setVm vm₁).calling (F0 m pc ls (st.map (zv r))) mk #[.ref (r b)]) mk #[.ref (r b)] (.java (F0 m pc ls (st.map (zv r))) :: below) methY cY H [] (zc h - zc h) (zu h - zu h) _ _ := hk
      rw [Nat.sub_self, Nat.sub_self] at hk
      rw [lg_entry_eq]
      obtain ⟨t, b0, o, b1, b2, b3, b4⟩ := hk s₁ (by rw [hs1]; exact hh9) X0
      exact ⟨t, o, b0, b2, b3, b4⟩)
  obtain ⟨r', y1, y2, y3, y4, y5⟩ := hqq
  have y2 : zSim D bs r' h t.heap := y2
  have y5 : ((T.setVm vm₁).calling (F0 m pc ls (st.map (zv r))) mk #[.ref (r b)]).heap.size ≤ t.heap.size ∧ ∀ q : Nat, q < ((T.setVm vm₁).calling (F0 m pc ls (st.map (zv r))) mk #[.ref (r b)]).heap.size → ¬ bs ≤ q → t.heap[q]? = ((T.setVm vm₁).calling (F0 m pc ls (st.map (zv r))) mk #[.ref (r b)]).heap[q]? := y5
  have hh9 : ((T.setVm vm₁).calling (F0 m pc ls (st.map (zv r))) mk #[.ref (r b)]).heap = H := by
    show (((T.setVm vm₁).setTop (F0 m pc ls (st.map (zv r))))).heap = H
    rw [zheap_top]
    exact hT
  rw [hh9] at y5
  have hz2 := zAtH_gen (F := (l, d, h0, x0)) (K := (p, e, s, m, args, below, meth, c, D, bs, r0)) (locs' := locs ++ L) (st' := .int v :: st) (H' := T'.heap) ⟨z1, z2, z3, z4, z5, z6, z7⟩ (zLe_rf h) y1 (by rw [hTt]; exact y5.1) (fun q hq hb9 => by rw [hTt]; exact y5.2 q hq hb9) (fun q hq => (List.mem_append.mp hq).elim Or.inl (fun e9 => Or.inr (hL q e9))) (fun w hw9 => by
    rcases List.mem_cons.mp hw9 with e9 | e9
    · right; rw [e9]; exact zok_int _ _
    · left; exact List.mem_cons_of_mem _ e9) (by rw [hTt]; exact y2)
  have hw' := kk.2 (p, e, s, m, args, below, meth, c, D, bs, r0) ⟨hx1, hbc, hml, hown, hts, hKn, hC1⟩ r' T'.heap (locs ++ L) ls hz2
  obtain ⟨t2, s1, s2⟩ := hw' T' rfl X'
  refine ⟨t2, hstep₁ _ (fun acts => ?_), s2⟩
  rw [doInvoke_state]
  refine (hret _ y3).trans ?_
  have e9 : (Value.int v :: st).map (zv r') = Value.int v :: st.map (zv r) := by
    rw [List.map_cons, zmap_ext y1 hst]; rfl
  rw [e9] at s1
  exact s1
end ZDG
