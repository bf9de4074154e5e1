/-! the invoking instructions -/
set_option maxRecDepth 100000
def zNH (y : MethodName) (n : Nat) : Prop := (y.cls ≠ "java/lang/invoke/MethodHandle" ∧ y.cls ≠ "java/lang/invoke/VarHandle") ∧ (parseMethodDescriptor y.desc).map (fun d => d.parameters.length) = some n
theorem zNH_len {y : MethodName} {n : Nat} (h : zNH y n) {sig : MethodDescriptor} (hs : parseMethodDescriptor y.desc = some sig) : n = sig.parameters.length := by
  have h2 := h.2
  rw [hs] at h2
  exact (Option.some.inj h2).symm
theorem zsig {args : Array Value} {s : State} {y : MethodName} {ws : List Cond} {maxL : Nat} (hgd : zGood y ws maxL) (hts : ∀ w ∈ lw_all, w.before args s = true) {mk : MethodId} {methM : Method} (hn : s.methodNamed? y = some mk) (hm : s.vm.method? mk = some methM) : parseMethodDescriptor y.desc = some methM.sig := by
  rcases hgd.2.1 with ⟨b, rr, hc⟩ | ⟨b, rr, hh', hc⟩
  · obtain ⟨methY, cY, q1, -, -, -, -, -, -, q2⟩ := Cond.code_spec hn (hts _ hc)
    cases hm.symm.trans q1
    exact q2
  · obtain ⟨m9, methY, cY, hn9, q1, -, -, -, -, -, -, q2⟩ := Cond.codeWith_spec (hts _ hc)
    cases hn.symm.trans hn9
    cases hm.symm.trans q1
    exact q2
/-- a method's link, a nest mate's too -/
def zLm (own : String) (index : Nat) (y : MethodName) : Prop := Cond.methodLink own index y ∈ lw_all ∨ ∃ host, Cond.methodLinkNest own index y host ∈ lw_tbl
section ZI
variable {F : zF} {nL : Nat} {cc : ByteArray} {own nm : String} {ret : Option FieldType} {hh : List (Nat × Nat × Nat × Nat)} {h : zH} {pc : Nat} {lc : List (Nat × Value)} {st stk : List Value} {y x : MethodName} {ws : List Cond} {maxL d' index ci n b : Nat} {As : List Value} {x1 : zX}
theorem zrev {As st : List Value} {b : Nat} : As.reverse ++ .ref b :: st = (Value.ref b :: As).reverse ++ st := by simp
theorem zrevm {As st : List Value} {b : Nat} (r : Nat → Nat) : (As.reverse ++ .ref b :: st).map (zv r) = (As.map (zv r)).reverse ++ .ref (r b) :: st.map (zv r) := by simp [zv]
def zIv (own : String) (index : Nat) (y : MethodName) (ws : List Cond) (maxL ci n : Nat) : Prop := zGood y ws maxL ∧ (∃ (q : vw_C) (ty : Nat → FieldType), zCl[ci]? = some q ∧ zTys[ci]? = some ty ∧ Cond.selects q.1 y y ∈ lw_all) ∧ zLm own index y ∧ Cond.instanceMethod y ∈ lw_all ∧ zNH y n
theorem z_invV (hI : zIv own index y ws maxL ci n) (hM : zC F.1 y ws d' (.ref b :: As) h x1) (hb : zT h b = (ci + 1, 0)) (hdp : d' + 1 ≤ F.2.1 ∧ maxL ≤ 81) (hn : As.length = n) (hstk : stk = As.reverse ++ .ref b :: st) (hcat : (st.map fun v => v.category).sum ≤ 8) (hd : decode cc pc = .ok (.invokevirtual index, 3)) (kk : zBeh F nL cc own nm ret hh pc 3 lc st x1) : Z F nL cc own nm ret hh h pc lc stk := by
  obtain ⟨hgd, ⟨q, ty, hq, hty, hsel⟩, hlk, hin, hnh⟩ := hI
  subst hstk
  refine z_call hM hgd hdp zrev hcat (fun K hC r H locs ls hz => ?_) kk
  obtain ⟨l, d, h0, x⟩ := F
  obtain ⟨p, e, s, m, args, below, meth, c, D, bs, r0⟩ := K
  obtain ⟨z1, z2, z3, z4, z5, z6, z7⟩ := hz
  obtain ⟨hx1, hbc, hml, hown, hts, hKn, -⟩ := hC
  intro T hT X
  have hbn : b < zn h := z6 (.ref b) (List.mem_append_right _ List.mem_cons_self) b rfl
  obtain ⟨cellB, q1, q2, q3, -⟩ := z3.2.2.2.2.2.1 b ci q ty hbn hb hq hty
  have hcls : s.vm.findClass q.1 = some cellB.cls := by rw [q2]; exact (hKn.1 ci q hq).2.1
  obtain ⟨mk, methM, hnamed, hmethM, hstM, habM⟩ := Cond.instanceMethod_spec (hts _ hin)
  obtain ⟨c2, r2, m2, p1, p2, p3, p4, kP, hkP, hkPi⟩ := Cond.selects_spec (hts _ hsel)
  cases hcls.symm.trans p1
  cases (State.methodFound?_of_named hnamed hnh.1).symm.trans p2
  cases hnamed.symm.trans p3
  have hselP : selectMethod e.platform s.vm cellB.cls mk = .method mk := by rw [Launch.admits_selectMethod X.admits]; exact p4
  have hlen : (As.map (zv r)).length = methM.sig.parameters.length := by rw [List.length_map, hn]; exact zNH_len hnh (zsig hgd hts hnamed hmethM)
  have hdg : decode c.code pc = .ok (.invokevirtual index, 3) := by rw [hbc]; exact hd
  rcases hlk with hlk | ⟨host, hlk⟩
  · obtain ⟨vm₁, X₁, hstep₁⟩ := X.invokevirtual hx1 hown (hts _ hlk) hnamed hmethM hstM hkP hkPi hnh.1 (a := r b) (cell := cellB) (by rw [hT]; exact q1)
      (fun z h => by rw [q3] at h; cases h) hselP hmethM habM hkP hkPi (g := F0 m pc ls ((As.reverse ++ .ref b :: st).map (zv r))) rfl (argsL := As.map (zv r)) (rest := st.map (zv r)) hlen (zrevm r) hdg
    exact ⟨vm₁, mk, _, X₁, hnamed, hdg, fun tg ht => hstep₁ _ fun acts => by rw [doInvoke_state]; exact ht⟩
  · obtain ⟨vm₁, X₁, hstep₁⟩ := X.invokevirtualNest hx1 hown (va_Nw.use rfl (hKn.2.2.1 _ hlk rfl)) hnamed hmethM hstM hkP hkPi hnh.1 (a := r b) (cell := cellB) (by rw [hT]; exact q1)
      (fun z h => by rw [q3] at h; cases h) hselP hmethM habM hkP hkPi (g := F0 m pc ls ((As.reverse ++ .ref b :: st).map (zv r))) rfl (argsL := As.map (zv r)) (rest := st.map (zv r)) hlen (zrevm r) hdg
    exact ⟨vm₁, mk, _, X₁, hnamed, hdg, fun tg ht => hstep₁ _ fun acts => by rw [doInvoke_state]; exact ht⟩
def zIs (own : String) (index : Nat) (y : MethodName) (ws : List Cond) (maxL n : Nat) : Prop := zGood y ws maxL ∧ zLm own index y ∧ Cond.static y ∈ lw_all ∧ zNH y n
theorem znamed {args : Array Value} {s : State} {y : MethodName} {ws : List Cond} {maxL : Nat} (hgd : zGood y ws maxL) (hts : ∀ w ∈ lw_all, w.before args s = true) : ∃ mk methM, s.methodNamed? y = some mk ∧ s.vm.method? mk = some methM := by
  rcases hgd.2.1 with ⟨b, rr, hc⟩ | ⟨b, rr, hh', hc⟩
  · obtain ⟨mk, hn⟩ := Cond.code_named (hts _ hc)
    obtain ⟨methY, cY, q1, -⟩ := Cond.code_spec hn (hts _ hc)
    exact ⟨mk, methY, hn, q1⟩
  · obtain ⟨m9, methY, cY, hn9, q1, -⟩ := Cond.codeWith_spec (hts _ hc)
    exact ⟨m9, methY, hn9, q1⟩
theorem z_invS (hI : zIs own index y ws maxL n) (hM : zC F.1 y ws d' As h x1) (hdp : d' + 1 ≤ F.2.1 ∧ maxL ≤ 81) (hn : As.length = n) (hstk : stk = As.reverse ++ st) (hcat : (st.map fun v => v.category).sum ≤ 8) (hd : decode cc pc = .ok (.invokestatic index, 3)) (kk : zBeh F nL cc own nm ret hh pc 3 lc st x1) : Z F nL cc own nm ret hh h pc lc stk := by
  obtain ⟨hgd, hlk, hstt, hnh⟩ := hI
  subst hstk
  refine z_call hM hgd hdp rfl hcat (fun K hC r H locs ls hz => ?_) kk
  obtain ⟨l, d, h0, x⟩ := F
  obtain ⟨p, e, s, m, args, below, meth, c, D, bs, r0⟩ := K
  obtain ⟨hx1, hbc, hml, hown, hts, hKn, -⟩ := hC
  intro T hT X
  obtain ⟨mk, methM, hnamed, hmethM⟩ := znamed hgd hts
  have hstatic : methM.isStatic = true := Cond.static_spec hnamed hmethM (hts _ hstt)
  obtain ⟨kP, hkP, -⟩ := className_of_methodNamed hnamed
  have hinitP : kP.init = .initialized := Cond.initialized_spec (findClass_of_methodNamed hnamed) hkP (hts _ hgd.2.2)
  have hlen : (As.map (zv r)).length = methM.sig.parameters.length := by rw [List.length_map, hn]; exact zNH_len hnh (zsig hgd hts hnamed hmethM)
  have hdg : decode c.code pc = .ok (.invokestatic index, 3) := by rw [hbc]; exact hd
  have hsk : (As.reverse ++ st).map (zv r) = (As.map (zv r)).reverse ++ st.map (zv r) := by simp
  rcases hlk with hlk | ⟨host, hlk⟩
  · obtain ⟨vm₁, X₁, hstep₁⟩ := X.invokestatic hx1 hown (hts _ hlk) hnamed hmethM hstatic hkP hinitP hnh.1 (g := F0 m pc ls ((As.reverse ++ st).map (zv r))) rfl (argsL := As.map (zv r)) (rest := st.map (zv r)) hlen hsk hdg
    exact ⟨vm₁, mk, _, X₁, hnamed, hdg, fun tg ht => hstep₁ _ fun acts => by rw [doInvoke_state]; exact ht⟩
  · obtain ⟨vm₁, X₁, hstep₁⟩ := X.invokestaticNest hx1 hown (va_Nw.use rfl (hKn.2.2.1 _ hlk rfl)) hnamed hmethM hstatic hkP hinitP hnh.1 (g := F0 m pc ls ((As.reverse ++ st).map (zv r))) rfl (argsL := As.map (zv r)) (rest := st.map (zv r)) hlen hsk hdg
    exact ⟨vm₁, mk, _, X₁, hnamed, hdg, fun tg ht => hstep₁ _ fun acts => by rw [doInvoke_state]; exact ht⟩
def zIi (own : String) (index : Nat) (y : MethodName) (bt : ByteArray) (maxL n : Nat) : Prop := zGood y (ws_ y bt maxL none) maxL ∧ y.name = "<init>" ∧ zLm own index y ∧ Cond.instanceMethod y ∈ lw_all ∧ Cond.code y bt maxL none ∈ lw_all ∧ zNH y n
theorem z_invI {bt : ByteArray} (hI : zIi own index y bt maxL n) (hM : zC F.1 y (ws_ y bt maxL none) d' (.ref b :: As) h x1) (hdp : d' + 1 ≤ F.2.1 ∧ maxL ≤ 81) (hn : As.length = n) (hstk : stk = As.reverse ++ .ref b :: st) (hcat : (st.map fun v => v.category).sum ≤ 8) (hd : decode cc pc = .ok (.invokespecial index, 3)) (kk : zBeh F nL cc own nm ret hh pc 3 lc st x1) : Z F nL cc own nm ret hh h pc lc stk := by
  obtain ⟨hgd, hy1, hlk, hin, hcd, hnh⟩ := hI
  subst hstk
  refine z_call hM hgd hdp zrev hcat (fun K hC r H locs ls hz => ?_) kk
  obtain ⟨l, d, h0, x⟩ := F
  obtain ⟨p, e, s, m, args, below, meth, c, D, bs, r0⟩ := K
  obtain ⟨hx1, hbc, hml, hown, hts, hKn, -⟩ := hC
  intro T hT X
  have hlen : ∀ sig, parseMethodDescriptor y.desc = some sig → (As.map (zv r)).length = sig.parameters.length := fun sig h => by rw [List.length_map, hn]; exact zNH_len hnh h
  have hdg : decode c.code pc = .ok (.invokespecial index, 3) := by rw [hbc]; exact hd
  have hpl : e.platform.magicAccessors = ({} : Platform).magicAccessors := by rw [X.admits.platform]
  rcases hlk with hlk | ⟨host, hlk⟩
  · obtain ⟨mk, methM, cM, kP, vm₁, hnamed, hmethM, hcodeM, -, hlocalsM, -, hkP, -, hW₁, hstep₁⟩ := Steps.initColdArgs (e := e) X.here hx1 X.warmed hpl hown hy1 hnh.1 (hts _ hlk) (hts _ hin) (hts _ hcd) (f := F0 m pc ls ((As.reverse ++ .ref b :: st).map (zv r))) rfl hlen (zrevm r) hdg
    exact ⟨vm₁, mk, _, X.noted hW₁, hnamed, hdg, fun tg ht => hstep₁ _ fun acts => by rw [doInvoke_state]; exact ht⟩
  · obtain ⟨mk, methM, cM, kP, vm₁, hnamed, hmethM, hcodeM, -, hlocalsM, -, hkP, -, hW₁, hstep₁⟩ := Steps.initColdArgsNest (e := e) X.here hx1 X.warmed hpl hown hy1 hnh.1 (va_Nw.use rfl (hKn.2.2.1 _ hlk rfl)) (hts _ hin) (hts _ hcd) (f := F0 m pc ls ((As.reverse ++ .ref b :: st).map (zv r))) rfl hlen (zrevm r) hdg
    exact ⟨vm₁, mk, _, X.noted hW₁, hnamed, hdg, fun tg ht => hstep₁ _ fun acts => by rw [doInvoke_state]; exact ht⟩
end ZI
