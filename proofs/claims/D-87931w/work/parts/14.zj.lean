/-! inherited and abstract methods, interfaces, super, Object's constructor, casts -/
set_option maxRecDepth 100000
section ZJ
variable {F : zF} {nL : Nat} {cc : ByteArray} {own nm : String} {ret : Option FieldType} {hh : List (Nat × Nat × Nat × Nat)} {h : zH} {pc : Nat} {lc : List (Nat × Value)} {st stk : List Value} {y x : MethodName} {ws : List Cond} {maxL d' index ci n b : Nat} {As : List Value} {x1 : zX} {owner : String}
def zIu (own : String) (index : Nat) (x : MethodName) (owner : String) (y : MethodName) (ws : List Cond) (maxL ci n : Nat) : Prop := zGood y ws maxL ∧ (∃ (q : vw_C) (ty : Nat → FieldType), zCl[ci]? = some q ∧ zTys[ci]? = some ty ∧ Cond.selects q.1 x y ∈ lw_all) ∧ Cond.methodLink own index x ∈ lw_all ∧ Cond.sameMethod x.cls owner x.name x.desc ∈ lw_all ∧ ((Cond.instanceMethod ⟨owner, x.name, x.desc⟩ ∈ lw_all ∧ ∃ b0 m0 r0, Cond.code ⟨owner, x.name, x.desc⟩ b0 m0 r0 ∈ lw_all) ∨ Cond.declares ⟨owner, x.name, x.desc⟩ ∈ lw_tbl) ∧ (owner ≠ "java/lang/invoke/MethodHandle" ∧ owner ≠ "java/lang/invoke/VarHandle") ∧ Cond.instanceMethod y ∈ lw_all ∧ (parseMethodDescriptor x.desc).map (fun d => d.parameters.length) = some n
theorem z_invU (hI : zIu own index x owner y ws maxL ci n) (hM : zC F.1 y ws d' (.ref b :: As) h x1) (hb : zT h b = (ci + 1, 0)) (hdp : d' + 1 ≤ F.2.1 ∧ maxL ≤ 81) (hn : As.length = n) (hstk : stk = As.reverse ++ .ref b :: st) (hcat : (st.map fun v => v.category).sum ≤ 8) (hd : decode cc pc = .ok (.invokevirtual index, 3)) (kk : zBeh F nL cc own nm ret hh pc 3 lc st x1) : Z F nL cc own nm ret hh h pc lc stk := by
  obtain ⟨hgd, ⟨q, ty, hq, hty, hsel⟩, hlk, hsm, hdc, how, hin, hnh⟩ := hI
  subst hstk
  refine z_call hM hgd hdp zrev hcat (fun K hC r H locs ls hz => ?_) kk
  obtain ⟨l, d, h0, x0⟩ := F
  obtain ⟨p, e, s, m, args, below, meth, c, D, bs, r0⟩ := K
  obtain ⟨z1, z2, z3, z4, z5, z6, z7⟩ := hz
  obtain ⟨hx1, hbc, hml, hown, hts, hKn, -⟩ := hC
  intro T hT X
  have hbn : b < zn h := z6 (.ref b) (List.mem_append_right _ List.mem_cons_self) b rfl
  obtain ⟨cellB, q1, q2, q3, -⟩ := z3.2.2.2.2.2.1 b ci q ty hbn hb hq hty
  have hcls : s.vm.findClass q.1 = some cellB.cls := by rw [q2]; exact (hKn.1 ci q hq).2.1
  have hd0 : va_Decl s ⟨owner, x.name, x.desc⟩ := by
    rcases hdc with ⟨g, _, _, _, g2⟩ | g
    · exact va_Decl.of (hts _ g) (hts _ g2)
    · exact va_Decl.abs (hKn.2.2.1 _ g rfl)
  obtain ⟨rr0, rr, hnx, hrm, hstR, hsigR⟩ := hd0
  obtain ⟨cn, ck, r1, hcn, hck, hni, hf, hn1⟩ := Cond.sameMethod_found (hts _ hsm)
  cases hnx.symm.trans hn1
  obtain ⟨mk, methM, hnamed, hmethM, -, habM⟩ := Cond.instanceMethod_spec (hts _ hin)
  obtain ⟨c2, r2, m2, p1, p2, p3, p4, kP, hkP, hkPi⟩ := Cond.selects_spec (hts _ hsel)
  cases hcls.symm.trans p1
  cases hf.symm.trans p2
  cases hnamed.symm.trans p3
  have hselP : selectMethod e.platform s.vm cellB.cls rr0 = .method mk := by rw [Launch.admits_selectMethod X.admits]; exact p4
  have hlen : (As.map (zv r)).length = rr.sig.parameters.length := by
    rw [List.length_map, hn]
    rw [show parseMethodDescriptor x.desc = some rr.sig from hsigR] at hnh
    exact (Option.some.inj hnh).symm
  have hdg : decode c.code pc = .ok (.invokevirtual index, 3) := by rw [hbc]; exact hd
  obtain ⟨vm₁, X₁, hstep₁⟩ := X.invokevirtualUp hx1 hown (hts _ hlk) (hts _ hsm) how hnx hrm hstR (a := r b) (cell := cellB) (by rw [hT]; exact q1)
    (fun z h => by rw [q3] at h; cases h) hselP hmethM habM hkP hkPi (g := F0 m pc ls ((As.reverse ++ .ref b :: st).map (zv r))) rfl (argsL := As.map (zv r)) (rest := st.map (zv r)) hlen (zrevm r) hdg
  exact ⟨vm₁, mk, _, X₁, hnamed, hdg, fun tg ht => hstep₁ _ fun acts => by rw [doInvoke_state]; exact ht⟩
def zIf (own : String) (index : Nat) (x y : MethodName) (ws : List Cond) (maxL ci n : Nat) : Prop := zGood y ws maxL ∧ (∃ (q : vw_C) (ty : Nat → FieldType), zCl[ci]? = some q ∧ zTys[ci]? = some ty ∧ Cond.selects q.1 x y ∈ lw_all ∧ Cond.unhidden q.1 x.name x.desc ∈ lw_tbl ∧ Cond.castable q.1 x.cls ∈ lw_tbl) ∧ Cond.methodLink own index x ∈ lw_all ∧ x ∈ zIm ∧ Cond.publicMethod y ∈ lw_tbl ∧ Cond.instanceMethod y ∈ lw_all ∧ (parseMethodDescriptor x.desc).map (fun d => d.parameters.length) = some n
theorem z_invF {count : Nat} (hI : zIf own index x y ws maxL ci n) (hM : zC F.1 y ws d' (.ref b :: As) h x1) (hb : zT h b = (ci + 1, 0)) (hdp : d' + 1 ≤ F.2.1 ∧ maxL ≤ 81) (hn : As.length = n) (hstk : stk = As.reverse ++ .ref b :: st) (hcat : (st.map fun v => v.category).sum ≤ 8) (hd : decode cc pc = .ok (.invokeinterface index count, 5)) (kk : zBeh F nL cc own nm ret hh pc 5 lc st x1) : Z F nL cc own nm ret hh h pc lc stk := by
  obtain ⟨hgd, ⟨q, ty, hq, hty, hsel, hunh, hcast⟩, hlk, him, hpub, hin, hnh⟩ := hI
  subst hstk
  refine z_call hM hgd hdp zrev hcat (fun K hC r H locs ls hz => ?_) kk
  obtain ⟨l, d, h0, x0⟩ := F
  obtain ⟨p, e, s, m, args, below, meth, c, D, bs, r0⟩ := K
  obtain ⟨z1, z2, z3, z4, z5, z6, z7⟩ := hz
  obtain ⟨hx1, hbc, hml, hown, hts, hKn, -⟩ := hC
  intro T hT X
  have hbn : b < zn h := z6 (.ref b) (List.mem_append_right _ List.mem_cons_self) b rfl
  obtain ⟨cellB, q1, q2, q3, -⟩ := z3.2.2.2.2.2.1 b ci q ty hbn hb hq hty
  obtain ⟨hfc, kB, hkB, -⟩ := (hKn.1 ci q hq).2
  have hcls : s.vm.findClass q.1 = some cellB.cls := by rw [q2]; exact hfc
  obtain ⟨hdecl, hface⟩ := hKn.2.2.2.1 x him
  obtain ⟨rr0, rr, hnx, hrm, hstR, hsigR⟩ := Cond.declares_spec (va_Nw.use (A := args) rfl hdecl)
  obtain ⟨cL, kL, r1, hcL, hkL, hiL, hfoundL, hn1⟩ := Cond.interfaceMethod_spec (va_Nw.use (A := args) rfl hface)
  cases hnx.symm.trans hn1
  have hr0cls : rr0.cls = cL := Option.some.inj ((findClass_of_methodNamed hnx).symm.trans hcL)
  obtain ⟨hnameR, hdescR⟩ := name_of_methodNamed hnx hrm
  obtain ⟨mk, methM, hnamed, hmethM, -, habM⟩ := Cond.instanceMethod_spec (hts _ hin)
  obtain ⟨c2, r2, m2, p1, p2, p3, p4, -⟩ := Cond.selects_spec (hts _ hsel)
  cases hcls.symm.trans p1
  cases hfoundL.symm.trans p2
  cases hnamed.symm.trans p3
  have hselP : selectMethod e.platform s.vm cellB.cls rr0 = .method mk := by rw [Launch.admits_selectMethod X.admits]; exact p4
  have hpubM : hasFlag methM.accessFlags Acc.public_ = true := Cond.publicMethod_spec hnamed hmethM (va_Nw.use (A := args) rfl (hKn.2.2.1 _ hpub rfl))
  have hway : ((cellB.cls :: s.vm.superclasses cellB.cls).any fun k => (declaredIn s.vm rr.name rr.desc k).any fun (_, z) => z.isPrivate || z.isStatic) = false := by
    rw [hnameR, hdescR]; exact Cond.unhidden_spec hcls (va_Nw.use (A := args) rfl (hKn.2.2.1 _ hunh rfl))
  obtain ⟨c3, t3, w1, w2, w3⟩ := Cond.castable_spec (va_Nw.use (A := args) rfl (hKn.2.2.1 _ hcast rfl))
  cases hcls.symm.trans w1
  cases hcL.symm.trans w2
  have hlen : (As.map (zv r)).length = rr.sig.parameters.length := by
    rw [List.length_map, hn]
    rw [show parseMethodDescriptor x.desc = some rr.sig from hsigR] at hnh
    exact (Option.some.inj hnh).symm
  have hdg : decode c.code pc = .ok (.invokeinterface index count, 5) := by rw [hbc]; exact hd
  obtain ⟨vm₁, X₁, hstep₁⟩ := X.invokeinterface hx1 hown (hts _ hlk) hnx hrm hstR (by rw [hr0cls]; exact hkL) hiL (zIm_ok x him) (a := r b) (cell := cellB) (kcell := kB) (by rw [hT]; exact q1)
    (fun z h => by rw [q3] at h; cases h) (by rw [q2]; exact hkB) (by rw [hr0cls]; exact w3) hselP hmethM hway hpubM habM (g := F0 m pc ls ((As.reverse ++ .ref b :: st).map (zv r))) rfl (argsL := As.map (zv r)) (rest := st.map (zv r)) hlen (zrevm r) hdg
  exact ⟨vm₁, mk, _, X₁, hnamed, hdg, fun tg ht => hstep₁ _ fun acts => by rw [doInvoke_state]; exact ht⟩
def zIz (own : String) (index : Nat) (y : MethodName) (ws : List Cond) (maxL n : Nat) : Prop := zGood y ws maxL ∧ Cond.methodLink own index y ∈ lw_all ∧ Cond.sameMethod y.cls y.cls y.name y.desc ∈ lw_all ∧ Cond.superclass own y.cls ∈ lw_all ∧ Cond.instanceMethod y ∈ lw_all ∧ y.name ≠ "<init>" ∧ zNH y n
/-- super.y(..) -/
theorem z_invZ {q : vw_C} {ty : Nat → FieldType} (hI : zIz own index y ws maxL n) (hM : zC F.1 y ws d' (.ref b :: As) h x1) (hq : zCl[ci]? = some q) (hty : zTys[ci]? = some ty) (hb : zT h b = (ci + 1, 0)) (hdp : d' + 1 ≤ F.2.1 ∧ maxL ≤ 81) (hn : As.length = n) (hstk : stk = As.reverse ++ .ref b :: st) (hcat : (st.map fun v => v.category).sum ≤ 8) (hd : decode cc pc = .ok (.invokespecial index, 3)) (kk : zBeh F nL cc own nm ret hh pc 3 lc st x1) : Z F nL cc own nm ret hh h pc lc stk := by
  obtain ⟨hgd, hlk, hsm, hsup, hin, hno, hnh⟩ := hI
  subst hstk
  refine z_call hM hgd hdp zrev hcat (fun K hC r H locs ls hz => ?_) kk
  obtain ⟨l, d, h0, x0⟩ := F
  obtain ⟨p, e, s, m, args, below, meth, c, D, bs, r0⟩ := K
  obtain ⟨z1, z2, z3, z4, z5, z6, z7⟩ := hz
  obtain ⟨hx1, hbc, hml, hown, hts, hKn, -⟩ := hC
  intro T hT X
  have hbn : b < zn h := z6 (.ref b) (List.mem_append_right _ List.mem_cons_self) b rfl
  obtain ⟨cellB, q1, q2, q3, -⟩ := z3.2.2.2.2.2.1 b ci q ty hbn hb hq hty
  obtain ⟨hfc, kB, hkB, -⟩ := (hKn.1 ci q hq).2
  obtain ⟨mk, methM, hnamed, hmethM, hstM, habM⟩ := Cond.instanceMethod_spec (hts _ hin)
  obtain ⟨ps, dk, kp, hps, hdk, hkp, hsuper, -, -, hnid⟩ := Cond.superclass_spec hown (hts _ hsup)
  have hn0 : s.methodNamed? ⟨y.cls, y.name, y.desc⟩ = some mk := hnamed
  have hpm : ps = mk.cls := Option.some.inj (hps.symm.trans (findClass_of_methodNamed hnamed))
  have hsub : s.vm.isSubclass ps mk.cls = true := by rw [hpm]; simp [Vm.isSubclass, Vm.isSubclassAux]
  have hlen : (As.map (zv r)).length = methM.sig.parameters.length := by rw [List.length_map, hn]; exact zNH_len hnh (zsig hgd hts hnamed hmethM)
  have hdg : decode c.code pc = .ok (.invokespecial index, 3) := by rw [hbc]; exact hd
  obtain ⟨vm₁, X₁, hstep₁⟩ := X.invokespecialUp hx1 hown (hts _ hlk) (hts _ hsm) hn0 hmethM hstM habM hno hdk hnid hps hsuper hsub (a := r b) (cell := cellB) (by rw [hT]; exact q1)
    (fun z h => by rw [q3] at h; cases h) (by rw [q2]; exact hkB) (g := F0 m pc ls ((As.reverse ++ .ref b :: st).map (zv r))) rfl (argsL := As.map (zv r)) (rest := st.map (zv r)) hlen (zrevm r) hdg
  exact ⟨vm₁, mk, _, X₁, hnamed, hdg, fun tg ht => hstep₁ _ (by rw [doInvoke_state]; exact ht)⟩
/-- Object's own constructor -/
theorem z_obj {a : Nat} (hl : Cond.methodLink own index Lib.objectInit ∈ lw_all) (hin : Cond.instanceMethod Lib.objectInit ∈ lw_all) (hcd : Cond.code Lib.objectInit ⟨#[0xb1]⟩ 1 none ∈ lw_all) (hdp : 1 ≤ F.2.1) (hcat : (st.map fun v => v.category).sum ≤ 8) (hd : decode cc pc = .ok (.invokespecial index, 3)) (kk : Z F nL cc own nm ret hh h (pc + 3) lc st) : Z F nL cc own nm ret hh h pc lc (.ref a :: st) := by
  refine ⟨kk.1, fun K hC r H locs ls hz => ?_⟩
  have hw := kk.2 K hC r H locs ls (hz.pop (fun v hv => List.mem_cons_of_mem _ hv))
  obtain ⟨l, d, h0, x0⟩ := F
  obtain ⟨p, e, s, m, args, below, meth, c, D, bs, r0⟩ := K
  obtain ⟨z1, z2, z3, z4, z5, z6, z7⟩ := hz
  obtain ⟨hx1, hbc, hml, hown, hts, hKn, -⟩ := hC
  have hdp : 1 ≤ d := hdp
  exact W.objInit hx1 hbc hown (hts _ hl) (hts _ hin) (hts _ hcd) rfl (z7.1.trans hml.symm) rfl hd (by show 1 ≤ d; exact hdp) (by show 2 * 0 + _ + 12 ≤ 100 * d; rw [List.map_map]; simp only [Function.comp_def, zv_cat]; omega) hw
theorem zrecv {D : zD} {bs : Nat} {r : Nat → Nat} {H : Heap} {s : State} {q : vw_C} {ty : Nat → FieldType} {a : Nat} (hKn : zKn D s) (z3 : zSim D bs r h H) (han : a < zn h) (ha : zT h a = (ci + 1, 0)) (hq : zCl[ci]? = some q) (hty : zTys[ci]? = some ty) : ∃ cell : Cell, H[r a]? = some cell ∧ cell.vm.isStatics = false ∧ s.vm.findClass q.1 = some cell.cls := by
  obtain ⟨cellB, q1, q2, q3, -⟩ := z3.2.2.2.2.2.1 a ci q ty han ha hq hty
  exact ⟨cellB, q1, by rw [q3]; rfl, by rw [q2]; exact (hKn.1 ci q hq).2.1⟩
/-- a cast that holds: to the class itself, or by the tables -/
def zCa (own : String) (index ci : Nat) : Prop := ∃ (q : vw_C) (ty : Nat → FieldType) (C : String), zCl[ci]? = some q ∧ zTys[ci]? = some ty ∧ Cond.classLink own index C ∈ lw_all ∧ (C = q.1 ∨ Cond.castable q.1 C ∈ lw_tbl)
theorem z_cast {a : Nat} (hc : zCa own index ci) (ha : zT h a = (ci + 1, 0)) (hd : decode cc pc = .ok (.checkcast index, 3)) (kk : Z F nL cc own nm ret hh h (pc + 3) lc (.ref a :: st)) : Z F nL cc own nm ret hh h pc lc (.ref a :: st) := by
  obtain ⟨q, ty, C, hq, hty, hl, hcc⟩ := hc
  refine ⟨kk.1, fun K hC r H locs ls hz => ?_⟩
  have hw := kk.2 K hC r H locs ls hz
  obtain ⟨l, d, h0, x0⟩ := F
  obtain ⟨p, e, s, m, args, below, meth, c, D, bs, r0⟩ := K
  obtain ⟨z1, z2, z3, z4, z5, z6, z7⟩ := hz
  obtain ⟨hx1, hbc, hml, hown, hts, hKn, -⟩ := hC
  have hr := zrecv hKn z3 (z6 _ List.mem_cons_self a rfl) ha hq hty
  rcases hcc with rfl | hcc
  · exact va_castS hx1 hbc hown (hts _ hl) (hKn.1 ci q hq).2 hr hd hw
  · exact va_castY hx1 hbc hown (hts _ hl) (hKn.2.2.1 _ hcc rfl) hr hd hw
theorem z_castN (hd : decode cc pc = .ok (.checkcast index, 3)) (kk : Z F nL cc own nm ret hh h (pc + 3) lc (.null :: st)) : Z F nL cc own nm ret hh h pc lc (.null :: st) :=
  z_op kk (fun n hs => hs) (fun K hC r H locs ls w => by obtain ⟨l, d, h0, x0⟩ := F; obtain ⟨p, e, s, m, args, below, meth, c, D, bs, r0⟩ := K; exact lv_castN hC.1 hC.2.1 hd w)
theorem z_inst {a : Nat} (hc : zCa own index ci) (ha : zT h a = (ci + 1, 0)) (hd : decode cc pc = .ok (.instanceof index, 3)) (kk : Z F nL cc own nm ret hh h (pc + 3) lc (.int 1 :: st)) : Z F nL cc own nm ret hh h pc lc (.ref a :: st) := by
  obtain ⟨q, ty, C, hq, hty, hl, hcc⟩ := hc
  refine ⟨kk.1, fun K hC r H locs ls hz => ?_⟩
  have hw := kk.2 K hC r H locs ls
  obtain ⟨l, d, h0, x0⟩ := F
  obtain ⟨p, e, s, m, args, below, meth, c, D, bs, r0⟩ := K
  obtain ⟨z1, z2, z3, z4, z5, z6, z7⟩ := hz
  obtain ⟨hx1, hbc, hml, hown, hts, hKn, -⟩ := hC
  have hw := hw ⟨z1, z2, z3, z4, z5, zok_1 (zok_int _ _) z6 (fun v hv => List.mem_cons_of_mem _ hv), z7⟩
  have hr := zrecv hKn z3 (z6 _ List.mem_cons_self a rfl) ha hq hty
  rcases hcc with rfl | hcc
  · exact va_instS hx1 hbc hown (hts _ hl) (hKn.1 ci q hq).2 hr hd hw
  · exact va_instY hx1 hbc hown (hts _ hl) (hKn.2.2.1 _ hcc rfl) hr hd hw
theorem z_instNo {a : Nat} {q : vw_C} {ty : Nat → FieldType} {C : String} (hq : zCl[ci]? = some q) (hty : zTys[ci]? = some ty) (hl : Cond.classLink own index C ∈ lw_all) (hnc : (q.1, C) ∈ zNc) (ha : zT h a = (ci + 1, 0)) (hd : decode cc pc = .ok (.instanceof index, 3)) (kk : Z F nL cc own nm ret hh h (pc + 3) lc (.int 0 :: st)) : Z F nL cc own nm ret hh h pc lc (.ref a :: st) := by
  refine ⟨kk.1, fun K hC r H locs ls hz => ?_⟩
  have hw := kk.2 K hC r H locs ls
  obtain ⟨l, d, h0, x0⟩ := F
  obtain ⟨p, e, s, m, args, below, meth, c, D, bs, r0⟩ := K
  obtain ⟨z1, z2, z3, z4, z5, z6, z7⟩ := hz
  obtain ⟨hx1, hbc, hml, hown, hts, hKn, -⟩ := hC
  have hw := hw ⟨z1, z2, z3, z4, z5, zok_1 (zok_int _ _) z6 (fun v hv => List.mem_cons_of_mem _ hv), z7⟩
  exact va_instNo hx1 hbc hown (hts _ hl) (hKn.2.2.2.2.1 _ hnc) (zrecv hKn z3 (z6 _ List.mem_cons_self a rfl) ha hq hty) hd hw
theorem z_ifnullR {a tgt : Nat} {off : Int} (hd : decode cc pc = .ok (.ifnull off, 3)) (kk : Z F nL cc own nm ret hh h (pc + 3) lc st) : Z F nL cc own nm ret hh h pc lc (.ref a :: st) :=
  z_op kk (fun n hs v hv => hs v (List.mem_cons_of_mem _ hv)) (fun K hC r H locs ls w => by obtain ⟨l, d, h0, x0⟩ := F; obtain ⟨p, e, s, m, args, below, meth, c, D, bs, r0⟩ := K; exact lv_ifnull hC.1 hC.2.1 hd w)
theorem z_ifnullN {off : Int} (tgt : Nat) (hd : decode cc pc = .ok (.ifnull off, 3)) (ht : (pc : Int) + off = (tgt : Int)) (kk : Z F nL cc own nm ret hh h tgt lc st) : Z F nL cc own nm ret hh h pc lc (.null :: st) :=
  z_op kk (fun n hs v hv => hs v (List.mem_cons_of_mem _ hv)) (fun K hC r H locs ls w => by obtain ⟨l, d, h0, x0⟩ := F; obtain ⟨p, e, s, m, args, below, meth, c, D, bs, r0⟩ := K; exact lv_ifnullN hC.1 hC.2.1 hd ht w)
theorem z_ifnonnullR {a : Nat} {off : Int} (tgt : Nat) (hd : decode cc pc = .ok (.ifnonnull off, 3)) (ht : (pc : Int) + off = (tgt : Int)) (kk : Z F nL cc own nm ret hh h tgt lc st) : Z F nL cc own nm ret hh h pc lc (.ref a :: st) :=
  z_op kk (fun n hs v hv => hs v (List.mem_cons_of_mem _ hv)) (fun K hC r H locs ls w => by obtain ⟨l, d, h0, x0⟩ := F; obtain ⟨p, e, s, m, args, below, meth, c, D, bs, r0⟩ := K; exact lv_ifnonnull hC.1 hC.2.1 hd ht w)
theorem z_ifnonnullN {off : Int} (hd : decode cc pc = .ok (.ifnonnull off, 3)) (kk : Z F nL cc own nm ret hh h (pc + 3) lc st) : Z F nL cc own nm ret hh h pc lc (.null :: st) :=
  z_op kk (fun n hs v hv => hs v (List.mem_cons_of_mem _ hv)) (fun K hC r H locs ls w => by obtain ⟨l, d, h0, x0⟩ := F; obtain ⟨p, e, s, m, args, below, meth, c, D, bs, r0⟩ := K; exact lv_ifnonnullN hC.1 hC.2.1 hd w)
end ZJ
