/-! the machine's step at a call of an inherited static method: the class's entry is noted, then the method's -/
set_option maxRecDepth 100000
theorem zst_note {Q : Unit → Pre} {E : CtlPost} {e : Env} {b : Bool} {acts : List Action} {T s₀ : State} {g : JFrame} {index ci n cl : Nat} {mk : MethodId} {dk ck : Class} {cf : ClassFile} {nm ds : String} (top : T.topJava?.isSome) (hp : e.platform.polymorphicOnlyByInvokevirtual = true) (hW : s₀.WarmedH T.vm) (hE : s₀.MethodEntryUp e T.vm g.method.cls index cl mk ci)
    (hdk : s₀.vm.classes[g.method.cls]? = some dk) (hcf : dk.cf = some cf) (hcp : cf.constantPool[index]? = some (.methodref ci n)) (hnt : cf.constantPool.nameAndType? n = some (nm, ds)) (hck : s₀.vm.classes[cl]? = some ck) (hno : (ck.methods.any fun x => x.name == nm && !x.isStatic && signaturePolymorphic ck x) = false) :
    wp (Op.invokestatic.sem index) Q E e b acts (T.setTop g) ↔ wp (Op.invokestatic.sem index) Q E e b acts ((T.setVm (T.vm.calledUp g.method.cls ci index cl mk)).setTop g) := by
  have hcp' : cf.constantPool[index]? = some (if false then .interfaceMethodref ci n else .methodref ci n) := hcp
  obtain ⟨e1, -, w1, e2⟩ := hE.classFirst
  obtain ⟨d0, f0, g0⟩ := hW.alike.2.2 _ _ hdk
  obtain ⟨d1, f1, g1⟩ := hE.warmed.alike.2.2 _ _ hdk
  obtain ⟨c0, i0, j0⟩ := w1.alike.2.2 _ _ hck
  obtain ⟨c1, i1, j1⟩ := hE.warmed.alike.2.2 _ _ hck
  have a0 := memberRef_ask_via (e := e) f0 (by rw [g0]; exact hcf) hcp' hnt
  have a1 := memberRef_ask_via (e := e) f1 (by rw [g1]; exact hcf) hcp' hnt
  have k0 : (c0.methods.any fun x => x.name == nm && !x.isStatic && signaturePolymorphic c0 x) = false := by rw [j0]; exact hno
  have k1 : (c1.methods.any fun x => x.name == nm && !x.isStatic && signaturePolymorphic c1 x) = false := by rw [j1]; exact hno
  have t1 : (T.setVm (T.vm.noted g.method.cls ci (.cls cl))).topJava?.isSome := top
  have t2 : (T.setVm (T.vm.calledUp g.method.cls ci index cl mk)).topJava?.isSome := top
  have r1 : ∀ {Q' : ClassId → Pre} {d' : Bool} {acts' : List Action}, wp (Jvm.resolveClassAt ci) Q' E e d' acts' (T.setTop g) ↔ Q' cl d' acts' ((T.setVm (T.vm.noted g.method.cls ci (.cls cl))).setTop g) := W.resolveClassAt_links (t := T.setTop g) (State.method?_setTop g top) e1
  have r2 : ∀ {Q' : MethodId → Pre} {d' : Bool} {acts' : List Action}, wp (Jvm.resolveMethodAt index) Q' E e d' acts' ((T.setVm (T.vm.noted g.method.cls ci (.cls cl))).setTop g) ↔ Q' mk d' acts' ((T.setVm (T.vm.calledUp g.method.cls ci index cl mk)).setTop g) := W.resolveMethodAt_links (t := (T.setVm (T.vm.noted g.method.cls ci (.cls cl))).setTop g) (State.method?_setTop g t1) e2
  simp [Op.invokestatic.sem, hp, Seam.memberRefOf, State.method?_setTop g top, State.method?_setTop g t2, a0, a1, r1, W.resolveClassAt_ready (s := (T.setVm (T.vm.calledUp g.method.cls ci index cl mk)).setTop g) (State.method?_setTop g t2) hE.classReady,
    i0, i1, k0, k1, r2, W.resolveMethodAt_ready (s := (T.setVm (T.vm.calledUp g.method.cls ci index cl mk)).setTop g) (State.method?_setTop g t2) hE.ready, -Array.any_eq_true]
theorem zst_up {p : Program} {l : Launch} {e : Env} {R : Room} {s : State} {m : MethodId} {args : Array Value} {below : List Frame} {meth : Method} {c : Code} {T : State} {locs : List Loc} {cells slots : Nat} (X : Stand p l e R s m args below meth c T locs cells slots) (hexec : p.tables.exec = Jvm.exec)
    {own owner : String} {index : Nat} {x : MethodName} (hown : s.vm.findClass own = some m.cls) (hlink : (Cond.methodLink own index x).before args s = true) (hsame : (Cond.sameMethod x.cls owner x.name x.desc).before args s = true) (howner : owner ≠ "java/lang/invoke/MethodHandle" ∧ owner ≠ "java/lang/invoke/VarHandle")
    {mk : MethodId} {my : Method} {ky : Class} (hn : s.methodNamed? ⟨owner, x.name, x.desc⟩ = some mk) (hm : s.vm.method? mk = some my) (hst : my.isStatic = true) (hk : s.vm.classes[mk.cls]? = some ky) (hini : ky.init = .initialized)
    {g : JFrame} (hg : g.method = m) {As rest : List Value} (hlen : As.length = my.sig.parameters.length) (hstk : g.stack = As.reverse ++ rest) (hdg : decode c.code g.pc = .ok (.invokestatic index, 3)) :
    ∃ vm', Stand p l e R s m args below meth c (T.setVm vm') locs cells slots ∧ ∀ tg, (∀ acts, Steps p.tables e below (doInvoke e ((T.setVm vm').setTop { g with stack := rest }) acts mk As.toArray).1 tg) → Steps p.tables e below (T.setTop g) tg := by
  obtain ⟨cn, ck, r1, hcn, hck, hni, hf, hn1⟩ := Cond.sameMethod_found hsame
  cases hn.symm.trans hn1
  obtain ⟨ci, hl, hright⟩ := Cond.methodLink_specUp hown hcn hck hni hf hlink e.platform (by rw [X.admits.platform]) (by rw [X.admits.platform])
  have hE : s.MethodEntryUp e T.vm m.cls index cn mk ci := State.methodEntryUp X.warmed hl hright
  obtain ⟨kx, hkx, hnx⟩ := className_of_methodNamed hn
  cases hk.symm.trans hkx
  obtain ⟨dk, cf, nt, mn, md, ck', _, _, hd, hcf, hcp, hnt, -, -, hck', -, hnp, -⟩ := hl.here
  cases hck.symm.trans hck'
  have al := hE.warmed.alike
  obtain ⟨d2, f2, g2⟩ := al.2.2 _ _ hd
  obtain ⟨y2, i2, j2⟩ := al.2.2 _ _ hk
  obtain ⟨c2, o2, q2⟩ := al.2.2 _ _ hck
  have n1 : (ck.methods.any fun y => y.name == mn && !y.isStatic && signaturePolymorphic ck y) = false := by simp [hnp]
  have n2 : (c2.methods.any fun y => y.name == mn && !y.isStatic && signaturePolymorphic c2 y) = false := by rw [q2]; exact n1
  refine ⟨T.vm.calledUp m.cls ci index cn mk, X.noted hE.warmed, fun tg ht => ?_⟩
  subst hg
  jvm_step X.here [hexec, hdg, zst_note (e := e) (T := T) (s₀ := s) (g := g) X.here.top (by rw [X.admits.platform]) X.warmed hE hd hcf hcp hnt hck n1,
    Op.invokestatic.wp_ready (e := e) (s := T.setVm (T.vm.calledUp g.method.cls ci index cn mk)) (k := y2) (meth := my) (m := mk) (args := As) (rest := rest) (f := g)
      X.here.top ⟨ci, mn, md, false, cn, c2, memberRef_ask_via (e := e) f2 (by rw [g2]; exact hcf) (show cf.constantPool[index]? = some (if false then .interfaceMethodref ci nt else .methodref ci nt) from hcp) hnt, hE.classReady, o2, n2⟩ hE.ready i2
      (by show (T.vm.calledUp g.method.cls ci index cn mk).method? mk = some my; rw [al.method?]; exact hm) (by rw [j2]; show signaturePolymorphic ky my = false; simp [signaturePolymorphic, hnx, howner.1, howner.2]) hst (by rw [j2]; exact hini) hlen hstk]
  exact fun acts => ht _
/-! an inherited static method -/
section ZSU
variable {F : zF} {nL : Nat} {cc : ByteArray} {own nm : String} {ret : Option FieldType} {hh : List (Nat × Nat × Nat × Nat)} {h h1 : zH} {pc : Nat} {lc : List (Nat × Value)} {st stk : List Value} {x : MethodName} {owner : String} {ws : List Cond} {maxL d' index n : Nat} {As : List Value} {x1 : zX}
def zIsu (own : String) (index : Nat) (x : MethodName) (owner : String) (ws : List Cond) (maxL n : Nat) : Prop := zGood ⟨owner, x.name, x.desc⟩ ws maxL ∧ Cond.methodLink own index x ∈ lw_all ∧ Cond.sameMethod x.cls owner x.name x.desc ∈ lw_all ∧ Cond.static ⟨owner, x.name, x.desc⟩ ∈ lw_all ∧ zNH ⟨owner, x.name, x.desc⟩ n
theorem z_invSU (hI : zIsu own index x owner ws maxL n) (hM : zC F.1 ⟨owner, x.name, x.desc⟩ ws d' As h x1) (hdp : d' + 1 ≤ F.2.1 ∧ maxL ≤ 81) (hn : As.length = n) (hstk : stk = As.reverse ++ st) (hcat : (st.map fun v => v.category).sum ≤ 8) (hd : decode cc pc = .ok (.invokestatic index, 3)) (kk : zBeh F nL cc own nm ret hh pc 3 lc st x1) : Z F nL cc own nm ret hh h pc lc stk := by
  obtain ⟨hgd, hlk, hsm, hstt, hnh⟩ := hI
  subst hstk
  refine z_call hM hgd hdp rfl hcat (fun K hC r H locs ls hz => ?_) kk
  obtain ⟨l, d, h0, x0⟩ := F
  obtain ⟨p, e, s, m, args, below, meth, c, D, bs, r0⟩ := K
  obtain ⟨hx1, hbc, hml, hown, hts, hKn, -⟩ := hC
  intro T hT X
  obtain ⟨mk, methM, hnamed, hmethM⟩ := znamed hgd hts
  have hstatic : methM.isStatic = true := Cond.static_spec hnamed hmethM (hts _ hstt)
  obtain ⟨kP, hkP, -⟩ := className_of_methodNamed hnamed
  have hinitP : kP.init = .initialized := Cond.initialized_spec (findClass_of_methodNamed hnamed) hkP (hts _ hgd.2.2)
  have hlen : (As.map (zv r)).length = methM.sig.parameters.length := by rw [List.length_map, hn]; exact zNH_len hnh (zsig hgd hts hnamed hmethM)
  have hdg : decode c.code pc = .ok (.invokestatic index, 3) := by rw [hbc]; exact hd
  have hsk : (As.reverse ++ st).map (zv r) = (As.map (zv r)).reverse ++ st.map (zv r) := by simp
  obtain ⟨vm₁, X₁, hstep₁⟩ := zst_up X hx1 hown (hts _ hlk) (hts _ hsm) hnh.1 hnamed hmethM hstatic hkP hinitP (g := F0 m pc ls ((As.reverse ++ st).map (zv r))) rfl (As := As.map (zv r)) (rest := st.map (zv r)) hlen hsk hdg
  exact ⟨vm₁, mk, _, X₁, hnamed, hdg, fun tg ht => hstep₁ _ fun acts => by rw [doInvoke_state]; exact ht⟩
theorem z_invSUl {v : Int64} (hI : zIsu own index x owner ws maxL n) (hM : zC F.1 ⟨owner, x.name, x.desc⟩ ws d' As h (.inl (some (.long v)), h1)) (hdp : d' + 1 ≤ F.2.1 ∧ maxL ≤ 81) (hn : As.length = n) (hstk : stk = As.reverse ++ st) (hcat : (st.map fun v => v.category).sum ≤ 8) (hd : decode cc pc = .ok (.invokestatic index, 3)) (kk : Z F nL cc own nm ret hh h1 (pc + 3) lc (.long v :: st)) : Z F nL cc own nm ret hh h pc lc stk := z_invSU hI hM hdp hn hstk hcat hd kk
end ZSU
/-! super.y(..), y inherited of the superclass's own superclass -/
section ZZU
variable {F : zF} {nL : Nat} {cc : ByteArray} {own nm : String} {ret : Option FieldType} {hh : List (Nat × Nat × Nat × Nat)} {h h1 : zH} {pc : Nat} {lc : List (Nat × Value)} {st stk : List Value} {x : MethodName} {owner : String} {ws : List Cond} {maxL d' index n ci b : Nat} {As : List Value} {x1 : zX}
def zIzu (own : String) (index : Nat) (x : MethodName) (owner : String) (ws : List Cond) (maxL n : Nat) : Prop := zGood ⟨owner, x.name, x.desc⟩ ws maxL ∧ Cond.methodLink own index x ∈ lw_all ∧ Cond.sameMethod x.cls owner x.name x.desc ∈ lw_all ∧ Cond.superclass own x.cls ∈ lw_all ∧ Cond.superclass x.cls owner ∈ lw_all ∧ Cond.instanceMethod ⟨owner, x.name, x.desc⟩ ∈ lw_all ∧ x.name ≠ "<init>" ∧ zNH ⟨owner, x.name, x.desc⟩ n
theorem zsub_one {vm : Vm} {a b : ClassId} {k : Class} (hk : vm.classes[a]? = some k) (hs : k.super = some b) : vm.isSubclass a b = true := by
  have hl : (0 : Nat) < vm.classes.size := Nat.lt_of_le_of_lt (Nat.zero_le _) (Array.getElem?_eq_some_iff.mp hk).1
  unfold Vm.isSubclass
  obtain ⟨n, hn⟩ : ∃ n, vm.classes.size = n + 1 := ⟨vm.classes.size - 1, by omega⟩
  rw [hn]
  simp [Vm.isSubclassAux, hk, hs]
theorem z_invZU {q : vw_C} {ty : Nat → FieldType} (hI : zIzu own index x owner ws maxL n) (hM : zC F.1 ⟨owner, x.name, x.desc⟩ ws d' (.ref b :: As) h x1) (hq : zCl[ci]? = some q) (hty : zTys[ci]? = some ty) (hb : zT h b = (ci + 1, 0)) (hdp : d' + 1 ≤ F.2.1 ∧ maxL ≤ 81) (hn : As.length = n) (hstk : stk = As.reverse ++ .ref b :: st) (hcat : (st.map fun v => v.category).sum ≤ 8) (hd : decode cc pc = .ok (.invokespecial index, 3)) (kk : zBeh F nL cc own nm ret hh pc 3 lc st x1) : Z F nL cc own nm ret hh h pc lc stk := by
  obtain ⟨hgd, hlk, hsm, hsup, hsup2, hin, hno, hnh⟩ := hI
  subst hstk
  refine z_call hM hgd hdp zrev hcat (fun K hC r H locs ls hz => ?_) kk
  obtain ⟨l, d, h0, x0⟩ := F
  obtain ⟨p, e, s, m, args, below, meth, c, D, bs, r0⟩ := K
  obtain ⟨z1, z2, z3, z4, z5, z6, z7⟩ := hz
  obtain ⟨hx1, hbc, hml, hown, hts, hKn, -⟩ := hC
  intro T hT X
  have hbn : b < zn h := z6 (.ref b) (List.mem_append_right _ List.mem_cons_self) b rfl
  obtain ⟨cellB, q1, q2, q3, -⟩ := z3.2.2.2.2.2.1 b ci q ty hbn hb hq hty
  obtain ⟨hfc, kB, hkB, -⟩ := (hKn.1 ci q hq).2
  obtain ⟨mk, methM, hnamed, hmethM, hstM, habM⟩ := Cond.instanceMethod_spec (hts _ hin)
  obtain ⟨ps, dk, kp, hps, hdk, hkp, hsuper, -, -, hnid⟩ := Cond.superclass_spec hown (hts _ hsup)
  obtain ⟨ps2, dk2, kp2, hps2, hdk2, -, hsuper2, -, -, -⟩ := Cond.superclass_spec hps (hts _ hsup2)
  have hpm : ps2 = mk.cls := Option.some.inj (hps2.symm.trans (findClass_of_methodNamed hnamed))
  have hsub : s.vm.isSubclass ps mk.cls = true := by rw [← hpm]; exact zsub_one hdk2 hsuper2
  have hlen : (As.map (zv r)).length = methM.sig.parameters.length := by rw [List.length_map, hn]; exact zNH_len hnh (zsig hgd hts hnamed hmethM)
  have hdg : decode c.code pc = .ok (.invokespecial index, 3) := by rw [hbc]; exact hd
  obtain ⟨vm₁, X₁, hstep₁⟩ := X.invokespecialUp hx1 hown (hts _ hlk) (hts _ hsm) hnamed hmethM hstM habM hno hdk hnid hps hsuper hsub (a := r b) (cell := cellB) (by rw [hT]; exact q1)
    (fun z h => by rw [q3] at h; cases h) (by rw [q2]; exact hkB) (g := F0 m pc ls ((As.reverse ++ .ref b :: st).map (zv r))) rfl (argsL := As.map (zv r)) (rest := st.map (zv r)) hlen (zrevm r) hdg
  exact ⟨vm₁, mk, _, X₁, hnamed, hdg, fun tg ht => hstep₁ _ (by rw [doInvoke_state]; exact ht)⟩
theorem z_invZUi {q : vw_C} {ty : Nat → FieldType} {v : Int32} (hI : zIzu own index x owner ws maxL n) (hM : zC F.1 ⟨owner, x.name, x.desc⟩ ws d' (.ref b :: As) h (.inl (some (.int v)), h1)) (hq : zCl[ci]? = some q) (hty : zTys[ci]? = some ty) (hb : zT h b = (ci + 1, 0)) (hdp : d' + 1 ≤ F.2.1 ∧ maxL ≤ 81) (hn : As.length = n) (hstk : stk = As.reverse ++ .ref b :: st) (hcat : (st.map fun v => v.category).sum ≤ 8) (hd : decode cc pc = .ok (.invokespecial index, 3)) (kk : Z F nL cc own nm ret hh h1 (pc + 3) lc (.int v :: st)) : Z F nL cc own nm ret hh h pc lc stk := z_invZU hI hM hq hty hb hdp hn hstk hcat hd kk
end ZZU
/-! System.arraycopy between int arrays -/
section ZCP
variable {F : zF} {nL : Nat} {cc : ByteArray} {own nm : String} {ret : Option FieldType} {hh : List (Nat × Nat × Nat × Nat)} {h h' : zH} {pc : Nat} {lc : List (Nat × Value)} {st : List Value} {a a0 n0 n1 index : Nat} {sp dp n : Int32}
def zsC (h : zH) (a : Nat) (f : Nat → Int32) : zH := (zn h, zc h, zu h, zT h, zP h, fun b j => if b = a then f j else zI h b j, zL h)
def zcpOk (n0 n1 : Nat) (sp dp n : Int32) : Prop := ¬ sp < 0 ∧ ¬ dp < 0 ∧ ¬ n < 0 ∧ sp.toNatClampNeg + n.toNatClampNeg ≤ n0 ∧ dp.toNatClampNeg + n.toNatClampNeg ≤ n1
theorem znn {z : Int32} (hz : ¬ z < 0) : z.toInt = (z.toNatClampNeg : Int) := by
  have hz0 : (0 : Int) ≤ z.toInt := by
    have := Int32.not_lt.mp hz
    simpa using Int32.le_iff_toInt_le.mp this
  show z.toInt = ((z.toInt.toNat : Nat) : Int)
  omega
theorem zLx_C {f : Nat → Int32} (he : h' = zsC h a f) : zLx h h' := by
  subst he
  exact ⟨⟨Nat.le_refl _, Nat.le_refl _, Nat.le_refl _⟩, fun _ _ => rfl, fun _ _ _ _ _ e => e⟩
theorem z_copy (hl : Cond.methodLink own index arraycopyName ∈ lw_all) (hnat : Cond.native arraycopyName ∈ lw_all) (hstt : Cond.static arraycopyName ∈ lw_all) (hini : Cond.initialized "java/lang/System" ∈ lw_all) (ha0 : zT h a0 = (100, n0)) (ha : zT h a = (100, n1)) (h0 : a ≠ 0) (hok : zcpOk n0 n1 sp dp n)
    (he : h' = zsC h a (va_cpy (zI h a0) (zI h a) sp.toNatClampNeg dp.toNatClampNeg n.toNatClampNeg)) (hdp : 2 ≤ F.2.1) (hcat : (st.map fun v => v.category).sum ≤ 8) (hd : decode cc pc = .ok (.invokestatic index, 3)) (kk : Z F nL cc own nm ret hh h' (pc + 3) lc st) : Z F nL cc own nm ret hh h pc lc (.int n :: .int dp :: .ref a :: .int sp :: .ref a0 :: st) := by
  refine ⟨zLx_tr (zLx_C he) kk.1, fun K hC r H locs ls hz => ?_⟩
  have hw := kk.2 K hC r
  subst he
  obtain ⟨l, d, h0', x0⟩ := F
  obtain ⟨p, e, s, m, args, below, meth, c, D, bs, r0⟩ := K
  obtain ⟨z1, z2, z3, z4, z5, z6, z7⟩ := hz
  obtain ⟨hx1, hb, hml, hown, hts, hKn, -⟩ := hC
  obtain ⟨h1, h2, h3, h4, h5⟩ := hok
  have han : a < zn h := z6 (.ref a) (by simp) a rfl
  have han0 : a0 < zn h := z6 (.ref a0) (by simp) a0 rfl
  have hc0 : H[r a0]? = some (vp_cell (D.2.2.1 0) (n0, .inl (zI h a0))) := z3.2.2.2.2.2.2.1 a0 0 n0 _ han0 ha0 rfl
  have hc1 : H[r a]? = some (vp_cell (D.2.2.1 0) (n1, .inl (zI h a))) := z3.2.2.2.2.2.2.1 a 0 n1 _ han ha rfl
  obtain ⟨-, k0, hk0, cm0, hkk0⟩ := (hKn.2.1 0 _ rfl).1 n0 (fun j => .int (zI h a0 j))
  obtain ⟨-, k1, hk1, cm1, hkk1⟩ := (hKn.2.1 0 _ rfl).1 n1 (fun j => .int (zI h a j))
  have hdp : 2 ≤ d := hdp
  intro T hT X
  obtain ⟨vm', X', step⟩ := X.arraycopy hx1 hown (hts _ hl) (hts _ hnat) (hts _ hstt) (hts _ hini) (src := r a0) (dst := r a) (cs := vp_cell (D.2.2.1 0) (n0, .inl (zI h a0))) (cd := vp_cell (D.2.2.1 0) (n1, .inl (zI h a))) (srcPos := sp) (destPos := dp) (n := n) (by rw [hT]; exact hc0) (by rw [hT]; exact hc1)
    (fun _ h => by cases h) (fun _ h => by cases h) (fun h => by cases h) (fun h => by cases h) hk0 hk1 hkk0 hkk1 (by simp [refKind]) h1 h2 h3
    (by rw [znn h1, znn h3]; show ¬ _ > ((arrV (D.2.2.1 0) n0 (fun j => .int (zI h a0 j))).slots.size : Int); rw [arrV_size]; omega)
    (by rw [znn h2, znn h3]; show ¬ _ > ((arrV (D.2.2.1 0) n1 (fun j => .int (zI h a j))).slots.size : Int); rw [arrV_size]; omega)
    (fun vm₁ _ i hi => by
      have e : (vp_cell (D.2.2.1 0) (n0, .inl (zI h a0))).slots.getD (sp.toNatClampNeg + i) .null = .int (zI h a0 (sp.toNatClampNeg + i)) := by
        show (arrV (D.2.2.1 0) n0 (fun j => .int (zI h a0 j))).slots.getD _ _ = _
        rw [Array.getD_eq_getD_getElem?, arrV_read _ _ (by omega)]
        rfl
      exact ⟨by rw [e]; rfl, by rw [e]; exact trivial⟩)
    (g := F0 m pc ls ((Value.int n :: .int dp :: .ref a :: .int sp :: .ref a0 :: st).map (zv r))) rfl (by rw [hml]; exact z7.1) (rest := st.map (zv r)) rfl (by rw [hb]; exact hd) (by show 1 ≤ d; omega) (by show 2 * 0 + _ + _ ≤ 100 * d; rw [List.map_map]; simp only [Function.comp_def, zv_cat]; have : nativeFrameWords "java/lang/System" "arraycopy" 5 + 11 ≤ 150 := (by decide); omega)
  have e1 : copied (vp_cell (D.2.2.1 0) (n0, .inl (zI h a0))) (vp_cell (D.2.2.1 0) (n1, .inl (zI h a))) sp dp n = vp_cell (D.2.2.1 0) (n1, .inl (va_cpy (zI h a0) (zI h a) sp.toNatClampNeg dp.toNatClampNeg n.toNatClampNeg)) := va_copied (fun z => .int z) _ _ _ _ h4
  rw [e1] at X' step
  have hlt : r a < H.size := (Array.getElem?_eq_some_iff.mp hc1).1
  have hheap : ((T.setVm vm').setCell (r a) (vp_cell (D.2.2.1 0) (n1, .inl (va_cpy (zI h a0) (zI h a) sp.toNatClampNeg dp.toNatClampNeg n.toNatClampNeg)))).heap = H.setIfInBounds (r a) (vp_cell (D.2.2.1 0) (n1, .inl (va_cpy (zI h a0) (zI h a) sp.toNatClampNeg dp.toNatClampNeg n.toNatClampNeg))) := by rw [← hT]; rfl
  have oq : ∀ q : Nat, q ≠ r a → (H.setIfInBounds (r a) (vp_cell (D.2.2.1 0) (n1, .inl (va_cpy (zI h a0) (zI h a) sp.toNatClampNeg dp.toNatClampNeg n.toNatClampNeg))))[q]? = H[q]? := fun q hq => by simp [Array.getElem?_setIfInBounds, Ne.symm hq]
  have os : (H.setIfInBounds (r a) (vp_cell (D.2.2.1 0) (n1, .inl (va_cpy (zI h a0) (zI h a) sp.toNatClampNeg dp.toNatClampNeg n.toNatClampNeg)))).size = H.size := by simp
  have hs : zSim D bs r (zsC h a (va_cpy (zI h a0) (zI h a) sp.toNatClampNeg dp.toNatClampNeg n.toNatClampNeg)) (H.setIfInBounds (r a) (vp_cell (D.2.2.1 0) (n1, .inl (va_cpy (zI h a0) (zI h a) sp.toNatClampNeg dp.toNatClampNeg n.toNatClampNeg)))) := by
    refine z3.upd han h0 rfl rfl z3.2.2.2.2.1 os oq (fun ty b j nb => ?_) (fun ci' q' ty' e4 e5 e6 => ?_) (fun t' n' ty' e4 e5 => ?_)
    · have : zI (zsC h a (va_cpy (zI h a0) (zI h a) sp.toNatClampNeg dp.toNatClampNeg n.toNatClampNeg)) b j = zI h b j := if_neg nb
      unfold zfv
      split <;> first | rfl | rw [this]
    · exfalso
      have h1 := zcl_lt e5
      rw [ha] at e4
      simp only [Prod.mk.injEq] at e4
      omega
    · rw [ha] at e4
      simp only [Prod.mk.injEq] at e4
      obtain ⟨e6, e7⟩ := e4
      have e6 : t' = 0 := by omega
      subst e6; subst e7
      cases e5
      have e8 : (H.setIfInBounds (r a) (vp_cell (D.2.2.1 0) (n1, .inl (va_cpy (zI h a0) (zI h a) sp.toNatClampNeg dp.toNatClampNeg n.toNatClampNeg))))[r a]? = some (vp_cell (D.2.2.1 0) (n1, .inl (va_cpy (zI h a0) (zI h a) sp.toNatClampNeg dp.toNatClampNeg n.toNatClampNeg))) := by simp [Array.getElem?_setIfInBounds, hlt]
      rw [e8]
      show some (arrV (D.2.2.1 0) n1 (fun j => Value.int (va_cpy (zI h a0) (zI h a) sp.toNatClampNeg dp.toNatClampNeg n.toNatClampNeg j))) = _
      refine congrArg some (congrArg (arrV (D.2.2.1 0) n1) (funext fun j => ?_))
      show Value.int _ = Value.int (if a = a then _ else _)
      rw [if_pos rfl]
  have hz2 : zAtH (l, d, h0', x0) (p, e, s, m, args, below, meth, c, D, bs, r0) nL (zsC h a (va_cpy (zI h a0) (zI h a) sp.toNatClampNeg dp.toNatClampNeg n.toNatClampNeg)) r (H.setIfInBounds (r a) (vp_cell (D.2.2.1 0) (n1, .inl (va_cpy (zI h a0) (zI h a) sp.toNatClampNeg dp.toNatClampNeg n.toNatClampNeg)))) (locs ++ List.map (fun (q : Value × Nat) => (⟨r a, dp.toNatClampNeg + q.2⟩ : Loc)) ((vp_cell (D.2.2.1 0) (n0, .inl (zI h a0))).stretch sp.toNatClampNeg n.toNatClampNeg).zipIdx) ls lc st :=
    ⟨z1, z2, hs, ⟨by rw [os]; exact z4.1, fun q g1 g2 => by rw [oq q (fun e => g2 (by rw [e]; exact z3.2.1 a han h0))]; exact z4.2.1 q g1 g2, fun q hq => by
      rcases List.mem_append.mp hq with h | h
      · exact z4.2.2 q h
      · obtain ⟨z, -, hz⟩ := List.mem_map.mp h
        rw [← hz]
        exact z3.2.1 a han h0⟩, z5, fun v hv => z6 v (by simp [hv]), z7⟩
  obtain ⟨t, a1, b1⟩ := hw _ _ ls hz2 _ hheap X'
  exact ⟨t, step t a1, b1⟩
end ZCP
/-! arrays of references -/
section ZAN
variable {F : zF} {nL : Nat} {cc : ByteArray} {own nm : String} {ret : Option FieldType} {hh : List (Nat × Nat × Nat × Nat)} {h h' : zH} {pc : Nat} {lc : List (Nat × Value)} {st : List Value} {index : Nat}
theorem z_anewa {t : Nat} {C : String} {x : Int32} (N : Nat) (hcl : Cond.classLink own index C ∈ lw_all) (hov : Cond.arrayOver (.object C) ∈ zSt) (hty : zAt[t]? = some (.object C)) (hx0 : ¬ x < 0) (hN : x.toNatClampNeg = N) (hbt : N * 4 ≤ 536870912) (he : h' = zmk h (t + 100, N) N) (hd : decode cc pc = .ok (.anewarray index, 3)) (kk : Z F nL cc own nm ret hh h' (pc + 3) lc (.ref (zn h) :: st)) : Z F nL cc own nm ret hh h pc lc (.int x :: st) := by
  subst he
  have k1 := kk.1.1
  refine ⟨zLx_mk kk.1, fun K hC r H locs ls hz => ?_⟩
  have hw := kk.2 K hC (va_up r (zn h) H.size)
  have hz1 := hz
  obtain ⟨l, d, h0', x0⟩ := F
  obtain ⟨p, e, s, m, args, below, meth, c, D, bs, r0⟩ := K
  obtain ⟨z1, z2, z3, z4, z5, z6, z7⟩ := hz
  obtain ⟨hx1, hb, hml, hown, hts, hKn, -, -, -, -, hHa, -⟩ := hC
  have a1 : zc h + 1 ≤ zc x0.2 := k1.2.1
  have a2 : zu h + N ≤ zu x0.2 := k1.2.2
  have b1 := z1.2.1
  have b2 := z1.2.2
  have hst : ∀ v ∈ st, zok (zn h) v := fun v hv => z6 v (List.mem_cons_of_mem _ hv)
  have hover := (hKn.2.2.2.2.2 s (Vm.Alike.refl _) hHa).1 _ hov args
  subst hN
  refine W.anew hx1 hb hown (hts _ hcl) hover rfl hd rfl hx0 hbt (by show _ ≤ zc x0.2 - zc h0'; omega) (by show _ ≤ zu x0.2 - zu h0'; omega) fun cA kA comp f1 f2 f3 f4 => ?_
  generalize hH1 : H.push ({ cls := cA, slots := Array.replicate x.toNatClampNeg .null, vm := .none } : Cell) = H'
  have e2 : H'.size = H.size + 1 := by rw [← hH1, Array.size_push]
  have e1 : H'[H.size]? = some (arrV cA x.toNatClampNeg (fun _ => .null)) := by rw [← hH1, Array.getElem?_push_size, ← arrV_new]
  have e3 : ∀ q : Nat, q < H.size → H'[q]? = H[q]? := fun q hq => by rw [← hH1, Array.getElem?_push, if_neg (Nat.ne_of_lt hq)]
  have hr : ∀ a, a < zn h → va_up r (zn h) H.size a = r a := fun a ha => va_up_ne r H.size (Nat.ne_of_lt ha)
  have hcA : cA = D.2.2.1 t := Option.some.inj (f1.symm.trans (hKn.2.1 t _ hty).2.2)
  have hS2 : zSim D bs (va_up r (zn h) H.size) (zmk h (t + 100, x.toNatClampNeg) x.toNatClampNeg) H' := by
    refine zSim_mk z3 e2 e3 (fun ci' q' ty' e4 e5 e6 => ?_) (fun tt n ty' e4 e5 => ?_)
    · exfalso
      have h1 := zcl_lt e5
      simp only [Prod.mk.injEq] at e4
      omega
    · simp only [Prod.mk.injEq] at e4
      obtain ⟨e6, e7⟩ := e4
      have e6 : tt = t := by omega
      subst e6; subst e7
      cases hty.symm.trans e5
      rw [e1, hcA]
      congr 2
      funext j
      exact (zfv_mk (ty := .object C) ⟨by simp, by simp⟩).symm
  have hw2 := hw H' locs ls (zAtH_mk (st' := st) hz1 (fun v hv => List.mem_cons_of_mem _ hv) e2 e3 hS2)
  have hw2 : W p l e (zRm d (zc x0.2 - zc h0') (zu x0.2 - zu h0')) s m args below meth c H' locs (zc h + 1 - zc h0') (zu h + x.toNatClampNeg - zu h0') _ (F0 m (pc + 3) ls (.ref (va_up r (zn h) H.size (zn h)) :: st.map (zv (va_up r (zn h) H.size)))) := hw2
  rw [va_up_self, zmap_ext hr hst, show zc h + 1 - zc h0' = zc h - zc h0' + 1 by omega, show zu h + x.toNatClampNeg - zu h0' = zu h - zu h0' + x.toNatClampNeg by omega] at hw2
  exact hw2
end ZAN
