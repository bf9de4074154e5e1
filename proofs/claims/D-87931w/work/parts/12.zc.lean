/-! calls: a callee by its contract, whether it returns or throws -/
set_option maxRecDepth 100000
section ZB
variable {p : Program} {l : Launch} {e : Env} {R : Room} {s : State} {m : MethodId} {args : Array Value} {below : List Frame} {meth : Method} {c : Code} {U : State} {locs : List Loc} {cells slots : Nat}
theorem zheap_top (T : State) (g : JFrame) : (T.setTop g).heap = T.heap := by simp [State.setTop, State.modifyTopJava, State.setFrames]
theorem zvm_top (T : State) (g : JFrame) : (T.setTop g).vm = T.vm := by simp [State.setTop, State.modifyTopJava, State.setFrames]
theorem zBackX (X : Stand p l e R s m args below meth c U locs cells slots) {g : JFrame} (hg : g.method = m) (hsize : g.locals.size = c.maxLocals) {ig : Instr} {len : Nat} (hdg : decode c.code g.pc = .ok (ig, len)) (hW : 2 * g.monitorRoom + (g.stack.map fun v => v.category).sum ≤ 8)
    {y : MethodName} {mk : MethodId} {a : Array Value} (hn : U.methodNamed? y = some mk) {ws : List Cond} {rm : Room} {Pc : Array Value → State → Prop} {Qc : Array Value → State → Outcome → State → Prop} {mc ms : Nat} {free : Addr → Prop} (hM : zMet l y ws rm Pc Qc mc ms free)
    {methY : Method} {cY : Code} {maxL : Nat} (hmY : U.vm.method? mk = some methY) (hcY : methY.code = some cY) (hlY : cY.maxLocals = maxL) (hini : (Cond.initialized y.cls).before a U = true)
    (hframes : rm.frames + 1 ≤ R.frames) (hlocals : 8 + (maxL + 11) + rm.locals ≤ R.locals) (hcells : cells + rm.cells ≤ R.cells) (hslots : slots + rm.slots ≤ R.slots) (hws : (allAtoms ws).before a U = true) (hP : Pc a (U.calling g mk a)) :
    ∃ (o : Outcome) (t T' : State) (L : List Loc), Stand p l e R s m args below meth c T' (locs ++ L) (cells + mc) (slots + ms) ∧ (∀ q ∈ L, free q.base) ∧ T'.heap = t.heap ∧ Qc a (U.calling g mk a) o t ∧
      (∀ v, o = .returned v → Steps p.tables e below (doInvoke e (U.setTop g) [] mk a).1 (T'.setTop { g with pc := g.pc + len, stack := v.toList ++ g.stack })) ∧
      (∀ x, o = .threw x → Steps p.tables e below (doInvoke e (U.setTop g) [] mk a).1 ((T'.setTop g).pushFrame (.throwing x))) := by
  obtain ⟨kY, hkY, -⟩ := className_of_methodNamed hn
  have hinitY : kY.init = .initialized := Cond.initialized_spec (findClass_of_methodNamed hn) hkY hini
  have h : At U g.method c below := by rw [hg]; exact X.here
  have happ : (headSpec ws rm).appliesLoose y e.platform (U.calling g mk a) = true :=
    Spec.appliesLoose_calling (g := g) h hdg hn hkY hinitY (X.room_calling (g := g) (R' := rm) hsize hmY hcY hframes (by rw [hlY]; omega) hcells hslots) hws
  have hfr : (U.setTop g).frames = (.java g :: []) ++ below := by rw [State.frames_setTop' g h.top, X.tail]; rfl
  obtain ⟨o, s₂, hsteps, -, hend, hq⟩ := Steps.callFree hM p X.admits X.cas X.clock (acts := []) hfr happ hP trivial
  have hend : Ended s₂ (.java g :: below) o := by
    have e1 : (U.setTop g).frames = .java g :: below := by rw [State.frames_setTop' g h.top, X.tail]
    rw [← e1]; exact hend
  obtain ⟨hq, L, ⟨hW₂, hsame⟩, hL⟩ : Qc a (U.calling g mk a) o s₂ ∧ ∃ L, zE (U.calling g mk a) s₂ L mc ms ∧ ∀ q ∈ L, free q.base := hq
  cases o with
  | returned v =>
    obtain ⟨T', X', -, -, ht⟩ := X.outOf hg hdg hend hW₂ hsame
    refine ⟨_, s₂, T', L, X', hL, by rw [ht, zheap_top], hq, fun v' ev => ?_, (fun x ex => by cases ex)⟩
    cases ev
    rw [← ht]
    exact hsteps
  | threw x =>
    obtain ⟨T', X', -, -, ht⟩ := X.outOfThrown hg hend hW₂ hsame
    refine ⟨_, s₂, T', L, X', hL, ?_, hq, (fun v' ev => by cases ev), fun x' ex => ?_⟩
    · rw [ht]; exact (throwing_heap T' g x).symm
    · cases ex
      rw [← ht]
      exact hsteps
/-- the invoking instruction has come to the method mk of the name y -/
def zEnt (p : Program) (l : Launch) (e : Env) (R : Room) (s : State) (m : MethodId) (args : Array Value) (below : List Frame) (meth : Method) (c : Code) (T : State) (locs : List Loc) (cells slots : Nat) (g : JFrame) (len : Nat) (rest : List Value) (y : MethodName) (a : Array Value) : Prop :=
  ∃ (vm₁ : Vm) (mk : MethodId) (ig : Instr), Stand p l e R s m args below meth c (T.setVm vm₁) locs cells slots ∧ s.methodNamed? y = some mk ∧ decode c.code g.pc = .ok (ig, len) ∧ ∀ tg, Steps p.tables e below (doInvoke e ((T.setVm vm₁).setTop { g with stack := rest }) [] mk a).1 tg → Steps p.tables e below (T.setTop g) tg
end ZB
/-- the callee's words: in the list; its code's locals; its class is ready -/
def zGood (y : MethodName) (ws : List Cond) (maxL : Nat) : Prop := (∀ w ∈ ws, w ∈ lw_all) ∧ ((∃ b r, Cond.code y b maxL r ∈ lw_all) ∨ ∃ b r hh, Cond.codeWith y b maxL r hh ∈ lw_all) ∧ Cond.initialized y.cls ∈ lw_all
theorem zGood_c {y : MethodName} {b : ByteArray} {L : Nat} {r : Option FieldType} (h : Cond.code y b L r ∈ lw_all) (hi : Cond.initialized y.cls ∈ lw_all) : zGood y (ws_ y b L r) L :=
  ⟨fun w hw => by rcases List.mem_cons.mp hw with e | e; exact e ▸ h; exact e, Or.inl ⟨b, r, h⟩, hi⟩
theorem zGood_w {y : MethodName} {b : ByteArray} {L : Nat} {r : Option FieldType} {hh : List (Nat × Nat × Nat × Nat)} (h : Cond.codeWith y b L r hh ∈ lw_all) (hi : Cond.initialized y.cls ∈ lw_all) : zGood y (wsW_ y b L r hh) L :=
  ⟨fun w hw => by rcases List.mem_cons.mp hw with e | e; exact e ▸ h; exact e, Or.inr ⟨b, r, hh, h⟩, hi⟩
theorem zword {args a' : Array Value} {s U : State} (hW : s.WarmedH U.vm) {w : Cond} (hw : w ∈ lw_all) (h : w.before args s = true) : w.before a' U = true := word_at hW (lw_self w hw).2 h
/-- what comes behind a call -/
def zBeh (F : zF) (nL : Nat) (cc : ByteArray) (own nm : String) (ret : Option FieldType) (hh : List (Nat × Nat × Nat × Nat)) (pc len : Nat) (lc : List (Nat × Value)) (st : List Value) (x1 : zX) : Prop := match x1.1 with
  | .inl v => Z F nL cc own nm ret hh x1.2 (pc + len) lc (v.toList ++ st)
  | .inr a => ZT F nL cc own nm ret hh x1.2 pc lc a
theorem zBeh_le {F : zF} {nL : Nat} {cc : ByteArray} {own nm : String} {ret : Option FieldType} {hh : List (Nat × Nat × Nat × Nat)} {pc len : Nat} {lc : List (Nat × Value)} {st : List Value} {x1 : zX} (h : zBeh F nL cc own nm ret hh pc len lc st x1) : zLx x1.2 (zEnd F).2 := by
  obtain ⟨o, h1⟩ := x1
  cases o with
  | inl v => exact h.1
  | inr a => exact h.1
theorem z_call {F : zF} {nL : Nat} {cc : ByteArray} {own nm : String} {ret : Option FieldType} {hh : List (Nat × Nat × Nat × Nat)} {h : zH} {pc len : Nat} {lc : List (Nat × Value)} {st stk : List Value} {y : MethodName} {ws : List Cond} {maxL d' : Nat} {av : List Value} {x1 : zX}
    (hM : zC F.1 y ws d' av h x1) (hgd : zGood y ws maxL) (hdp : d' + 1 ≤ F.2.1 ∧ maxL ≤ 81) (hstk : stk = av.reverse ++ st) (hcat : (st.map fun v => v.category).sum ≤ 8)
    (hE : ∀ K : zK, zCx K nL cc own nm ret hh → ∀ (r : Nat → Nat) (H : Heap) (locs : List Loc) (ls : Array Slot), zAtH F K nL h r H locs ls lc stk → match F, K with
      | (l, d, h0, x), (p, e, s, m, args, below, meth, c, D, bs, r0) => ∀ T : State, T.heap = H → Stand p l e (zRm d (zc x.2 - zc h0) (zu x.2 - zu h0)) s m args below meth c T locs (zc h - zc h0) (zu h - zu h0) →
          zEnt p l e (zRm d (zc x.2 - zc h0) (zu x.2 - zu h0)) s m args below meth c T locs (zc h - zc h0) (zu h - zu h0) (F0 m pc ls (stk.map (zv r))) len (st.map (zv r)) y (av.map (zv r)).toArray)
    (kk : zBeh F nL cc own nm ret hh pc len lc st x1) : Z F nL cc own nm ret hh h pc lc stk := by
  refine ⟨zLx_tr hM.1 (zBeh_le kk), fun K hC r H locs ls hz => ?_⟩
  have hE := hE K hC r H locs ls hz
  have hle := (zBeh_le kk).1
  obtain ⟨⟨hMl, hMx⟩, hM⟩ := hM
  obtain ⟨o1, h1⟩ := x1
  obtain ⟨l, d, h0, x⟩ := F
  obtain ⟨p, e, s, m, args, below, meth, c, D, bs, r0⟩ := K
  obtain ⟨z1, z2, z3, z4, z5, z6, z7⟩ := hz
  have hC0 := hC
  obtain ⟨hx1, hb, hml, hown, hts, hKn, -, -, -, -, -, hst8⟩ := hC
  have hav : ∀ v ∈ av, zok (zn h) v := fun v hv => z6 v (by rw [hstk]; exact List.mem_append_left _ (List.mem_reverse.mpr hv))
  have hst : ∀ v ∈ st, zok (zn h) v := fun v hv => z6 v (by rw [hstk]; exact List.mem_append_right _ hv)
  intro T hT X
  have hst9 : l.stackTraces = false := by have e1 := hst8; rw [X.admits.platform] at e1; exact e1
  obtain ⟨vm₁, mk, ig, X₁, hn, hdg, hstep⟩ := hE T hT X
  have hW1 : s.WarmedH (T.setVm vm₁).vm := X₁.warmed
  have hn1 : (T.setVm vm₁).methodNamed? y = some mk := X₁.named hn
  obtain ⟨methY, cY, hmY, hcY, hlY⟩ : ∃ methY cY, (T.setVm vm₁).vm.method? mk = some methY ∧ methY.code = some cY ∧ cY.maxLocals = maxL := by
    rcases hgd.2.1 with ⟨b, rr, hc⟩ | ⟨b, rr, hh', hc⟩
    · obtain ⟨methY, cY, q1, q2, -, q3, -⟩ := Cond.code_spec hn1 (zword hW1 hc (hts _ hc) (a' := args))
      exact ⟨methY, cY, q1, q2, q3⟩
    · obtain ⟨m9, methY, cY, hn9, q1, q2, -, q3, -⟩ := Cond.codeWith_spec (zword hW1 hc (hts _ hc) (a' := args))
      cases hn1.symm.trans hn9
      exact ⟨methY, cY, q1, q2, q3⟩
  have a1 : zc h ≤ zc h1 := hMl.2.1
  have a2 : zu h ≤ zu h1 := hMl.2.2
  have b1 := hle.2.1
  have b2 := hle.2.2
  have c1 := z1.2.1
  have c2 := z1.2.2
  have b1 : zc h1 ≤ zc x.2 := b1
  have b2 : zu h1 ≤ zu x.2 := b2
  have hdp1 : d' + 1 ≤ d := hdp.1
  obtain ⟨o, t, T', L, X', hL, hTt, hq, hret, hthr⟩ := zBackX X₁ (g := F0 m pc ls (st.map (zv r))) rfl (z7.1.trans hml.symm) hdg (by show 2 * 0 + _ ≤ 8; rw [List.map_map]; simp only [Function.comp_def, zv_cat]; omega) hn1 (hM D bs r hst9) hmY hcY hlY (zword hW1 hgd.2.2 (hts _ hgd.2.2))
    (by show d' + 1 ≤ d; exact hdp1) (by show 8 + (maxL + 11) + 100 * d' ≤ 100 * d; omega) (by show zc h - zc h0 + (zc h1 - zc h) ≤ zc x.2 - zc h0; omega) (by show zu h - zu h0 + (zu h1 - zu h) ≤ zu x.2 - zu h0; omega)
    (atoms_intro fun w hw => zword hW1 (hgd.1 w hw) (hts _ (hgd.1 w hw))) (a := (av.map (zv r)).toArray)
    ⟨rfl, zKn_warm (U := (T.setVm vm₁).calling (F0 m pc ls (st.map (zv r))) mk (av.map (zv r)).toArray) hW1 hKn, (by show zSim D bs r h T.heap; rw [hT]; exact z3), hav⟩
  obtain ⟨r', q1, q2, q3, q4, q5⟩ := hq
  have q2 : zSim D bs r' h1 t.heap := q2
  have hz0 : H.size ≤ T'.heap.size ∧ ∀ q : Nat, q < H.size → ¬ bs ≤ q → T'.heap[q]? = H[q]? := by
    rw [hTt]
    have q5 : T.heap.size ≤ t.heap.size ∧ ∀ q : Nat, q < T.heap.size → ¬ bs ≤ q → t.heap[q]? = T.heap[q]? := q5
    rw [hT] at q5
    exact q5
  have hz4 : va_S (fun q => bs ≤ q) s.heap T'.heap (locs ++ L) := ⟨Nat.le_trans z4.1 hz0.1, fun q g1 g2 => (hz0.2 q (Nat.lt_of_lt_of_le g1 z4.1) g2).trans (z4.2.1 q g1 g2), fun q hq => by
    rcases List.mem_append.mp hq with g | g
    · exact z4.2.2 q g
    · exact hL q g⟩
  have hz1 : zLe h0 h1 := zLe_tr z1 hMl
  have hz2 : ∀ a : Nat, a < zn h0 → r' a = r0 a := fun a ha => (q1 a (Nat.lt_of_lt_of_le ha z1.1)).trans (z2 a ha)
  have hz5 : ∀ q ∈ lc, zok (zn h1) q.2 := fun q hq => zok_le hMl.1 (z5 q hq)
  have hz7 : lv_has ls nL (lc.map fun q => (q.1, zv r' q.2)) := by rw [zlc_ext q1 z5]; exact z7
  have ec : zc h - zc h0 + (zc h1 - zc h) = zc h1 - zc h0 := by
    have : zc h ≤ zc h1 := a1
    omega
  have es : zu h - zu h0 + (zu h1 - zu h) = zu h1 - zu h0 := by
    have : zu h ≤ zu h1 := a2
    omega
  have X2 : Stand p l e (zRm d (zc x.2 - zc h0) (zu x.2 - zu h0)) s m args below meth c T' (locs ++ L) (zc h - zc h0 + (zc h1 - zc h)) (zu h - zu h0 + (zu h1 - zu h)) := X'
  rw [ec, es] at X2
  cases o1 with
  | inl v =>
    have hzz : zAtH (l, d, h0, x) (p, e, s, m, args, below, meth, c, D, bs, r0) nL h1 r' T'.heap (locs ++ L) ls lc (v.toList ++ st) := by
      refine ⟨hz1, hz2, (by rw [hTt]; exact q2), hz4, hz5, fun w hw => ?_, hz7⟩
      rcases List.mem_append.mp hw with g | g
      · cases v with
        | none => cases g
        | some v0 => rw [List.mem_singleton.mp g]; exact q4
      · exact zok_le hMl.1 (hst w g)
    have kk : Z (l, d, h0, x) nL cc own nm ret hh h1 (pc + len) lc (v.toList ++ st) := kk
    obtain ⟨t2, s1, s2⟩ := kk.2 _ hC0 r' T'.heap (locs ++ L) ls hzz T' rfl X2
    refine ⟨t2, hstep _ ((hret _ q3).trans ?_), s2⟩
    have e9 : (v.toList ++ st).map (zv r') = (v.map (zv r')).toList ++ st.map (zv r) := by
      rw [List.map_append, zmap_ext q1 hst]
      cases v <;> rfl
    rw [e9] at s1
    exact s1
  | inr a =>
    have hzz : zAtH (l, d, h0, x) (p, e, s, m, args, below, meth, c, D, bs, r0) nL h1 r' T'.heap (locs ++ L) ls lc [.ref a] := by
      refine ⟨hz1, hz2, (by rw [hTt]; exact q2), hz4, hz5, fun w hw => ?_, hz7⟩
      rw [List.mem_singleton.mp hw]
      intro b eb
      cases eb
      exact q4
    have kk : ZT (l, d, h0, x) nL cc own nm ret hh h1 pc lc a := kk
    obtain ⟨t2, s1, s2⟩ := kk.2 _ hC0 r' T'.heap (locs ++ L) ls (st.map (zv r)) hzz T' rfl X2
    exact ⟨t2, hstep _ ((hthr _ q3).trans s1), s2⟩
