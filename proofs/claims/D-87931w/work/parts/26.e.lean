/-! THE CLAIM OUT OF ONE WALK OF THE LAW'S BODY. Your part is whole_start (and what it stands on); all else here is the same for every law, but numbers. -/
def R_law : String := "CodeExchangeLaw"
def lw_P (b : Addr) (xs : List Int32) (args : Array Value) (s : State) : Prop := args = #[.ref b] ∧ s.IntsAt b xs ∧ xs.length ≤ 384 ∧ (Jvm.Cond.and given_1 narrow_1).before args s = true ∧ modulesRight_1 s = true
def lw_Q (_ : Array Value) (s : State) (o : Outcome) (t : State) : Prop := o = .returned (some (.int 1)) ∧ Framed s o t [] 603072 7262314
def lw_Z (below : List Frame) (a : Array Value) (s : State) : State → Prop := fun t => ∃ o, t.status = .running ∧ Ended t below o ∧ lw_Q a s o t
/-- the law's own end, with 1 on the stack, nothing written that was there before, its room as the claim has it -/
theorem lw_ret {p : Program} {l : Launch} {e : Env} {s : State} {m : MethodId} {below : List Frame} {meth : Method} {c : Code} {b : Nat} (hx : p.tables.exec = Jvm.exec) (hb : c.code = code) (hr : meth.sig.returnType = ret) (hlocks : meth.locks = false) {pc : Nat} {H : Heap} {ls : Array Slot} (hdg : decode code pc = .ok (.ireturn, 1)) : W p l e room_1 s m #[Value.ref b] below meth c H [] 603072 7262314 (lw_Z below #[Value.ref b] s) (F0 m pc ls [.int 1]) := by
  intro T hT X
  obtain ⟨fs, hret, hrun, hended, hW, hframe⟩ := X.leave (v := some (.int 1)) (hlocks := hlocks) (fun h => by rw [hr] at h; cases h)
  have hmeth' : T.vm.method? m = some meth := X.method'
  refine ⟨T.setFrames fs, ?_, .returned (some (.int 1)), hrun, hended, rfl, ⟨_, rfl⟩, hW, hframe⟩
  jvm_step X.here [X.here.top, hx, hb, hdg, hmeth', hr, ret, narrow_b1]
  (try refine ⟨rfl, ?_⟩); (try refine ⟨rfl, ?_⟩)
  first | (intro acts; rw [hret _ acts rfl rfl rfl]) | rw [hret _ _ rfl rfl rfl]
  exact Steps.refl _
/-- what holds at the law's entry: the machine, the code, the tables' words (any of lw_tbl by 'hts w (by decide +kernel)'), the script of L ints xs at the cell b, what the Statement gives of the start (any of its parts by flat_of_before) -/
def lw_At (p : Program) (s : State) (m : MethodId) (meth : Method) (c : Code) (b L : Nat) (xs : Nat → Int32) : Prop :=
  p.tables.exec = Jvm.exec ∧ c.code = code ∧ meth.sig.returnType = ret ∧ c.maxLocals = 4 ∧ s.vm.findClass R_law = some m.cls ∧ (∀ w ∈ lw_tbl, w.before #[Value.ref b] s = true) ∧ va_X b L xs s s.heap ∧ b < s.heap.size ∧ meth.locks = false ∧ (Jvm.Cond.and given_1 narrow_1).before #[Value.ref b] s = true
/-! the law's end: what is left is a question about functions -/
section ZEN
/-- the picture at the start: the script alone -/
def zh0 (L : Nat) (xs : Nat → Int32) : zH := (1, 0, 0, fun a => if a = 0 then (107, L) else (0, 0), fun _ _ => none, fun a j => if a = 0 then xs j else 0, fun _ _ => 0)
/-- the law's function answers 1 on this script, within the room -/
def zAns (L : Nat) (xs : Nat → Int32) : Prop := ∃ h' : zH, fL_law (zh0 L xs) = some (.inl (some (.int 1)), h') ∧ zc h' ≤ 603072 ∧ zu h' ≤ 7262314
theorem zSim_start {D : zD} {s : State} {b L : Nat} {xs : Nat → Int32} {scr : Cell} (hD : D.2.2.2 = s.heap) (hD7 : D.2.2.1 7 = scr.cls) (hcb : s.heap[b]? = some scr) (h1 : ∀ k, scr.vm ≠ .statics k) (h2 : scr.vm ≠ .unknown) (h3 : scr.slots.size = L) (h4 : ∀ j : Nat, j < L → scr.slots[j]? = some (.int (xs j))) : zSim D s.heap.size (fun _ => b) (zh0 L xs) s.heap := by
  have n1 : zn (zh0 L xs) = 1 := rfl
  have T0 : zT (zh0 L xs) 0 = (107, L) := rfl
  have hbl : b < s.heap.size := (Array.getElem?_eq_some_iff.mp hcb).1
  refine ⟨fun a b ha hb _ => ?_, fun a ha h0 => ?_, fun a ha => hbl, Nat.le_refl _, fun a k b ha e => ?_, fun a ci q ty ha e1 e2 e3 => ?_, fun a t n ty ha e1 e2 => ?_, fun a ha => ?_, ⟨rfl, scr, hcb, hD7.symm, h1, h2, h3, h4⟩, Nat.one_pos, Nat.le_of_eq (by rw [hD]), fun q hq => by rw [hD]⟩
  · rw [n1] at ha hb; omega
  · rw [n1] at ha; omega
  · cases e
  · exfalso
    rw [n1] at ha
    have h9 : a = 0 := by omega
    subst h9
    have := zcl_lt e2
    rw [T0] at e1
    simp only [Prod.mk.injEq] at e1
    omega
  · exfalso
    rw [n1] at ha
    have h9 : a = 0 := by omega
    subst h9
    have := zat_lt e2
    rw [T0] at e1
    simp only [Prod.mk.injEq] at e1
    omega
  · rw [n1] at ha
    exact if_neg (by omega)
theorem zroom {s : State} {pl : Platform} {r r' : Room} (h : s.hasRoom pl r = true) (h1 : r'.frames ≤ r.frames) (h2 : r'.cells ≤ r.cells) (h3 : r'.slots ≤ r.slots) (h4 : r'.locals ≤ r.locals) : s.hasRoom pl r' = true := by
  simp only [State.hasRoom, Bool.and_eq_true, decide_eq_true_eq] at h ⊢
  obtain ⟨⟨⟨⟨a1, a2, a3, a4, a5, a6⟩, a7⟩, a8⟩, a9⟩ := h
  exact ⟨⟨⟨⟨by omega, by omega, by omega, by omega, by omega, a6⟩, by omega⟩, by omega⟩, a9⟩
theorem zwhole {p : Program} {e : Env} {s : State} {m : MethodId} {below : List Frame} {meth : Method} {c : Code} (l : Launch) (hst : l.stackTraces = false) {b L : Nat} {xs : Nat → Int32} (hA : zAns L xs) (C0 : lw_At p s m meth c b L xs) (hnm : meth.name = "law") (hne : c.exceptionTable = #[]) (hmr : modulesRight_1 s = true) : W p l e room_1 s m #[Value.ref b] below meth c s.heap [] 0 0 (lw_Z below #[Value.ref b] s) (entryFrame m ([Value.ref b] : List Value).toArray 4) := by
  obtain ⟨hx1, hb, hret, hml, hown, hts, ⟨scr, hcb, ⟨g1, kS, hkS, comp, hkk⟩, hkn, hsz, hval⟩, hbl, hlk, hgv⟩ := C0
  obtain ⟨D, hD, hD7, hKn⟩ := zKn_start hkS hkk hts hgv hmr
  obtain ⟨h', hf, hc, hu⟩ := hA
  have k := zL_law (F := (l, 124, zh0 L xs, (.inl (some (.int 1)), h'))) (Nat.le_refl _) hf rfl
  intro T hT X
  have hstt : e.platform.stackTraces = false := by rw [X.admits.platform]; exact hst
  have hl := lv_entry ([Value.ref 0].map (zv (fun _ => b))) (n := 4) (Nat.le_of_ble_eq_true rfl)
  rw [zlv_args] at hl
  have hS := zSim_start (D := D) (s := s) (xs := xs) hD hD7 hcb g1 hkn hsz hval
  have hk := k.2 (p, e, s, m, #[.ref b], below, meth, c, D, s.heap.size, fun _ => b) ⟨hx1, hb, hml, hown, fun w hw => hts w (lw_all_tbl hw), hKn, hlk, hret, by rw [hne]; rfl, hnm, (fun q _ => by rw [hD]), hstt⟩ (fun _ => b) s.heap [] _ ⟨zLe_rf _, fun _ _ => rfl, hS, va_S.rf, (fun q hq => by rw [List.mem_singleton.mp hq]; intro b9 eb; cases eb; exact Nat.one_pos), (fun w hw9 => by cases hw9), hl⟩
  have hk : W p l e (zRm 124 (zc h' - 0) (zu h' - 0)) s m #[.ref b] below meth c s.heap [] (0 - 0) (0 - 0) (zMQ below (zQ D s.heap.size (fun _ => b) (zh0 L xs) (.inl (some (.int 1)), h')) #[.ref b] s (zc h' - 0) (zu h' - 0) (fun q => s.heap.size ≤ q)) _ := hk
  have hroom : s.hasRoom e.platform (zRm 124 (zc h' - 0) (zu h' - 0)) = true := zroom X.room (Nat.le_of_ble_eq_true rfl) hc hu (Nat.le_of_ble_eq_true rfl)
  have X' : Stand p l e (zRm 124 (zc h' - 0) (zu h' - 0)) s m #[Value.ref b] below meth c T [] 0 0 := ⟨X.admits, X.cas, X.clock, X.frames, hroom, X.hears, X.method, X.code, X.here, X.tail, X.warmed, X.limits, X.bytes, X.same⟩
  rw [lg_entry_eq]
  obtain ⟨t, st, o, b1, b2, b3, Lc, hE, hLb⟩ := hk T hT X'
  obtain ⟨r, y1, y2, y3, -⟩ := b3
  have y3 : o = .returned (some (.int 1)) := y3
  refine ⟨t, st, o, b1, b2, y3, ⟨_, y3⟩, hE.1, hE.2.weaken (fun x hx hlt => absurd (hLb x hx) (Nat.not_le.mpr hlt)) hc hu⟩
end ZEN
