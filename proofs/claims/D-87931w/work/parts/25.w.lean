section ZLN
theorem zlands {args : Array Value} {s : State} {cls : String} {x y : MethodName} (h : (Cond.landsInDefault cls x y).before args s = true) :
    ∃ (c : ClassId) (r m : MethodId) (rm : Method), s.vm.findClass cls = some c ∧ s.methodFound? x.cls x.name x.desc = some r ∧ s.methodNamed? y = some m ∧ s.vm.method? r = some rm ∧ selectMethod {} s.vm c r = .method m ∧
      ((c :: s.vm.superclasses c).any fun k => (declaredIn s.vm rm.name rm.desc k).any fun (_, z) => z.isPrivate || z.isStatic) = false := by
  simp only [Cond.before, Cond.holds, Cond.value] at h
  cases hc : s.vm.findClass cls with
  | none => simp [hc] at h
  | some c =>
  cases hr : s.methodFound? x.cls x.name x.desc with
  | none => simp [hc, hr] at h
  | some r =>
  cases hm : s.methodNamed? y with
  | none => simp [hc, hr, hm] at h
  | some m =>
  cases hrm : s.vm.method? r with
  | none => simp [hc, hr, hm, hrm] at h
  | some rm =>
  simp only [hc, hr, hm, hrm, Option.map_some, beq_iff_eq, Option.some.injEq] at h
  split at h
  · rename_i m' hsel
    simp only [Bool.and_eq_true, decide_eq_true_eq, Bool.not_eq_true'] at h
    obtain ⟨⟨⟨⟨rfl, -⟩, -⟩, hway⟩, -⟩ := h
    exact ⟨c, r, m', rm, rfl, rfl, rfl, hrm, hsel, hway⟩
  · cases h
end ZLN
/-! the law's start: what the tables say, the picture of the heap -/
section ZST
theorem zInst (ci : Nat) {q : vw_C} (h : zCl[ci]? = some q) : ∃ n, Cond.instantiable q.1 n ∈ lw_all := by
  match ci, h with
  | 0, h => cases h; exact ⟨_, q122⟩
  | 1, h => cases h; exact ⟨_, q130⟩
  | 2, h => cases h; exact ⟨_, q215⟩
  | 3, h => cases h; exact ⟨_, q338⟩
  | 4, h => cases h; exact ⟨_, q421⟩
  | 5, h => cases h; exact ⟨_, q452⟩
  | 6, h => cases h; exact ⟨_, q472⟩
  | 7, h => cases h; exact ⟨_, q1386⟩
  | 8, h => cases h; exact ⟨_, q598⟩
  | 9, h => cases h; exact ⟨_, q611⟩
  | 10, h => cases h; exact ⟨_, q621⟩
  | n + 11, h =>
    have := zcl_lt h
    omega
theorem zAO {t : FieldType} {u U : State} {A A' : Array Value} (hvm : u.vm.Alike U.vm) (h : (Cond.arrayOver (.array t)).before A u = true) : (Cond.arrayOver (.array t)).before A' U = true := by
  obtain ⟨comp, c, k, h1, h2, h3, h4, h5⟩ := arrayOverA_spec h
  obtain ⟨k', hk', he⟩ := hvm.2.2 _ _ h3
  have hi : (U.vm.classes.findIdx? fun (x : Class) => match x.kind with | .array component _ => component == comp | _ => false) = some c := by
    exact (Vm.Alike.findIdx?_eq hvm _ (fun _ => rfl)).trans h2
  have hkind : k'.kind = .array comp (.array t) := by rw [he]; exact h4
  have f1 : U.vm.findClass (FieldType.array t).toString = some comp := by rw [hvm.findClass]; exact h1
  have f2 : U.vm.findClass ("[" ++ (FieldType.array t).toString) = some c := by rw [hvm.findClass]; exact h5
  unfold Cond.before Cond.holds
  simp only [Cond.value]
  rw [f1, Option.bind_some]
  refine (congrArg (fun o : Option Nat => (o.bind (fun c => (U.vm.classes[c]?).map fun (k : Class) => match k.kind with | .array _ ty => decide (ty = FieldType.array t) && decide (U.vm.findClass ("[" ++ (FieldType.array t).toString) = some c) | _ => false) == some true)) hi).trans ?_
  simp [hk', hkind, f2]
theorem zLS {s V : State} {A A' : Array Value} {O n d : String} (hal : s.vm.Alike V.vm) (hH : ∀ q : Nat, q < s.heap.size → V.heap[q]? = s.heap[q]?) (h : (Cond.laysStatic O n d).before A s = true) : (Cond.laysStatic O n d).before A' V = true := by
  obtain ⟨c, k, i, f, a, cell, hc, hf, hst, ha, hcell, hiss, hcls, hlt, hty⟩ := Cond.laysStatic_spec h
  obtain ⟨k', hf', he⟩ := State.fieldFound?_setVm hal hf
  have hf' : V.fieldFound? O n d = some (c, k', i, f) := hf'
  have hcell' : V.heap[a]? = some cell := by rw [hH a (Array.getElem?_eq_some_iff.mp hcell).1]; exact hcell
  have ha' : k'.statics = some a := by rw [he]; exact ha
  have hty' : k'.staticTypes[f.slot]? = some f.type := by rw [he]; exact hty
  have hc' : V.vm.findClass O = some c := by rw [hal.findClass]; exact hc
  simp [Cond.before, Cond.holds, Cond.value, hc', hf', hst, ha', hcell', hiss, hcls, hlt, hty']
theorem zIR {s V : State} {A A' : Array Value} {O n d : String} (hal : s.vm.Alike V.vm) (hH : ∀ q : Nat, q < s.heap.size → V.heap[q]? = s.heap[q]?) (h : (Cond.laysStatic O n d).before A s = true) (h2 : (Cond.isRef (.static O n d)).before A s = true) : (Cond.isRef (.static O n d)).before A' V = true := by
  obtain ⟨c, k, i, f, a, cell, hc, hf, hst, ha, hcell, hiss, hcls, hlt, hty⟩ := Cond.laysStatic_spec h
  obtain ⟨u, hu⟩ := Cond.staticRefV hf hst ha hcell hiss h2
  obtain ⟨k', hf', he⟩ := State.fieldFound?_setVm hal hf
  have hf' : V.fieldFound? O n d = some (c, k', i, f) := hf'
  have hcell' : V.heap[a]? = some cell := by rw [hH a (Array.getElem?_eq_some_iff.mp hcell).1]; exact hcell
  have ha' : k'.statics = some a := by rw [he]; exact ha
  have ev : (Term.static O n d).eval A' V none [] V = some u.v := by simp [Term.eval, State.fieldNamed?, hf', hst, ha', hcell', hiss, hu]
  simp only [Cond.before, Cond.holds, Cond.value, ev]
  obtain ⟨v, hv⟩ := u
  cases v <;> first | rfl | cases hv
theorem zLandsM {s V : State} {C : String} (hal : s.vm.Alike V.vm) (h : zLands C s) : zLands C V := by
  obtain ⟨c, r, m, rm, h1, h2, h3, h4, h5, h6⟩ := h
  refine ⟨c, r, m, rm, by rw [hal.findClass]; exact h1, ?_, ?_, by rw [hal.method?]; exact h4, by rw [hal.selectMethod]; exact h5, by simp only [hal.superclasses, hal.declaredIn]; exact h6⟩
  · show (s.setVm V.vm).methodFound? "CodeExchange$Steps" "isEmpty" "()Z" = some r
    rw [State.methodFound?_setVm_of_named hal h3 ⟨by decide, by decide⟩]
    exact h2
  · show (s.setVm V.vm).methodNamed? ⟨"CodeExchange$Steps", "isEmpty", "()Z"⟩ = some m
    rw [State.methodNamed?_setVm hal]
    exact h3
theorem zArr {s : State} {A : Array Value} (hts : ∀ w ∈ lw_tbl, w.before A s = true) : ∀ (t : Nat), ∃ cA : ClassId, ∀ ty : FieldType, zAt[t]? = some ty → ArrOfT s cA ty ∧ va_RA s cA ty ∧ s.vm.findClass ("[" ++ ty.toString) = some cA := by
  have prim : ∀ ty : FieldType, Cond.arrayClass ty ∈ lw_all → (∀ C, ty ≠ .object C) → ∃ cA : ClassId, ArrOfT s cA ty ∧ va_RA s cA ty ∧ s.vm.findClass ("[" ++ ty.toString) = some cA := by
    intro ty hw hno
    obtain ⟨c, k, comp, h1, h2, h3⟩ := Cond.arrayClass_spec (hts _ (lw_all_tbl hw))
    refine ⟨c, fun N z => ⟨(fun k h => by cases h), k, h2, comp, h3⟩, ?_, h1⟩
    cases ty <;> first | exact h1 | exact absurd rfl (hno _)
  have obj : ∀ C : String, Cond.arrayOver (.object C) ∈ lw_tbl → ∃ cA : ClassId, ArrOfT s cA (.object C) ∧ va_RA s cA (.object C) ∧ s.vm.findClass ("[" ++ (FieldType.object C).toString) = some cA := by
    intro C hw
    obtain ⟨comp, c, k, h1, h2, h3, h4, h5⟩ := Cond.arrayOver_spec (hts _ hw)
    exact ⟨c, fun N z => ⟨(fun k h => by cases h), k, h3, comp, h4⟩, ⟨k, comp, h3, h4, h1, h5⟩, h5⟩
  have one : ∀ {ty : FieldType} {t : Nat}, zAt[t]? = some ty → (∃ cA : ClassId, ArrOfT s cA ty ∧ va_RA s cA ty ∧ s.vm.findClass ("[" ++ ty.toString) = some cA) → ∃ cA : ClassId, ∀ ty : FieldType, zAt[t]? = some ty → ArrOfT s cA ty ∧ va_RA s cA ty ∧ s.vm.findClass ("[" ++ ty.toString) = some cA := by
    intro ty t ht h
    obtain ⟨cA, h⟩ := h
    exact ⟨cA, fun ty' ht' => by cases ht.symm.trans ht'; exact h⟩
  intro t
  match t with
  | 0 => exact one (t := 0) rfl (prim _ q330 (fun _ h => by cases h))
  | 1 => exact one (t := 1) rfl (prim _ q331 (fun _ h => by cases h))
  | 2 => exact one (t := 2) rfl (prim _ q332 (fun _ h => by cases h))
  | 3 => exact one (t := 3) rfl (obj _ q213)
  | 4 => exact one (t := 4) rfl (obj _ q335)
  | 5 => exact one (t := 5) rfl (obj _ q337)
  | 6 =>
    obtain ⟨comp, c, k, h1, h2, h3, h4, h5⟩ := arrayOverA_spec (hts _ q224)
    exact one (t := 6) rfl ⟨c, fun N z => ⟨(fun k h => by cases h), k, h3, comp, h4⟩, h5, h5⟩
  | n + 7 => exact ⟨0, fun ty h => by have := zat_lt h; omega⟩
theorem zKn_start {s : State} {b : Nat} {cS : ClassId} {kS : Class} {comp : ClassId} (hkS : s.vm.classes[cS]? = some kS) (hkk : kS.kind = .array comp .int) (hts : ∀ w ∈ lw_tbl, w.before #[Value.ref b] s = true) (hgv : (Jvm.Cond.and given_1 narrow_1).before #[Value.ref b] s = true) (hmr : modulesRight_1 s = true) : ∃ D : zD, D.2.2.2 = s.heap ∧ D.2.2.1 7 = cS ∧ zKn D s := by
  have hall : ∀ w ∈ lw_all, w.before #[Value.ref b] s = true := fun w h => hts w (lw_all_tbl h)
  have hs := flat_of_before _ hgv
  have h1 : ∀ ci : Nat, ∃ (cC : ClassId) (iS : Nat → Nat), ∀ q, zCl[ci]? = some q → u_Kn s q.1 q.2.1 q.2.2 cC iS := by
    intro ci
    cases hq : zCl[ci]? with
    | none => exact ⟨0, fun _ => 0, fun q h => by cases h⟩
    | some q =>
      obtain ⟨n, hn⟩ := zInst ci hq
      have hlt := zcl_lt hq
      obtain ⟨ty, hty⟩ : ∃ ty, zTys[ci]? = some ty := ⟨_, List.getElem?_eq_getElem (show ci < 11 from hlt)⟩
      obtain ⟨cC, iS, h⟩ := u_known hall (zCl_ok hq hty).1 (hall _ hn)
      exact ⟨cC, iS, fun q' h' => by cases h'; exact h⟩
  obtain ⟨D1, hD1⟩ := Classical.axiomOfChoice h1
  obtain ⟨D2, hD2⟩ := Classical.axiomOfChoice hD1
  obtain ⟨D3, hD3⟩ := Classical.axiomOfChoice (zArr hts)
  have land : ∀ C : String, Cond.landsInDefault C ⟨"CodeExchange$Steps", "isEmpty", "()Z"⟩ ⟨"CodeExchange$Steps", "isEmpty", "()Z"⟩ ∈ flatC (Jvm.Cond.and given_1 narrow_1) → zLands C s := by
    intro C hC
    obtain ⟨c, r, m, rm, a1, a2, a3, a4, a5, a6⟩ := zlands (hs _ hC)
    exact ⟨c, r, m, rm, a1, a2, a3, a4, a5, a6⟩
  refine ⟨(D1, D2, fun t => if t = 7 then cS else D3 t, s.heap), rfl, rfl, fun ci q hq => hD2 ci q hq, fun t ty ht => (by
    have e9 : (D1, D2, fun t => if t = 7 then cS else D3 t, s.heap).2.2.1 t = D3 t := if_neg (by have := zat_lt ht; omega)
    rw [e9]
    exact hD3 t ty ht), fun w hw hk => va_Nw.of (by cases w <;> first | rfl | cases hk) (hts w hw), fun x hx => ?_, fun q hq => ?_, fun V hal hHa => ⟨fun w hw A => ?_, ?_, fun C hC => ?_, ?_⟩⟩
  · simp only [List.mem_cons, List.not_mem_nil, or_false] at hx
    rcases hx with rfl | rfl | rfl
    · exact ⟨va_Nw.of rfl (hts _ q1077), va_Nw.of rfl (hts _ q1076)⟩
    · exact ⟨va_Nw.of rfl (hts _ q1255), va_Nw.of rfl (hts _ q1254)⟩
    · exact ⟨va_Nw.of rfl (hts _ q1264), va_Nw.of rfl (hts _ q1263)⟩
  · simp only [List.mem_cons, List.not_mem_nil, or_false] at hq
    rcases hq with rfl | rfl | rfl | rfl | rfl <;> exact va_Nc.of (hs _ (by decide +kernel))
  · have hH : ∀ q : Nat, q < s.heap.size → V.heap[q]? = s.heap[q]? := hHa
    simp only [List.mem_cons, List.not_mem_nil, or_false] at hw
    rcases hw with rfl | rfl | rfl | rfl | rfl | rfl | rfl | rfl
    · exact zLS hal hH (hts _ q156)
    · exact zLS hal hH (hts _ q158)
    · exact zIR hal hH (hts _ q156) (hs _ (by decide +kernel))
    · exact zIR hal hH (hts _ q158) (hs _ (by decide +kernel))
    · exact va_AO.use (va_AO.moved hal (va_AO.of (hts _ q213)))
    · exact va_AO.use (va_AO.moved hal (va_AO.of (hts _ q335)))
    · exact va_AO.use (va_AO.moved hal (va_AO.of (hts _ q337)))
    · exact zAO hal (hts _ q224)
  · have e : V.vm.modules = s.vm.modules := by rw [hal.1]
    unfold modulesRight_1 at hmr ⊢
    rw [e]
    exact hmr
  · simp only [List.mem_cons, List.not_mem_nil, or_false] at hC
    rcases hC with rfl | rfl
    · exact zLandsM hal (land _ (by decide +kernel))
    · exact zLandsM hal (land _ (by decide +kernel))
  · obtain ⟨k', hk', he⟩ := hal.2.2 _ _ hkS
    exact ⟨k', comp, hk', by rw [he]; exact hkk⟩
end ZST
