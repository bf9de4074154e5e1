/-! the functions' own words, and blocks of cells -/
set_option maxRecDepth 100000
def zlet {α β : Type} (x : α) (k : α → β) : β := k x
theorem zlet_some {α β : Type} {x : α} {k : α → Option β} {y : β} (h : zlet x k = some y) : ∃ a, a = x ∧ k a = some y := ⟨x, rfl, h⟩
def zb1 {α γ : Type} (x : Option α) (k : α → Option γ) : Option γ := match x with
  | none => none
  | some a => k a
theorem zb1_some {α γ : Type} {x : Option α} {k : α → Option γ} {y : γ} (h : zb1 x k = some y) : ∃ a, x = some a ∧ k a = some y := by
  cases x with
  | none => cases h
  | some a => exact ⟨a, rfl, h⟩
theorem zb1_eq {α γ : Type} {a : α} {k : α → Option γ} : zb1 (some a) k = k a := rfl
def zb2 {α β γ : Type} (x : Option (α × β)) (k : α → β → Option γ) : Option γ := match x with
  | none => none
  | some p => k p.1 p.2
theorem zb2_some {α β γ : Type} {x : Option (α × β)} {k : α → β → Option γ} {y : γ} (h : zb2 x k = some y) : ∃ a b, x = some (a, b) ∧ k a b = some y := by
  cases x with
  | none => cases h
  | some p => exact ⟨p.1, p.2, rfl, h⟩
theorem zb2_eq {α β γ : Type} {a : α} {b : β} {k : α → β → Option γ} : zb2 (some (a, b)) k = k a b := rfl
/-- a call that may throw: void, int, long, a reference -/
def zxv {γ : Type} (x : Option zX) (k : zH → Option γ) (t : Nat → zH → Option γ) : Option γ := match x with
  | some (.inl none, h) => k h
  | some (.inr a, h) => t a h
  | _ => none
def zxi {γ : Type} (x : Option zX) (k : Int32 → zH → Option γ) (t : Nat → zH → Option γ) : Option γ := match x with
  | some (.inl (some (.int v)), h) => k v h
  | some (.inr a, h) => t a h
  | _ => none
def zxl {γ : Type} (x : Option zX) (k : Int64 → zH → Option γ) (t : Nat → zH → Option γ) : Option γ := match x with
  | some (.inl (some (.long v)), h) => k v h
  | some (.inr a, h) => t a h
  | _ => none
def zxr {γ : Type} (x : Option zX) (k : Option Nat → zH → Option γ) (t : Nat → zH → Option γ) : Option γ := match x with
  | some (.inl (some (.ref v)), h) => k (some v) h
  | some (.inl (some .null), h) => k none h
  | some (.inr a, h) => t a h
  | _ => none
theorem zxv_some {γ : Type} {x : Option zX} {k : zH → Option γ} {t : Nat → zH → Option γ} {y : γ} (h : zxv x k t = some y) : (∃ h1, x = some (.inl none, h1) ∧ k h1 = some y) ∨ ∃ a h1, x = some (.inr a, h1) ∧ t a h1 = some y := by
  unfold zxv at h
  split at h
  · exact Or.inl ⟨_, rfl, h⟩
  · exact Or.inr ⟨_, _, rfl, h⟩
  · cases h
theorem zxi_some {γ : Type} {x : Option zX} {k : Int32 → zH → Option γ} {t : Nat → zH → Option γ} {y : γ} (h : zxi x k t = some y) : (∃ v h1, x = some (.inl (some (.int v)), h1) ∧ k v h1 = some y) ∨ ∃ a h1, x = some (.inr a, h1) ∧ t a h1 = some y := by
  unfold zxi at h
  split at h
  · exact Or.inl ⟨_, _, rfl, h⟩
  · exact Or.inr ⟨_, _, rfl, h⟩
  · cases h
theorem zxl_some {γ : Type} {x : Option zX} {k : Int64 → zH → Option γ} {t : Nat → zH → Option γ} {y : γ} (h : zxl x k t = some y) : (∃ v h1, x = some (.inl (some (.long v)), h1) ∧ k v h1 = some y) ∨ ∃ a h1, x = some (.inr a, h1) ∧ t a h1 = some y := by
  unfold zxl at h
  split at h
  · exact Or.inl ⟨_, _, rfl, h⟩
  · exact Or.inr ⟨_, _, rfl, h⟩
  · cases h
theorem zxr_some {γ : Type} {x : Option zX} {k : Option Nat → zH → Option γ} {t : Nat → zH → Option γ} {y : γ} (h : zxr x k t = some y) : (∃ v h1, x = some (.inl (some (va_rf v)), h1) ∧ k v h1 = some y) ∨ ∃ a h1, x = some (.inr a, h1) ∧ t a h1 = some y := by
  unfold zxr at h
  split at h
  · exact Or.inl ⟨some _, _, rfl, h⟩
  · exact Or.inl ⟨none, _, rfl, h⟩
  · exact Or.inr ⟨_, _, rfl, h⟩
  · cases h
/-- a loop's end: out of it to the code behind, or an end of the outer -/
def zlx {τ X : Type} (e : Option (τ ⊕ X)) (k : τ → Option X) : Option X := match e with
  | none => none
  | some (.inl t) => k t
  | some (.inr z) => some z
theorem zlx_some {τ X : Type} {e : Option (τ ⊕ X)} {k : τ → Option X} {y : X} (h : zlx e k = some y) : ∃ r, e = some r ∧ ((∃ t, r = .inl t ∧ k t = some y) ∨ r = .inr y) := by
  unfold zlx at h
  split at h
  · cases h
  · exact ⟨_, rfl, Or.inl ⟨_, rfl, h⟩⟩
  · cases h; exact ⟨_, rfl, Or.inr rfl⟩
/-- a reference or null -/
def zrq {γ : Type} (o : Option Nat) (n : Option γ) (k : Nat → Option γ) : Option γ := match o with
  | none => n
  | some a => k a
/-- an int array of whatever length, and a place in it -/
def zAr (h : zH) (b : Nat) (i : Int32) : Prop := (zT h b).1 = 100 ∧ vp_in i (zT h b).2
theorem zAr_t {h : zH} {b : Nat} {i : Int32} (hA : zAr h b i) : zT h b = (100, (zT h b).2) := by
  have e := hA.1
  generalize zT h b = q at e ⊢
  obtain ⟨q1, q2⟩ := q
  exact congrArg (fun z => (z, q2)) e
theorem zany {α : Type} {o : Option α} {p : α → Bool} (h : o.any p = true) : ∃ a, o = some a ∧ p a = true := by
  cases o with
  | none => cases h
  | some a => exact ⟨a, rfl, h⟩
/-! blocks -/
def zBlk (bl : List (Nat × Nat)) (pt : List (Nat × Nat × Nat)) (h : zH) (a : Nat) : Prop := a ≠ 0 ∧ (∀ (i : Nat) (kd : Nat × Nat), bl[i]? = some kd → a + i < zn h ∧ zT h (a + i) = kd) ∧ ∀ (j : Nat) (p : Nat × Nat × Nat), pt[j]? = some p → zP h (a + p.1) p.2.1 = some (a + p.2.2)
def zBok (bl : List (Nat × Nat)) (pt : List (Nat × Nat × Nat)) : Bool := pt.all (fun p => (bl[p.1]?).any (fun kd => zFn kd p.2.1))
section ZBK
variable {bl : List (Nat × Nat)} {pt : List (Nat × Nat × Nat)} {h h' : zH} {a x k : Nat}
theorem zBlk.t (hL : zBlk bl pt h a) (i : Nat) {kd : Nat × Nat} (hi : bl[i]? = some kd) : zT h (a + i) = kd := (hL.2.1 i kd hi).2
theorem zBlk.lt (hL : zBlk bl pt h a) (i : Nat) {kd : Nat × Nat} (hi : bl[i]? = some kd) : a + i < zn h := (hL.2.1 i kd hi).1
theorem zBlk.p (hL : zBlk bl pt h a) (j : Nat) {p : Nat × Nat × Nat} (hj : pt[j]? = some p) : zP h (a + p.1) p.2.1 = some (a + p.2.2) := hL.2.2 j p hj
theorem zBlk.nz (hL : zBlk bl pt h a) (i : Nat) : a + i ≠ 0 := by have := hL.1; omega
theorem zBlk.I {v : Int32} (hL : zBlk bl pt h a) (he : h' = zsI h x k v) : zBlk bl pt h' a := by subst he; exact hL
theorem zBlk.L {v : Int64} (hL : zBlk bl pt h a) (he : h' = zsL h x k v) : zBlk bl pt h' a := by subst he; exact hL
theorem zBlk.P {v : Option Nat} {kdx : Nat × Nat} (hL : zBlk bl pt h a) (he : h' = zsP h x k v) (hx : zT h x = kdx) (hs : pt.all (fun p => p.2.1 != k || bl[p.1]? != some kdx && (bl[p.1]?).isSome) = true) : zBlk bl pt h' a := by
  subst he
  refine ⟨hL.1, hL.2.1, fun j p hp => ?_⟩
  have h1 := List.all_eq_true.mp hs p (List.mem_of_getElem? hp)
  have n : ¬ (a + p.1 = x ∧ p.2.1 = k) := by
    rintro ⟨e1, e2⟩
    simp only [e2, bne_self_eq_false, Bool.false_or, Bool.and_eq_true, bne_iff_ne, ne_eq] at h1
    obtain ⟨h1, h2⟩ := h1
    obtain ⟨kd, hkd⟩ := Option.isSome_iff_exists.mp h2
    have h3 := hL.t p.1 hkd
    rw [e1, hx] at h3
    exact h1 (by rw [hkd, h3])
  exact (if_neg n : (if a + p.1 = x ∧ p.2.1 = k then v else zP h (a + p.1) p.2.1) = zP h (a + p.1) p.2.1).trans (hL.2.2 j p hp)
theorem zBlk.mk {t : Nat × Nat} {N : Nat} (hL : zBlk bl pt h a) (hok : zBok bl pt = true) (he : h' = zmk h t N) : zBlk bl pt h' a := by
  subst he
  refine ⟨hL.1, fun i kd hi => ?_, fun j p hp => ?_⟩
  · obtain ⟨h1, h2⟩ := hL.2.1 i kd hi
    exact ⟨Nat.lt_succ_of_lt h1, (va_up_ne (zT h) t (Nat.ne_of_lt h1)).trans h2⟩
  · have h1 := List.all_eq_true.mp hok p (List.mem_of_getElem? hp)
    obtain ⟨kd, hkd, -⟩ := zany h1
    have h2 := hL.lt p.1 hkd
    exact (congrFun (va_up_ne (zP h) _ (Nat.ne_of_lt h2)) _).trans (hL.2.2 j p hp)
theorem zBlk.ext (hL : zBlk bl pt h a) (hok : zBok bl pt = true) (hx : zLx h h') : zBlk bl pt h' a := by
  refine ⟨hL.1, fun i kd hi => ?_, fun j p hp => ?_⟩
  · obtain ⟨h1, h2⟩ := hL.2.1 i kd hi
    exact ⟨Nat.lt_of_lt_of_le h1 hx.1.1, (hx.2.1 _ h1).trans h2⟩
  · have h1 := List.all_eq_true.mp hok p (List.mem_of_getElem? hp)
    obtain ⟨kd, hkd, hf⟩ := zany h1
    obtain ⟨h2, h3⟩ := hL.2.1 p.1 kd hkd
    exact hx.2.2 _ _ _ h2 (by rw [h3]; exact hf) (hL.2.2 j p hp)
end ZBK
/-! calls by what they answer -/
set_option maxRecDepth 100000
section ZW
variable {F : zF} {nL : Nat} {cc : ByteArray} {own nm : String} {ret : Option FieldType} {hh : List (Nat × Nat × Nat × Nat)} {h h1 : zH} {pc : Nat} {lc : List (Nat × Value)} {st stk : List Value} {y x : MethodName} {ws : List Cond} {maxL d' index ci n b : Nat} {As : List Value} {owner : String}
theorem z_invVi {v : Int32} (hI : zIv own index y ws maxL ci n) (hM : zC F.1 y ws d' (.ref b :: As) h (.inl (some (.int v)), h1)) (hb : zT h b = (ci + 1, 0)) (hdp : d' + 1 ≤ F.2.1 ∧ maxL ≤ 81) (hn : As.length = n) (hstk : stk = As.reverse ++ .ref b :: st) (hcat : (st.map fun v => v.category).sum ≤ 8) (hd : decode cc pc = .ok (.invokevirtual index, 3)) (kk : Z F nL cc own nm ret hh h1 (pc + 3) lc (.int v :: st)) : Z F nL cc own nm ret hh h pc lc stk := z_invV hI hM hb hdp hn hstk hcat hd kk
theorem z_invVl {v : Int64} (hI : zIv own index y ws maxL ci n) (hM : zC F.1 y ws d' (.ref b :: As) h (.inl (some (.long v)), h1)) (hb : zT h b = (ci + 1, 0)) (hdp : d' + 1 ≤ F.2.1 ∧ maxL ≤ 81) (hn : As.length = n) (hstk : stk = As.reverse ++ .ref b :: st) (hcat : (st.map fun v => v.category).sum ≤ 8) (hd : decode cc pc = .ok (.invokevirtual index, 3)) (kk : Z F nL cc own nm ret hh h1 (pc + 3) lc (.long v :: st)) : Z F nL cc own nm ret hh h pc lc stk := z_invV hI hM hb hdp hn hstk hcat hd kk
theorem z_invVv (hI : zIv own index y ws maxL ci n) (hM : zC F.1 y ws d' (.ref b :: As) h (.inl none, h1)) (hb : zT h b = (ci + 1, 0)) (hdp : d' + 1 ≤ F.2.1 ∧ maxL ≤ 81) (hn : As.length = n) (hstk : stk = As.reverse ++ .ref b :: st) (hcat : (st.map fun v => v.category).sum ≤ 8) (hd : decode cc pc = .ok (.invokevirtual index, 3)) (kk : Z F nL cc own nm ret hh h1 (pc + 3) lc (st)) : Z F nL cc own nm ret hh h pc lc stk := z_invV hI hM hb hdp hn hstk hcat hd kk
theorem z_invVq {v : Option Nat} (hI : zIv own index y ws maxL ci n) (hM : zC F.1 y ws d' (.ref b :: As) h (.inl (some (va_rf v)), h1)) (hb : zT h b = (ci + 1, 0)) (hdp : d' + 1 ≤ F.2.1 ∧ maxL ≤ 81) (hn : As.length = n) (hstk : stk = As.reverse ++ .ref b :: st) (hcat : (st.map fun v => v.category).sum ≤ 8) (hd : decode cc pc = .ok (.invokevirtual index, 3)) (kk : Z F nL cc own nm ret hh h1 (pc + 3) lc (va_rf v :: st)) : Z F nL cc own nm ret hh h pc lc stk := z_invV hI hM hb hdp hn hstk hcat hd kk
theorem z_invVt {e : Nat} (hI : zIv own index y ws maxL ci n) (hM : zC F.1 y ws d' (.ref b :: As) h (.inr e, h1)) (hb : zT h b = (ci + 1, 0)) (hdp : d' + 1 ≤ F.2.1 ∧ maxL ≤ 81) (hn : As.length = n) (hstk : stk = As.reverse ++ .ref b :: st) (hcat : (st.map fun v => v.category).sum ≤ 8) (hd : decode cc pc = .ok (.invokevirtual index, 3)) (kk : ZT F nL cc own nm ret hh h1 pc lc e) : Z F nL cc own nm ret hh h pc lc stk := z_invV hI hM hb hdp hn hstk hcat hd kk
theorem z_invSi {v : Int32} (hI : zIs own index y ws maxL n) (hM : zC F.1 y ws d' As h (.inl (some (.int v)), h1)) (hdp : d' + 1 ≤ F.2.1 ∧ maxL ≤ 81) (hn : As.length = n) (hstk : stk = As.reverse ++ st) (hcat : (st.map fun v => v.category).sum ≤ 8) (hd : decode cc pc = .ok (.invokestatic index, 3)) (kk : Z F nL cc own nm ret hh h1 (pc + 3) lc (.int v :: st)) : Z F nL cc own nm ret hh h pc lc stk := z_invS hI hM hdp hn hstk hcat hd kk
theorem z_invSl {v : Int64} (hI : zIs own index y ws maxL n) (hM : zC F.1 y ws d' As h (.inl (some (.long v)), h1)) (hdp : d' + 1 ≤ F.2.1 ∧ maxL ≤ 81) (hn : As.length = n) (hstk : stk = As.reverse ++ st) (hcat : (st.map fun v => v.category).sum ≤ 8) (hd : decode cc pc = .ok (.invokestatic index, 3)) (kk : Z F nL cc own nm ret hh h1 (pc + 3) lc (.long v :: st)) : Z F nL cc own nm ret hh h pc lc stk := z_invS hI hM hdp hn hstk hcat hd kk
theorem z_invSv (hI : zIs own index y ws maxL n) (hM : zC F.1 y ws d' As h (.inl none, h1)) (hdp : d' + 1 ≤ F.2.1 ∧ maxL ≤ 81) (hn : As.length = n) (hstk : stk = As.reverse ++ st) (hcat : (st.map fun v => v.category).sum ≤ 8) (hd : decode cc pc = .ok (.invokestatic index, 3)) (kk : Z F nL cc own nm ret hh h1 (pc + 3) lc (st)) : Z F nL cc own nm ret hh h pc lc stk := z_invS hI hM hdp hn hstk hcat hd kk
theorem z_invSq {v : Option Nat} (hI : zIs own index y ws maxL n) (hM : zC F.1 y ws d' As h (.inl (some (va_rf v)), h1)) (hdp : d' + 1 ≤ F.2.1 ∧ maxL ≤ 81) (hn : As.length = n) (hstk : stk = As.reverse ++ st) (hcat : (st.map fun v => v.category).sum ≤ 8) (hd : decode cc pc = .ok (.invokestatic index, 3)) (kk : Z F nL cc own nm ret hh h1 (pc + 3) lc (va_rf v :: st)) : Z F nL cc own nm ret hh h pc lc stk := z_invS hI hM hdp hn hstk hcat hd kk
theorem z_invSt {e : Nat} (hI : zIs own index y ws maxL n) (hM : zC F.1 y ws d' As h (.inr e, h1)) (hdp : d' + 1 ≤ F.2.1 ∧ maxL ≤ 81) (hn : As.length = n) (hstk : stk = As.reverse ++ st) (hcat : (st.map fun v => v.category).sum ≤ 8) (hd : decode cc pc = .ok (.invokestatic index, 3)) (kk : ZT F nL cc own nm ret hh h1 pc lc e) : Z F nL cc own nm ret hh h pc lc stk := z_invS hI hM hdp hn hstk hcat hd kk
theorem z_invUi {v : Int32} (hI : zIu own index x owner y ws maxL ci n) (hM : zC F.1 y ws d' (.ref b :: As) h (.inl (some (.int v)), h1)) (hb : zT h b = (ci + 1, 0)) (hdp : d' + 1 ≤ F.2.1 ∧ maxL ≤ 81) (hn : As.length = n) (hstk : stk = As.reverse ++ .ref b :: st) (hcat : (st.map fun v => v.category).sum ≤ 8) (hd : decode cc pc = .ok (.invokevirtual index, 3)) (kk : Z F nL cc own nm ret hh h1 (pc + 3) lc (.int v :: st)) : Z F nL cc own nm ret hh h pc lc stk := z_invU hI hM hb hdp hn hstk hcat hd kk
theorem z_invUl {v : Int64} (hI : zIu own index x owner y ws maxL ci n) (hM : zC F.1 y ws d' (.ref b :: As) h (.inl (some (.long v)), h1)) (hb : zT h b = (ci + 1, 0)) (hdp : d' + 1 ≤ F.2.1 ∧ maxL ≤ 81) (hn : As.length = n) (hstk : stk = As.reverse ++ .ref b :: st) (hcat : (st.map fun v => v.category).sum ≤ 8) (hd : decode cc pc = .ok (.invokevirtual index, 3)) (kk : Z F nL cc own nm ret hh h1 (pc + 3) lc (.long v :: st)) : Z F nL cc own nm ret hh h pc lc stk := z_invU hI hM hb hdp hn hstk hcat hd kk
theorem z_invUv (hI : zIu own index x owner y ws maxL ci n) (hM : zC F.1 y ws d' (.ref b :: As) h (.inl none, h1)) (hb : zT h b = (ci + 1, 0)) (hdp : d' + 1 ≤ F.2.1 ∧ maxL ≤ 81) (hn : As.length = n) (hstk : stk = As.reverse ++ .ref b :: st) (hcat : (st.map fun v => v.category).sum ≤ 8) (hd : decode cc pc = .ok (.invokevirtual index, 3)) (kk : Z F nL cc own nm ret hh h1 (pc + 3) lc (st)) : Z F nL cc own nm ret hh h pc lc stk := z_invU hI hM hb hdp hn hstk hcat hd kk
theorem z_invUq {v : Option Nat} (hI : zIu own index x owner y ws maxL ci n) (hM : zC F.1 y ws d' (.ref b :: As) h (.inl (some (va_rf v)), h1)) (hb : zT h b = (ci + 1, 0)) (hdp : d' + 1 ≤ F.2.1 ∧ maxL ≤ 81) (hn : As.length = n) (hstk : stk = As.reverse ++ .ref b :: st) (hcat : (st.map fun v => v.category).sum ≤ 8) (hd : decode cc pc = .ok (.invokevirtual index, 3)) (kk : Z F nL cc own nm ret hh h1 (pc + 3) lc (va_rf v :: st)) : Z F nL cc own nm ret hh h pc lc stk := z_invU hI hM hb hdp hn hstk hcat hd kk
theorem z_invUt {e : Nat} (hI : zIu own index x owner y ws maxL ci n) (hM : zC F.1 y ws d' (.ref b :: As) h (.inr e, h1)) (hb : zT h b = (ci + 1, 0)) (hdp : d' + 1 ≤ F.2.1 ∧ maxL ≤ 81) (hn : As.length = n) (hstk : stk = As.reverse ++ .ref b :: st) (hcat : (st.map fun v => v.category).sum ≤ 8) (hd : decode cc pc = .ok (.invokevirtual index, 3)) (kk : ZT F nL cc own nm ret hh h1 pc lc e) : Z F nL cc own nm ret hh h pc lc stk := z_invU hI hM hb hdp hn hstk hcat hd kk
theorem z_invFi {count : Nat} {v : Int32} (hI : zIf own index x y ws maxL ci n) (hM : zC F.1 y ws d' (.ref b :: As) h (.inl (some (.int v)), h1)) (hb : zT h b = (ci + 1, 0)) (hdp : d' + 1 ≤ F.2.1 ∧ maxL ≤ 81) (hn : As.length = n) (hstk : stk = As.reverse ++ .ref b :: st) (hcat : (st.map fun v => v.category).sum ≤ 8) (hd : decode cc pc = .ok (.invokeinterface index count, 5)) (kk : Z F nL cc own nm ret hh h1 (pc + 5) lc (.int v :: st)) : Z F nL cc own nm ret hh h pc lc stk := z_invF hI hM hb hdp hn hstk hcat hd kk
theorem z_invFl {count : Nat} {v : Int64} (hI : zIf own index x y ws maxL ci n) (hM : zC F.1 y ws d' (.ref b :: As) h (.inl (some (.long v)), h1)) (hb : zT h b = (ci + 1, 0)) (hdp : d' + 1 ≤ F.2.1 ∧ maxL ≤ 81) (hn : As.length = n) (hstk : stk = As.reverse ++ .ref b :: st) (hcat : (st.map fun v => v.category).sum ≤ 8) (hd : decode cc pc = .ok (.invokeinterface index count, 5)) (kk : Z F nL cc own nm ret hh h1 (pc + 5) lc (.long v :: st)) : Z F nL cc own nm ret hh h pc lc stk := z_invF hI hM hb hdp hn hstk hcat hd kk
theorem z_invFv {count : Nat} (hI : zIf own index x y ws maxL ci n) (hM : zC F.1 y ws d' (.ref b :: As) h (.inl none, h1)) (hb : zT h b = (ci + 1, 0)) (hdp : d' + 1 ≤ F.2.1 ∧ maxL ≤ 81) (hn : As.length = n) (hstk : stk = As.reverse ++ .ref b :: st) (hcat : (st.map fun v => v.category).sum ≤ 8) (hd : decode cc pc = .ok (.invokeinterface index count, 5)) (kk : Z F nL cc own nm ret hh h1 (pc + 5) lc (st)) : Z F nL cc own nm ret hh h pc lc stk := z_invF hI hM hb hdp hn hstk hcat hd kk
theorem z_invFq {count : Nat} {v : Option Nat} (hI : zIf own index x y ws maxL ci n) (hM : zC F.1 y ws d' (.ref b :: As) h (.inl (some (va_rf v)), h1)) (hb : zT h b = (ci + 1, 0)) (hdp : d' + 1 ≤ F.2.1 ∧ maxL ≤ 81) (hn : As.length = n) (hstk : stk = As.reverse ++ .ref b :: st) (hcat : (st.map fun v => v.category).sum ≤ 8) (hd : decode cc pc = .ok (.invokeinterface index count, 5)) (kk : Z F nL cc own nm ret hh h1 (pc + 5) lc (va_rf v :: st)) : Z F nL cc own nm ret hh h pc lc stk := z_invF hI hM hb hdp hn hstk hcat hd kk
theorem z_invFt {count : Nat} {e : Nat} (hI : zIf own index x y ws maxL ci n) (hM : zC F.1 y ws d' (.ref b :: As) h (.inr e, h1)) (hb : zT h b = (ci + 1, 0)) (hdp : d' + 1 ≤ F.2.1 ∧ maxL ≤ 81) (hn : As.length = n) (hstk : stk = As.reverse ++ .ref b :: st) (hcat : (st.map fun v => v.category).sum ≤ 8) (hd : decode cc pc = .ok (.invokeinterface index count, 5)) (kk : ZT F nL cc own nm ret hh h1 pc lc e) : Z F nL cc own nm ret hh h pc lc stk := z_invF hI hM hb hdp hn hstk hcat hd kk
theorem z_invZi {q : vw_C} {ty : Nat → FieldType} {v : Int32} (hI : zIz own index y ws maxL n) (hM : zC F.1 y ws d' (.ref b :: As) h (.inl (some (.int v)), h1)) (hq : zCl[ci]? = some q) (hty : zTys[ci]? = some ty) (hb : zT h b = (ci + 1, 0)) (hdp : d' + 1 ≤ F.2.1 ∧ maxL ≤ 81) (hn : As.length = n) (hstk : stk = As.reverse ++ .ref b :: st) (hcat : (st.map fun v => v.category).sum ≤ 8) (hd : decode cc pc = .ok (.invokespecial index, 3)) (kk : Z F nL cc own nm ret hh h1 (pc + 3) lc (.int v :: st)) : Z F nL cc own nm ret hh h pc lc stk := z_invZ hI hM hq hty hb hdp hn hstk hcat hd kk
theorem z_invZl {q : vw_C} {ty : Nat → FieldType} {v : Int64} (hI : zIz own index y ws maxL n) (hM : zC F.1 y ws d' (.ref b :: As) h (.inl (some (.long v)), h1)) (hq : zCl[ci]? = some q) (hty : zTys[ci]? = some ty) (hb : zT h b = (ci + 1, 0)) (hdp : d' + 1 ≤ F.2.1 ∧ maxL ≤ 81) (hn : As.length = n) (hstk : stk = As.reverse ++ .ref b :: st) (hcat : (st.map fun v => v.category).sum ≤ 8) (hd : decode cc pc = .ok (.invokespecial index, 3)) (kk : Z F nL cc own nm ret hh h1 (pc + 3) lc (.long v :: st)) : Z F nL cc own nm ret hh h pc lc stk := z_invZ hI hM hq hty hb hdp hn hstk hcat hd kk
theorem z_invZv {q : vw_C} {ty : Nat → FieldType} (hI : zIz own index y ws maxL n) (hM : zC F.1 y ws d' (.ref b :: As) h (.inl none, h1)) (hq : zCl[ci]? = some q) (hty : zTys[ci]? = some ty) (hb : zT h b = (ci + 1, 0)) (hdp : d' + 1 ≤ F.2.1 ∧ maxL ≤ 81) (hn : As.length = n) (hstk : stk = As.reverse ++ .ref b :: st) (hcat : (st.map fun v => v.category).sum ≤ 8) (hd : decode cc pc = .ok (.invokespecial index, 3)) (kk : Z F nL cc own nm ret hh h1 (pc + 3) lc (st)) : Z F nL cc own nm ret hh h pc lc stk := z_invZ hI hM hq hty hb hdp hn hstk hcat hd kk
theorem z_invZq {q : vw_C} {ty : Nat → FieldType} {v : Option Nat} (hI : zIz own index y ws maxL n) (hM : zC F.1 y ws d' (.ref b :: As) h (.inl (some (va_rf v)), h1)) (hq : zCl[ci]? = some q) (hty : zTys[ci]? = some ty) (hb : zT h b = (ci + 1, 0)) (hdp : d' + 1 ≤ F.2.1 ∧ maxL ≤ 81) (hn : As.length = n) (hstk : stk = As.reverse ++ .ref b :: st) (hcat : (st.map fun v => v.category).sum ≤ 8) (hd : decode cc pc = .ok (.invokespecial index, 3)) (kk : Z F nL cc own nm ret hh h1 (pc + 3) lc (va_rf v :: st)) : Z F nL cc own nm ret hh h pc lc stk := z_invZ hI hM hq hty hb hdp hn hstk hcat hd kk
theorem z_invZt {q : vw_C} {ty : Nat → FieldType} {e : Nat} (hI : zIz own index y ws maxL n) (hM : zC F.1 y ws d' (.ref b :: As) h (.inr e, h1)) (hq : zCl[ci]? = some q) (hty : zTys[ci]? = some ty) (hb : zT h b = (ci + 1, 0)) (hdp : d' + 1 ≤ F.2.1 ∧ maxL ≤ 81) (hn : As.length = n) (hstk : stk = As.reverse ++ .ref b :: st) (hcat : (st.map fun v => v.category).sum ≤ 8) (hd : decode cc pc = .ok (.invokespecial index, 3)) (kk : ZT F nL cc own nm ret hh h1 pc lc e) : Z F nL cc own nm ret hh h pc lc stk := z_invZ hI hM hq hty hb hdp hn hstk hcat hd kk
theorem z_invIv {bt : ByteArray} (hI : zIi own index y bt maxL n) (hM : zC F.1 y (ws_ y bt maxL none) d' (.ref b :: As) h (.inl none, h1)) (hdp : d' + 1 ≤ F.2.1 ∧ maxL ≤ 81) (hn : As.length = n) (hstk : stk = As.reverse ++ .ref b :: st) (hcat : (st.map fun v => v.category).sum ≤ 8) (hd : decode cc pc = .ok (.invokespecial index, 3)) (kk : Z F nL cc own nm ret hh h1 (pc + 3) lc (st)) : Z F nL cc own nm ret hh h pc lc stk := z_invI hI hM hdp hn hstk hcat hd kk
end ZW
