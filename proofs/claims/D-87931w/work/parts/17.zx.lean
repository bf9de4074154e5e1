/-! contexts of several blocks and known pointers; places of reference arrays; arrays of any length -/
set_option maxRecDepth 100000
abbrev zBe : Type := List (Nat × Nat) × List (Nat × Nat × Nat) × Nat
/-- blocks at addresses; pointers that stay -/
def zCt (bs : List zBe) (fs : List (Nat × Nat × Nat)) (h : zH) : Prop := (∀ (j : Nat) (q : zBe), bs[j]? = some q → zBok q.1 q.2.1 = true ∧ zBlk q.1 q.2.1 h q.2.2) ∧ ∀ (j : Nat) (q : Nat × Nat × Nat), fs[j]? = some q → q.1 < zn h ∧ zFn (zT h q.1) q.2.1 = true ∧ zP h q.1 q.2.1 = some q.2.2
section ZCT
variable {bs : List zBe} {fs : List (Nat × Nat × Nat)} {h h' : zH} {x k : Nat}
theorem zCt.b (hL : zCt bs fs h) (j : Nat) {bl : List (Nat × Nat)} {pt : List (Nat × Nat × Nat)} {a : Nat} (hj : bs[j]? = some (bl, pt, a)) : zBlk bl pt h a := (hL.1 j _ hj).2
theorem zCt.f (hL : zCt bs fs h) (j : Nat) {q : Nat × Nat × Nat} (hj : fs[j]? = some q) : zP h q.1 q.2.1 = some q.2.2 := (hL.2 j q hj).2.2
theorem zCt.I {v : Int32} (hL : zCt bs fs h) (he : h' = zsI h x k v) : zCt bs fs h' := by subst he; exact hL
theorem zCt.L {v : Int64} (hL : zCt bs fs h) (he : h' = zsL h x k v) : zCt bs fs h' := by subst he; exact hL
theorem zCt.ext (hL : zCt bs fs h) (hx : zLx h h') : zCt bs fs h' := ⟨fun j q hq => ⟨(hL.1 j q hq).1, (hL.1 j q hq).2.ext (hL.1 j q hq).1 hx⟩, fun j q hq => by
  obtain ⟨h1, h2, h3⟩ := hL.2 j q hq
  exact ⟨Nat.lt_of_lt_of_le h1 hx.1.1, by rw [hx.2.1 _ h1]; exact h2, hx.2.2 _ _ _ h1 h2 h3⟩⟩
theorem zLx_P {v : Option Nat} (hf : zFn (zT h x) k = false) (he : h' = zsP h x k v) : zLx h h' := by
  subst he
  exact ⟨⟨Nat.le_refl _, Nat.le_refl _, Nat.le_refl _⟩, fun _ _ => rfl, fun a j b _ hf' e => zPk_P hf a j b hf' e⟩
theorem zCt.P {v : Option Nat} (hL : zCt bs fs h) (hf : zFn (zT h x) k = false) (he : h' = zsP h x k v) : zCt bs fs h' := hL.ext (zLx_P hf he)
theorem zCt.mk {t : Nat × Nat} {N : Nat} (hL : zCt bs fs h) (he : h' = zmk h t N) : zCt bs fs h' := by
  subst he
  exact hL.ext (zLx_mk (zLx_rf _))
/-- fewer blocks and pointers, by their places -/
theorem zCt.sub {bs' : List zBe} {fs' : List (Nat × Nat × Nat)} (hL : zCt bs fs h) (is js : List Nat) (hb : is.map (fun i => bs[i]?) = bs'.map some) (hf : js.map (fun i => fs[i]?) = fs'.map some) : zCt bs' fs' h := by
  refine ⟨fun j q hq => ?_, fun j q hq => ?_⟩
  · have h1 : (is.map (fun i => bs[i]?))[j]? = some (some q) := by rw [hb, List.getElem?_map, hq]; rfl
    rw [List.getElem?_map] at h1
    cases hi : is[j]? with
    | none => rw [hi] at h1; cases h1
    | some i => rw [hi] at h1; exact hL.1 i q (Option.some.inj h1)
  · have h1 : (js.map (fun i => fs[i]?))[j]? = some (some q) := by rw [hf, List.getElem?_map, hq]; rfl
    rw [List.getElem?_map] at h1
    cases hi : js[j]? with
    | none => rw [hi] at h1; cases h1
    | some i => rw [hi] at h1; exact hL.2 i q (Option.some.inj h1)
end ZCT
/-- an array of the kind t, of whatever length, and a place in it -/
def zAk (t : Nat) (h : zH) (b : Nat) (i : Int32) : Prop := (zT h b).1 = t + 100 ∧ vp_in i (zT h b).2
theorem zAk_t {t : Nat} {h : zH} {b : Nat} {i : Int32} (hA : zAk t h b i) : zT h b = (t + 100, (zT h b).2) := by
  have e := hA.1
  generalize zT h b = q at e ⊢
  obtain ⟨q1, q2⟩ := q
  exact congrArg (fun z => (z, q2)) e
theorem z_aldr {F : zF} {nL : Nat} {cc : ByteArray} {own nm : String} {ret : Option FieldType} {hh : List (Nat × Nat × Nat × Nat)} {h : zH} {pc : Nat} {lc : List (Nat × Value)} {st : List Value} {a n b : Nat} {i : Int32} {t : Nat} {ty : FieldType} (hty : zAt[t]? = some ty) (htr : (∃ n, ty = .object n) ∨ ∃ t, ty = .array t) (ha : zT h a = (t + 100, n)) (hin : vp_in i n) (hb : zP h a i.toNatClampNeg = some b) (hd : decode cc pc = .ok (.aaload, 1)) (kk : Z F nL cc own nm ret hh h (pc + 1) lc (.ref b :: st)) : Z F nL cc own nm ret hh h pc lc (.int i :: .ref a :: st) := by
  refine z_aldq hty htr ha hin hd ?_
  rw [hb]
  exact kk
section ZMM
variable {F : zF} {nL : Nat} {cc : ByteArray} {own nm : String} {ret : Option FieldType} {hh : List (Nat × Nat × Nat × Nat)} {h : zH} {pc : Nat} {lc : List (Nat × Value)} {st : List Value} {index : Nat} {x y : Int32}
theorem z_mmin (hl : Cond.methodLink own index Lib.Math.min.name ∈ lw_all) (hstt : Cond.static Lib.Math.min.name ∈ lw_all) (hini : Cond.initialized "java/lang/Math" ∈ lw_all) (hcd : Cond.code Lib.Math.min.name Lib.Math.min.code 2 (some .int) ∈ lw_all) (hdp : 1 ≤ F.2.1) (hcat : (st.map fun v => v.category).sum ≤ 8) (hd : decode cc pc = .ok (.invokestatic index, 3)) (kk : Z F nL cc own nm ret hh h (pc + 3) lc (.int (if y < x then y else x) :: st)) : Z F nL cc own nm ret hh h pc lc (.int y :: .int x :: st) := by
  refine ⟨kk.1, fun K hC r H locs ls hz => ?_⟩
  have hle := kk.1.1
  have hw := kk.2 K hC r H locs ls
  obtain ⟨l, d, h0, x0⟩ := F
  obtain ⟨p, e, s, m, args, below, meth, c, D, bs, r0⟩ := K
  obtain ⟨z1, z2, z3, z4, z5, z6, z7⟩ := hz
  obtain ⟨hx1, hbc, hml, hown, hts, hKn, -⟩ := hC
  have hw := hw ⟨z1, z2, z3, z4, z5, zok_1 (zok_int _ _) z6 (fun v hv => List.mem_cons_of_mem _ (List.mem_cons_of_mem _ hv)), z7⟩
  have hdp : 1 ≤ d := hdp
  have a1 : zc h ≤ zc x0.2 := hle.2.1
  have a2 : zu h ≤ zu x0.2 := hle.2.2
  exact va_mmin hx1 hbc (hml.trans z7.1.symm) hown (hts _ hl) (hts _ hstt) (hts _ hini) (hts _ hcd) (by show 1 ≤ d; exact hdp) (by show _ + 13 ≤ 100 * d; rw [List.map_map]; simp only [Function.comp_def, zv_cat]; omega) (by show zc h - zc h0 ≤ zc x0.2 - zc h0; omega) (by show zu h - zu h0 ≤ zu x0.2 - zu h0; omega) hd hw
theorem z_mmax (hl : Cond.methodLink own index Lib.Math.max.name ∈ lw_all) (hstt : Cond.static Lib.Math.max.name ∈ lw_all) (hini : Cond.initialized "java/lang/Math" ∈ lw_all) (hcd : Cond.code Lib.Math.max.name Lib.Math.max.code 2 (some .int) ∈ lw_all) (hdp : 1 ≤ F.2.1) (hcat : (st.map fun v => v.category).sum ≤ 8) (hd : decode cc pc = .ok (.invokestatic index, 3)) (kk : Z F nL cc own nm ret hh h (pc + 3) lc (.int (if x < y then y else x) :: st)) : Z F nL cc own nm ret hh h pc lc (.int y :: .int x :: st) := by
  refine ⟨kk.1, fun K hC r H locs ls hz => ?_⟩
  have hle := kk.1.1
  have hw := kk.2 K hC r H locs ls
  obtain ⟨l, d, h0, x0⟩ := F
  obtain ⟨p, e, s, m, args, below, meth, c, D, bs, r0⟩ := K
  obtain ⟨z1, z2, z3, z4, z5, z6, z7⟩ := hz
  obtain ⟨hx1, hbc, hml, hown, hts, hKn, -⟩ := hC
  have hw := hw ⟨z1, z2, z3, z4, z5, zok_1 (zok_int _ _) z6 (fun v hv => List.mem_cons_of_mem _ (List.mem_cons_of_mem _ hv)), z7⟩
  have hdp : 1 ≤ d := hdp
  have a1 : zc h ≤ zc x0.2 := hle.2.1
  have a2 : zu h ≤ zu x0.2 := hle.2.2
  exact va_mmax hx1 hbc (hml.trans z7.1.symm) hown (hts _ hl) (hts _ hstt) (hts _ hini) (hts _ hcd) (by show 1 ≤ d; exact hdp) (by show _ + 13 ≤ 100 * d; rw [List.map_map]; simp only [Function.comp_def, zv_cat]; omega) (by show zc h - zc h0 ≤ zc x0.2 - zc h0; omega) (by show zu h - zu h0 ≤ zu x0.2 - zu h0; omega) hd hw
end ZMM
