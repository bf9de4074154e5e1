/-! new cells -/
set_option maxRecDepth 100000
theorem zv_ext {n : Nat} {r r' : Nat → Nat} (h : ∀ a, a < n → r' a = r a) {v : Value} (hv : zok n v) : zv r' v = zv r v := by
  cases v with
  | ref a => exact congrArg Value.ref (h a (hv a rfl))
  | _ => rfl
theorem zmap_ext {n : Nat} {r r' : Nat → Nat} (h : ∀ a, a < n → r' a = r a) {st : List Value} (hv : ∀ v ∈ st, zok n v) : st.map (zv r') = st.map (zv r) := List.map_congr_left (fun v hm => zv_ext h (hv v hm))
theorem zlc_ext {n : Nat} {r r' : Nat → Nat} (h : ∀ a, a < n → r' a = r a) {lc : List (Nat × Value)} (hv : ∀ q ∈ lc, zok n q.2) : (lc.map fun q => (q.1, zv r' q.2)) = lc.map fun q => (q.1, zv r q.2) := List.map_congr_left (fun q hm => by rw [zv_ext h (hv q hm)])
theorem zok_le {n m : Nat} (h : n ≤ m) {v : Value} (hv : zok n v) : zok m v := fun a e => Nat.lt_of_lt_of_le (hv a e) h
theorem zfv_ext {r r' : Nat → Nat} {h h' : zH} {ty : FieldType} {a k : Nat} (hI : zI h' a k = zI h a k) (hL : zL h' a k = zL h a k) (hP : zP h' a k = zP h a k) (hr : ∀ b, zP h a k = some b → r' b = r b) : zfv r' h' ty a k = zfv r h ty a k := by
  have e : zv r' (va_rf (zP h' a k)) = zv r (va_rf (zP h a k)) := by
    rw [hP]
    cases hp : zP h a k with
    | none => rfl
    | some b => exact congrArg Value.ref (hr b hp)
  cases ty <;> simp only [zfv, hI, hL, e]
/-- a new cell keeps the picture -/
theorem zSim_mk {D : zD} {bs : Nat} {r : Nat → Nat} {h : zH} {H H' : Heap} {t : Nat × Nat} {N : Nat} (hS : zSim D bs r h H) (hz : H'.size = H.size + 1) (ho : ∀ q, q < H.size → H'[q]? = H[q]?)
    (hobj : ∀ (ci : Nat) (q : vw_C) (ty : Nat → FieldType), t = (ci + 1, 0) → zCl[ci]? = some q → zTys[ci]? = some ty → t_OB H.size (D.1 ci) q.2.2 (D.2.1 ci) H' (fun k => zfv (va_up r (zn h) H.size) (zmk h t N) (ty k) (zn h) k))
    (harr : ∀ (tt n : Nat) (ty : FieldType), t = (tt + 100, n) → zAt[tt]? = some ty → H'[H.size]? = some (arrV (D.2.2.1 tt) n (fun j => zfv (va_up r (zn h) H.size) (zmk h t N) ty (zn h) j))) :
    zSim D bs (va_up r (zn h) H.size) (zmk h t N) H' := by
  obtain ⟨s1, s2, s3, s4, s5, s6, s7, s8, s9, s10, s12, s11⟩ := hS
  have hn : zn (zmk h t N) = zn h + 1 := rfl
  have hr : ∀ a, a < zn h → va_up r (zn h) H.size a = r a := fun a ha => va_up_ne r H.size (Nat.ne_of_lt ha)
  have hr1 : va_up r (zn h) H.size (zn h) = H.size := va_up_self r (zn h) H.size
  have hT : ∀ a, a ≠ zn h → zT (zmk h t N) a = zT h a := fun a ha => va_up_ne _ _ ha
  have hT1 : zT (zmk h t N) (zn h) = t := va_up_self _ _ _
  have hf : ∀ (ty : FieldType) (a k : Nat), a < zn h → zfv (va_up r (zn h) H.size) (zmk h t N) ty a k = zfv r h ty a k := fun ty a k ha =>
    zfv_ext (congrFun (va_up_ne (zI h) _ (Nat.ne_of_lt ha)) k) (congrFun (va_up_ne (zL h) _ (Nat.ne_of_lt ha)) k) (congrFun (va_up_ne (zP h) _ (Nat.ne_of_lt ha)) k) (fun b e => hr b (s5 a k b ha e))
  refine ⟨fun a b ha hb e => ?_, fun a ha h0 => ?_, fun a ha => ?_, by rw [hz]; omega, fun a k b ha e => ?_, fun a ci q ty ha e1 e2 e3 => ?_, fun a tt n ty ha e1 e2 => ?_, fun a ha => ?_, s9.to (hT 0 (by omega)) (hr 0 s10) (ho _ (s3 0 s10)) (fun j => congrFun (va_up_ne (zI h) _ (Nat.ne_of_lt s10)) j), by rw [hn]; omega, s12, fun q hq => by rw [ho q (by omega)]; exact s11 q hq⟩
  · rw [hn] at ha hb
    by_cases h1 : a = zn h
    · by_cases h2 : b = zn h
      · rw [h1, h2]
      · exfalso
        rw [h1, hr1, hr b (by omega)] at e
        have := s3 b (by omega)
        omega
    · by_cases h2 : b = zn h
      · exfalso
        rw [h2, hr1, hr a (by omega)] at e
        have := s3 a (by omega)
        omega
      · rw [hr a (by omega), hr b (by omega)] at e
        exact s1 a b (by omega) (by omega) e
  · rw [hn] at ha
    by_cases h1 : a = zn h
    · rw [h1, hr1]; exact s4
    · rw [hr a (by omega)]; exact s2 a (by omega) h0
  · rw [hn] at ha
    rw [hz]
    by_cases h1 : a = zn h
    · rw [h1, hr1]; omega
    · rw [hr a (by omega)]; have := s3 a (by omega); omega
  · rw [hn] at ha ⊢
    by_cases h1 : a = zn h
    · subst h1
      have e2 : zP (zmk h t N) (zn h) k = none := congrFun (va_up_self (zP h) (zn h) (fun _ => none)) k
      rw [e2] at e
      cases e
    · have e2 : zP (zmk h t N) a k = zP h a k := congrFun (va_up_ne (zP h) _ h1) k
      rw [e2] at e
      have := s5 a k b (by omega) e
      omega
  · rw [hn] at ha
    by_cases h1 : a = zn h
    · subst h1
      rw [hT1] at e1
      rw [hr1]
      exact hobj ci q ty e1 e2 e3
    · rw [hT a h1] at e1
      rw [hr a (by omega)]
      exact (t_OB.kept (s6 a ci q ty (by omega) e1 e2 e3) (ho _ (s3 a (by omega)))).to (fun k _ => (hf _ a k (by omega)).symm)
  · rw [hn] at ha
    by_cases h1 : a = zn h
    · subst h1
      rw [hT1] at e1
      rw [hr1]
      exact harr tt n ty e1 e2
    · rw [hT a h1] at e1
      rw [hr a (by omega), ho _ (s3 a (by omega)), s7 a tt n ty (by omega) e1 e2]
      congr 2
      funext j
      exact (hf _ a j (by omega)).symm
  · rw [hn] at ha
    rw [hT a (by omega)]
    exact s8 a (by omega)
theorem zfv_mk {r : Nat → Nat} {h : zH} {t : Nat × Nat} {N k : Nat} {ty : FieldType} (hty : ty ≠ .float ∧ ty ≠ .double) : zfv r (zmk h t N) ty (zn h) k = defaultValue ty := by
  have e1 : zI (zmk h t N) (zn h) k = 0 := congrFun (va_up_self (zI h) (zn h) (fun _ => 0)) k
  have e2 : zL (zmk h t N) (zn h) k = 0 := congrFun (va_up_self (zL h) (zn h) (fun _ => 0)) k
  have e3 : zP (zmk h t N) (zn h) k = none := congrFun (va_up_self (zP h) (zn h) (fun _ => none)) k
  cases ty <;> simp only [zfv, e1, e2, e3] <;> first | rfl | exact absurd rfl hty.1 | exact absurd rfl hty.2
theorem zAtH_mk {F : zF} {K : zK} {nL : Nat} {h : zH} {r : Nat → Nat} {H H' : Heap} {locs : List Loc} {ls : Array Slot} {lc : List (Nat × Value)} {st st' : List Value} {t : Nat × Nat} {N : Nat} (hz : zAtH F K nL h r H locs ls lc st) (hst : ∀ v ∈ st', v ∈ st) (hz1 : H'.size = H.size + 1) (ho : ∀ q, q < H.size → H'[q]? = H[q]?)
    (hs : zSim K.2.2.2.2.2.2.2.2.1 K.2.2.2.2.2.2.2.2.2.1 (va_up r (zn h) H.size) (zmk h t N) H') : zAtH F K nL (zmk h t N) (va_up r (zn h) H.size) H' locs ls lc (.ref (zn h) :: st') := by
  obtain ⟨l, d, h0', x⟩ := F
  obtain ⟨p, e, s, m, args, below, meth, c, D, bs, r0⟩ := K
  obtain ⟨z1, z2, z3, z4, z5, z6, z7⟩ := hz
  have hr : ∀ a, a < zn h → va_up r (zn h) H.size a = r a := fun a ha => va_up_ne r H.size (Nat.ne_of_lt ha)
  have hn : zn (zmk h t N) = zn h + 1 := rfl
  refine ⟨⟨Nat.le_succ_of_le z1.1, Nat.le_succ_of_le z1.2.1, Nat.le_trans z1.2.2 (Nat.le_add_right _ _)⟩, fun a ha => by rw [hr a (Nat.lt_of_lt_of_le ha z1.1)]; exact z2 a ha, hs, ⟨Nat.le_trans z4.1 (by omega), fun q h1 h2 => (ho q (Nat.lt_of_lt_of_le h1 z4.1)).trans (z4.2.1 q h1 h2), z4.2.2⟩, fun q hq => zok_le (Nat.le_succ _) (z5 q hq), fun v hv => ?_, by rw [zlc_ext hr z5]; exact z7⟩
  rcases List.mem_cons.mp hv with e | e
  · rw [e]; intro a ea; cases ea; rw [hn]; omega
  · exact zok_le (Nat.le_succ _) (z6 v (hst v e))
theorem zLx_mk {h x : zH} {t : Nat × Nat} {N : Nat} (k : zLx (zmk h t N) x) : zLx h x := by
  have hn : zn (zmk h t N) = zn h + 1 := rfl
  have hT : ∀ a, a < zn h → zT (zmk h t N) a = zT h a := fun a ha => va_up_ne _ _ (Nat.ne_of_lt ha)
  have hP : ∀ a, a < zn h → zP (zmk h t N) a = zP h a := fun a ha => va_up_ne _ _ (Nat.ne_of_lt ha)
  refine ⟨⟨Nat.le_of_succ_le k.1.1, Nat.le_of_succ_le k.1.2.1, Nat.le_trans (Nat.le_add_right _ _) k.1.2.2⟩, fun a ha => (k.2.1 a (by rw [hn]; omega)).trans (hT a ha), fun a j b ha hf e => k.2.2 a j b (by rw [hn]; omega) (by rw [hT a ha]; exact hf) (by rw [hP a ha]; exact e)⟩
section ZN
variable {F : zF} {nL : Nat} {cc : ByteArray} {own nm : String} {ret : Option FieldType} {hh : List (Nat × Nat × Nat × Nat)} {h h' : zH} {pc : Nat} {lc : List (Nat × Value)} {st : List Value} {index : Nat}
theorem zTys_fd : ∀ ci : Fin 11, ∀ k : Fin 80, ((zTys[ci.val]?).any (fun ty => decide (ty k.val ≠ .float ∧ ty k.val ≠ .double))) = true := by decide +kernel
theorem zTys_nf {ci : Nat} {ty : Nat → FieldType} (h : zTys[ci]? = some ty) {k : Nat} (hk : k < 80) : ty k ≠ .float ∧ ty k ≠ .double := by
  have h1 : ci < 11 := (List.getElem?_eq_some_iff.mp h).1
  have h2 := zTys_fd ⟨ci, h1⟩ ⟨k, hk⟩
  simp only [h, Option.any_some, decide_eq_true_eq] at h2
  exact h2
theorem zCl_80 : ∀ ci : Fin 11, ((zCl[ci.val]?).any (fun q => decide (q.2.2 ≤ 80))) = true := by decide +kernel
theorem zCl_le {ci : Nat} {q : vw_C} (h : zCl[ci]? = some q) : q.2.2 ≤ 80 := by
  have h2 := zCl_80 ⟨ci, zcl_lt h⟩
  simp only [h, Option.any_some, decide_eq_true_eq] at h2
  exact h2
theorem z_new {ci N : Nat} {q : vw_C} {tys : Nat → FieldType} (hl : Cond.classLink own index q.1 ∈ lw_all) (hi : Cond.instantiable q.1 N ∈ lw_all) (hini : Cond.initialized q.1 ∈ lw_all) (hq : zCl[ci]? = some q) (hts0 : zTys[ci]? = some tys) (he : h' = zmk h (ci + 1, 0) N) (hd : decode cc pc = .ok (.new index, 3)) (kk : Z F nL cc own nm ret hh h' (pc + 3) lc (.ref (zn h) :: st)) : Z F nL cc own nm ret hh h pc lc st := by
  subst he
  have k1 := kk.1.1
  refine ⟨zLx_mk kk.1, fun K hC r H locs ls hz => ?_⟩
  have hw := kk.2 K hC (va_up r (zn h) H.size)
  have hz1 := hz
  obtain ⟨l, d, h0', x0⟩ := F
  obtain ⟨p, e, s, m, args, below, meth, c, D, bs, r0⟩ := K
  obtain ⟨z1, z2, z3, z4, z5, z6, z7⟩ := hz
  obtain ⟨hx1, hb, hml, hown, hts, hKn, -⟩ := hC
  have a1 : zc h + 1 ≤ zc x0.2 := k1.2.1
  have a2 : zu h + N ≤ zu x0.2 := k1.2.2
  have b1 := z1.2.1
  have b2 := z1.2.2
  have hU := hKn.1 ci q hq
  obtain ⟨hin, hpd, -⟩ := zCl_ok hq hts0
  refine W.newcK hx1 hb hown (hts _ hl) (hts _ hi) (hts _ hini) rfl hd (by show _ ≤ zc x0.2 - zc h0'; omega) (by show _ ≤ zu x0.2 - zu h0'; omega) hU.2.1 rfl fun H' kC hkC e1 e2 e3 => ?_
  have hr : ∀ a, a < zn h → va_up r (zn h) H.size a = r a := fun a ha => va_up_ne r H.size (Nat.ne_of_lt ha)
  have hS2 : zSim D bs (va_up r (zn h) H.size) (zmk h (ci + 1, 0) N) H' := by
    refine zSim_mk z3 e2 e3 (fun ci' q' ty' e4 e5 e6 => ?_) (fun tt n ty' e4 e5 => ?_)
    · have e : ci' = ci := by simp only [Prod.mk.injEq] at e4; omega
      subst e
      cases hq.symm.trans e5
      cases hts0.symm.trans e6
      exact (u_born tys hts hin hU hkC e1 hpd).to (fun k hk => (zfv_mk (zTys_nf hts0 (Nat.lt_of_lt_of_le hk (zCl_le hq)))).symm)
    · exfalso
      have h1 := zcl_lt hq
      simp only [Prod.mk.injEq] at e4
      omega
  have hw2 := hw H' locs ls (zAtH_mk hz1 (fun v hv => hv) e2 e3 hS2)
  have hw2 : W p l e (zRm d (zc x0.2 - zc h0') (zu x0.2 - zu h0')) s m args below meth c H' locs (zc h + 1 - zc h0') (zu h + N - zu h0') _ (F0 m (pc + 3) ls (.ref (va_up r (zn h) H.size (zn h)) :: st.map (zv (va_up r (zn h) H.size)))) := hw2
  rw [va_up_self, zmap_ext hr z6, show zc h + 1 - zc h0' = zc h - zc h0' + 1 by omega, show zu h + N - zu h0' = zu h - zu h0' + N by omega] at hw2
  exact hw2
theorem z_newa {t : Nat} {ty : FieldType} {atype : ArrayType} {x : Int32} (N : Nat) (ha : Cond.arrayClass (newarray.typeOf atype) ∈ lw_all) (hta : newarray.typeOf atype = ty) (hty : zAt[t]? = some ty) (hnf : ty ≠ .float ∧ ty ≠ .double) (hx0 : ¬ x < 0) (hN : x.toNatClampNeg = N) (hbt : N * componentBytes (newarray.typeOf atype) ≤ 536870912) (he : h' = zmk h (t + 100, N) N) (hd : decode cc pc = .ok (.newarray atype, 2)) (kk : Z F nL cc own nm ret hh h' (pc + 2) lc (.ref (zn h) :: st)) : Z F nL cc own nm ret hh h pc lc (.int x :: st) := by
  subst he
  have k1 := kk.1.1
  refine ⟨zLx_mk kk.1, fun K hC r H locs ls hz => ?_⟩
  have hw := kk.2 K hC (va_up r (zn h) H.size)
  have hz1 := hz
  obtain ⟨l, d, h0', x0⟩ := F
  obtain ⟨p, e, s, m, args, below, meth, c, D, bs, r0⟩ := K
  obtain ⟨z1, z2, z3, z4, z5, z6, z7⟩ := hz
  obtain ⟨hx1, hb, hml, hown, hts, hKn, -⟩ := hC
  have a1 : zc h + 1 ≤ zc x0.2 := k1.2.1
  have a2 : zu h + N ≤ zu x0.2 := k1.2.2
  have b1 := z1.2.1
  have b2 := z1.2.2
  have hst : ∀ v ∈ st, zok (zn h) v := fun v hv => z6 v (List.mem_cons_of_mem _ hv)
  refine va_newaK hx1 hb (hts _ ha) rfl hd rfl hx0 hN hbt (by show _ ≤ zc x0.2 - zc h0'; omega) (by show _ ≤ zu x0.2 - zu h0'; omega) rfl fun H' cA e1 e2 e3 _ hfc => ?_
  have hr : ∀ a, a < zn h → va_up r (zn h) H.size a = r a := fun a ha => va_up_ne r H.size (Nat.ne_of_lt ha)
  have hcA : cA = D.2.2.1 t := by
    have := (hKn.2.1 t ty hty).2.2
    rw [← hta] at this
    exact Option.some.inj (hfc.symm.trans this)
  have hS2 : zSim D bs (va_up r (zn h) H.size) (zmk h (t + 100, N) N) H' := by
    refine zSim_mk z3 e2 e3 (fun ci' q' ty' e4 e5 e6 => ?_) (fun tt n ty' e4 e5 => ?_)
    · exfalso
      have h1 := zcl_lt e5
      simp only [Prod.mk.injEq] at e4
      omega
    · simp only [Prod.mk.injEq] at e4
      obtain ⟨e6, e7⟩ := e4
      have e6 : tt = t := by omega
      subst e6; subst e7
      cases hty.symm.trans e5
      rw [e1, hcA, hta]
      congr 2
      funext j
      exact (zfv_mk hnf).symm
  have hw2 := hw H' locs ls (zAtH_mk (st' := st) hz1 (fun v hv => List.mem_cons_of_mem _ hv) e2 e3 hS2)
  have hw2 : W p l e (zRm d (zc x0.2 - zc h0') (zu x0.2 - zu h0')) s m args below meth c H' locs (zc h + 1 - zc h0') (zu h + N - zu h0') _ (F0 m (pc + 2) ls (.ref (va_up r (zn h) H.size (zn h)) :: st.map (zv (va_up r (zn h) H.size)))) := hw2
  rw [va_up_self, zmap_ext hr hst, show zc h + 1 - zc h0' = zc h - zc h0' + 1 by omega, show zu h + N - zu h0' = zu h - zu h0' + N by omega] at hw2
  exact hw2
end ZN
