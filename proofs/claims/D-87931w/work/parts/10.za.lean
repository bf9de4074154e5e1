/-! arrays -/
set_option maxRecDepth 100000
noncomputable def zck {α : Type} (c : Prop) (x : Option α) : Option α := @ite _ c (Classical.propDecidable c) x none
theorem zck_some {α : Type} {c : Prop} {x : Option α} {y : α} (h : zck c x = some y) : c ∧ x = some y := by
  unfold zck at h
  split at h
  · rename_i hc; exact ⟨hc, h⟩
  · cases h
theorem zck_pos {α : Type} {c : Prop} {x : Option α} (h : c) : zck c x = x := if_pos h
theorem zat_lt {t : Nat} {ty : FieldType} (h : zAt[t]? = some ty) : t < 7 := (List.getElem?_eq_some_iff.mp h).1
theorem zSim_ast {D : zD} {bs : Nat} {r : Nat → Nat} {h h' : zH} {H H' : Heap} {a t n i : Nat} {ty : FieldType} {v : Value} (hS : zSim D bs r h H) (han : a < zn h) (h00 : a ≠ 0) (ha : zT h a = (t + 100, n)) (hty : zAt[t]? = some ty) (ho : zOne h h' a i ty v) (hvo : zok (zn h) v)
    (e1 : H'[r a]? = some ((arrV (D.2.2.1 t) n (fun j => zfv r h ty a j)).setSlot i (zv r v))) (e2 : H'.size = H.size) (e3 : ∀ q, q ≠ r a → H'[q]? = H[q]?) : zSim D bs r h' H' := by
  obtain ⟨o1, o2, o3, o4, o5, o6, o7⟩ := ho
  refine hS.upd han h00 o1 o4 (o7 (zn h) hvo hS.2.2.2.2.1) e2 e3 (fun t b j n => o6 r t b j (fun e => n e.1)) (fun ci' q' ty' e4 e5 e6 => ?_) (fun t' n' ty' e4 e5 => ?_)
  · exfalso
    have h1 := zcl_lt e5
    rw [ha] at e4
    simp only [Prod.mk.injEq] at e4
    omega
  · rw [ha] at e4
    simp only [Prod.mk.injEq] at e4
    obtain ⟨e6, e7⟩ := e4
    have e6 : t' = t := by omega
    subst e6; subst e7
    cases hty.symm.trans e5
    rw [e1, arrV_store]
    congr 2
    funext j
    unfold updV
    split
    · rename_i e; subst e; exact (o5 r).symm
    · rename_i e; exact (o6 r _ a j (fun x => e x.2)).symm
section ZA
variable {F : zF} {nL : Nat} {cc : ByteArray} {own nm : String} {ret : Option FieldType} {hh : List (Nat × Nat × Nat × Nat)} {h h' : zH} {pc : Nat} {lc : List (Nat × Value)} {st : List Value} {a n : Nat} {i : Int32}
theorem z_iald (ha : zT h a = (100, n)) (hin : vp_in i n) (hd : decode cc pc = .ok (.iaload, 1)) (kk : Z F nL cc own nm ret hh h (pc + 1) lc (.int (zI h a i.toNatClampNeg) :: st)) : Z F nL cc own nm ret hh h pc lc (.int i :: .ref a :: st) := by
  refine ⟨kk.1, fun K hC r H locs ls hz => ?_⟩
  have hw := kk.2 K hC r H locs ls
  obtain ⟨l, d, h0, x0⟩ := F
  obtain ⟨p, e, s, m, args, below, meth, c, D, bs, r0⟩ := K
  obtain ⟨z1, z2, z3, z4, z5, z6, z7⟩ := hz
  obtain ⟨hx1, hb, hml, hown, hts, hKn, -⟩ := hC
  have han : a < zn h := z6 _ (List.mem_cons_of_mem _ List.mem_cons_self) a rfl
  have hlt : i.toNatClampNeg < n := Nat.not_le.mp fun q => hin (Or.inr q)
  have hc := z3.2.2.2.2.2.2.1 a 0 n _ han ha rfl
  have hw := hw ⟨z1, z2, z3, z4, z5, zok_1 (zok_int _ _) z6 (fun v hv => List.mem_cons_of_mem _ (List.mem_cons_of_mem _ hv)), z7⟩
  exact W.iald (v := .int (zI h a i.toNatClampNeg)) hx1 hb hc ((hKn.2.1 0 _ rfl).1 n _) (fun q => by cases q) (by show ¬ (i < 0 ∨ (arrV _ _ _).slots.size ≤ _); rw [arrV_size]; exact hin) (by show (arrV _ _ _).slots[_]? = _; rw [arrV_read _ _ hlt]; rfl) rfl rfl hd hw
theorem z_zald (ha : zT h a = (101, n)) (hin : vp_in i n) (hd : decode cc pc = .ok (.baload, 1)) (kk : Z F nL cc own nm ret hh h (pc + 1) lc (.int (zI h a i.toNatClampNeg) :: st)) : Z F nL cc own nm ret hh h pc lc (.int i :: .ref a :: st) := by
  refine ⟨kk.1, fun K hC r H locs ls hz => ?_⟩
  have hw := kk.2 K hC r H locs ls
  obtain ⟨l, d, h0, x0⟩ := F
  obtain ⟨p, e, s, m, args, below, meth, c, D, bs, r0⟩ := K
  obtain ⟨z1, z2, z3, z4, z5, z6, z7⟩ := hz
  obtain ⟨hx1, hb, hml, hown, hts, hKn, -⟩ := hC
  have han : a < zn h := z6 _ (List.mem_cons_of_mem _ List.mem_cons_self) a rfl
  have hlt : i.toNatClampNeg < n := Nat.not_le.mp fun q => hin (Or.inr q)
  have hc := z3.2.2.2.2.2.2.1 a 1 n _ han ha rfl
  have hw := hw ⟨z1, z2, z3, z4, z5, zok_1 (zok_int _ _) z6 (fun v hv => List.mem_cons_of_mem _ (List.mem_cons_of_mem _ hv)), z7⟩
  exact W.zald (v := .int (zI h a i.toNatClampNeg)) hx1 hb hc ((hKn.2.1 1 _ rfl).1 n _) (fun q => by cases q) (by show ¬ (i < 0 ∨ (arrV _ _ _).slots.size ≤ _); rw [arrV_size]; exact hin) (by show (arrV _ _ _).slots[_]? = _; rw [arrV_read _ _ hlt]; rfl) rfl rfl hd hw
theorem z_lald (ha : zT h a = (102, n)) (hin : vp_in i n) (hd : decode cc pc = .ok (.laload, 1)) (kk : Z F nL cc own nm ret hh h (pc + 1) lc (.long (zL h a i.toNatClampNeg) :: st)) : Z F nL cc own nm ret hh h pc lc (.int i :: .ref a :: st) := by
  refine ⟨kk.1, fun K hC r H locs ls hz => ?_⟩
  have hw := kk.2 K hC r H locs ls
  obtain ⟨l, d, h0, x0⟩ := F
  obtain ⟨p, e, s, m, args, below, meth, c, D, bs, r0⟩ := K
  obtain ⟨z1, z2, z3, z4, z5, z6, z7⟩ := hz
  obtain ⟨hx1, hb, hml, hown, hts, hKn, -⟩ := hC
  have han : a < zn h := z6 _ (List.mem_cons_of_mem _ List.mem_cons_self) a rfl
  have hlt : i.toNatClampNeg < n := Nat.not_le.mp fun q => hin (Or.inr q)
  have hc := z3.2.2.2.2.2.2.1 a 2 n _ han ha rfl
  have hw := hw ⟨z1, z2, z3, z4, z5, zok_1 (zok_long _ _) z6 (fun v hv => List.mem_cons_of_mem _ (List.mem_cons_of_mem _ hv)), z7⟩
  exact W.lald (v := .long (zL h a i.toNatClampNeg)) hx1 hb hc ((hKn.2.1 2 _ rfl).1 n _) (fun q => by cases q) (by show ¬ (i < 0 ∨ (arrV _ _ _).slots.size ≤ _); rw [arrV_size]; exact hin) (by show (arrV _ _ _).slots[_]? = _; rw [arrV_read _ _ hlt]; rfl) rfl rfl hd hw
theorem z_aldq {t : Nat} {ty : FieldType} (hty : zAt[t]? = some ty) (htr : (∃ n, ty = .object n) ∨ ∃ t, ty = .array t) (ha : zT h a = (t + 100, n)) (hin : vp_in i n) (hd : decode cc pc = .ok (.aaload, 1)) (kk : Z F nL cc own nm ret hh h (pc + 1) lc (va_rf (zP h a i.toNatClampNeg) :: st)) : Z F nL cc own nm ret hh h pc lc (.int i :: .ref a :: st) := by
  refine ⟨kk.1, fun K hC r H locs ls hz => ?_⟩
  have hw := kk.2 K hC r H locs ls
  obtain ⟨l, d, h0, x0⟩ := F
  obtain ⟨p, e, s, m, args, below, meth, c, D, bs, r0⟩ := K
  obtain ⟨z1, z2, z3, z4, z5, z6, z7⟩ := hz
  obtain ⟨hx1, hb, hml, hown, hts, hKn, -⟩ := hC
  have han : a < zn h := z6 _ (List.mem_cons_of_mem _ List.mem_cons_self) a rfl
  have hlt : i.toNatClampNeg < n := Nat.not_le.mp fun q => hin (Or.inr q)
  have hc := z3.2.2.2.2.2.2.1 a t n _ han ha hty
  have hw := hw ⟨z1, z2, z3, z4, z5, zok_1 (zok_rf (fun b e => z3.2.2.2.2.1 a _ b han e)) z6 (fun v hv => List.mem_cons_of_mem _ (List.mem_cons_of_mem _ hv)), z7⟩
  have hw : W _ _ _ _ _ _ _ _ _ _ _ _ _ _ _ (F0 m (pc + 1) ls (zv r (va_rf (zP h a i.toNatClampNeg)) :: st.map (zv r))) := hw
  exact W.aald (v := zv r (va_rf (zP h a i.toNatClampNeg))) (ty := ty) hx1 hb hc ((hKn.2.1 t _ hty).1 n _) (by rcases htr with ⟨n, rfl⟩ | ⟨t, rfl⟩ <;> rfl) (fun q => by cases q) (by show ¬ (i < 0 ∨ (arrV _ _ _).slots.size ≤ _); rw [arrV_size]; exact hin) (by show (arrV _ _ _).slots[_]? = _; rw [arrV_read _ _ hlt]; rcases htr with ⟨n, rfl⟩ | ⟨t, rfl⟩ <;> rfl) rfl rfl hd hw
theorem z_iast {x : Int32} (ha : zT h a = (100, n)) (h0 : a ≠ 0) (hin : vp_in i n) (he : h' = zsI h a i.toNatClampNeg x) (hd : decode cc pc = .ok (.iastore, 1)) (kk : Z F nL cc own nm ret hh h' (pc + 1) lc st) : Z F nL cc own nm ret hh h pc lc (.int x :: .int i :: .ref a :: st) := by
  subst he
  have ho := zOne_I h a i.toNatClampNeg x
  obtain ⟨o1, o2, o3, o4, o5, o6, o7⟩ := id ho
  refine ⟨zLx_one ho (fun _ _ _ _ e => e) kk.1, fun K hC r H locs ls hz => ?_⟩
  have hw := kk.2 K hC r
  have hz1 := hz
  obtain ⟨l, d, h0', x0⟩ := F
  obtain ⟨p, e, s, m, args, below, meth, c, D, bs, r0⟩ := K
  obtain ⟨z1, z2, z3, z4, z5, z6, z7⟩ := hz
  obtain ⟨hx1, hb, hml, hown, hts, hKn, -⟩ := hC
  have han : a < zn h := z6 _ (List.mem_cons_of_mem _ (List.mem_cons_of_mem _ List.mem_cons_self)) a rfl
  have hvo := z6 _ List.mem_cons_self
  have hc := z3.2.2.2.2.2.2.1 a 0 n _ han ha rfl
  refine W.iast hx1 hb hc ((hKn.2.1 0 _ rfl).1 n _) (fun q => by cases q) (by show ¬ (i < 0 ∨ (arrV _ _ _).slots.size ≤ _); rw [arrV_size]; exact hin) rfl rfl hd fun H' e1 e2 e3 => ?_
  have hz2 := zAtH_one (i := i.toNatClampNeg) (st' := st) hz1 ho han h0 (fun v hv => List.mem_cons_of_mem _ (List.mem_cons_of_mem _ (List.mem_cons_of_mem _ hv))) e2 e3 (zSim_ast z3 han h0 ha rfl ho hvo e1 e2 e3)
  exact hw H' _ ls hz2
theorem z_zast {x : Int32} (hx : zB x) (ha : zT h a = (101, n)) (h0 : a ≠ 0) (hin : vp_in i n) (he : h' = zsI h a i.toNatClampNeg x) (hd : decode cc pc = .ok (.bastore, 1)) (kk : Z F nL cc own nm ret hh h' (pc + 1) lc st) : Z F nL cc own nm ret hh h pc lc (.int x :: .int i :: .ref a :: st) := by
  subst he
  have ho := zOne_Z h a i.toNatClampNeg x
  obtain ⟨o1, o2, o3, o4, o5, o6, o7⟩ := id ho
  refine ⟨zLx_one ho (fun _ _ _ _ e => e) kk.1, fun K hC r H locs ls hz => ?_⟩
  have hw := kk.2 K hC r
  have hz1 := hz
  obtain ⟨l, d, h0', x0⟩ := F
  obtain ⟨p, e, s, m, args, below, meth, c, D, bs, r0⟩ := K
  obtain ⟨z1, z2, z3, z4, z5, z6, z7⟩ := hz
  obtain ⟨hx1, hb, hml, hown, hts, hKn, -⟩ := hC
  have han : a < zn h := z6 _ (List.mem_cons_of_mem _ (List.mem_cons_of_mem _ List.mem_cons_self)) a rfl
  have hvo := z6 _ List.mem_cons_self
  have hc := z3.2.2.2.2.2.2.1 a 1 n _ han ha rfl
  refine W.zast hx1 hb hc ((hKn.2.1 1 _ rfl).1 n _) (fun q => by cases q) (by show ¬ (i < 0 ∨ (arrV _ _ _).slots.size ≤ _); rw [arrV_size]; exact hin) rfl rfl hd fun H' e1 e2 e3 => ?_
  rw [zB_nar hx] at e1
  have hz2 := zAtH_one (i := i.toNatClampNeg) (st' := st) hz1 ho han h0 (fun v hv => List.mem_cons_of_mem _ (List.mem_cons_of_mem _ (List.mem_cons_of_mem _ hv))) e2 e3 (zSim_ast z3 han h0 ha rfl ho hvo e1 e2 e3)
  exact hw H' _ ls hz2
theorem z_last {x : Int64} (ha : zT h a = (102, n)) (h0 : a ≠ 0) (hin : vp_in i n) (he : h' = zsL h a i.toNatClampNeg x) (hd : decode cc pc = .ok (.lastore, 1)) (kk : Z F nL cc own nm ret hh h' (pc + 1) lc st) : Z F nL cc own nm ret hh h pc lc (.long x :: .int i :: .ref a :: st) := by
  subst he
  have ho := zOne_L h a i.toNatClampNeg x
  obtain ⟨o1, o2, o3, o4, o5, o6, o7⟩ := id ho
  refine ⟨zLx_one ho (fun _ _ _ _ e => e) kk.1, fun K hC r H locs ls hz => ?_⟩
  have hw := kk.2 K hC r
  have hz1 := hz
  obtain ⟨l, d, h0', x0⟩ := F
  obtain ⟨p, e, s, m, args, below, meth, c, D, bs, r0⟩ := K
  obtain ⟨z1, z2, z3, z4, z5, z6, z7⟩ := hz
  obtain ⟨hx1, hb, hml, hown, hts, hKn, -⟩ := hC
  have han : a < zn h := z6 _ (List.mem_cons_of_mem _ (List.mem_cons_of_mem _ List.mem_cons_self)) a rfl
  have hvo := z6 _ List.mem_cons_self
  have hc := z3.2.2.2.2.2.2.1 a 2 n _ han ha rfl
  refine W.last hx1 hb hc ((hKn.2.1 2 _ rfl).1 n _) (fun q => by cases q) (by show ¬ (i < 0 ∨ (arrV _ _ _).slots.size ≤ _); rw [arrV_size]; exact hin) rfl rfl hd fun H' e1 e2 e3 => ?_
  have hz2 := zAtH_one (i := i.toNatClampNeg) (st' := st) hz1 ho han h0 (fun v hv => List.mem_cons_of_mem _ (List.mem_cons_of_mem _ (List.mem_cons_of_mem _ hv))) e2 e3 (zSim_ast z3 han h0 ha rfl ho hvo e1 e2 e3)
  exact hw H' _ ls hz2
theorem z_astq {t ci x : Nat} {q : vw_C} {tys : Nat → FieldType} (hty : zAt[t]? = some (.object q.1)) (hq : zCl[ci]? = some q) (hts0 : zTys[ci]? = some tys) (hx : zT h x = (ci + 1, 0)) (ha : zT h a = (t + 100, n)) (h0 : a ≠ 0) (hin : vp_in i n) (hno : zP h a i.toNatClampNeg = none) (he : h' = zsP h a i.toNatClampNeg (some x)) (hd : decode cc pc = .ok (.aastore, 1)) (kk : Z F nL cc own nm ret hh h' (pc + 1) lc st) : Z F nL cc own nm ret hh h pc lc (.ref x :: .int i :: .ref a :: st) := by
  subst he
  have ho := zOne_P h a i.toNatClampNeg (some x) (ty := .object q.1) (Or.inl ⟨_, rfl⟩)
  obtain ⟨o1, o2, o3, o4, o5, o6, o7⟩ := id ho
  refine ⟨zLx_one ho (zPk_F hno) kk.1, fun K hC r H locs ls hz => ?_⟩
  have hw := kk.2 K hC r
  have hz1 := hz
  obtain ⟨l, d, h0', x0⟩ := F
  obtain ⟨p, e, s, m, args, below, meth, c, D, bs, r0⟩ := K
  obtain ⟨z1, z2, z3, z4, z5, z6, z7⟩ := hz
  obtain ⟨hx1, hb, hml, hown, hts, hKn, -⟩ := hC
  have han : a < zn h := z6 _ (List.mem_cons_of_mem _ (List.mem_cons_of_mem _ List.mem_cons_self)) a rfl
  have hvo := z6 _ List.mem_cons_self
  have hc := z3.2.2.2.2.2.2.1 a t n _ han ha hty
  have hlt : i.toNatClampNeg < n := Nat.not_le.mp fun q => hin (Or.inr q)
  have hi0 : ¬ i < 0 := fun q => hin (Or.inl q)
  have hxn : x < zn h := hvo x rfl
  obtain ⟨cellV, g1, g2, g3, -⟩ := z3.2.2.2.2.2.1 x ci q tys hxn hx hq hts0
  have hcls := (hKn.1 ci q hq).2
  obtain ⟨kA, comp, k1, k2, k3, -⟩ := (hKn.2.1 t _ hty).2.1
  have hcomp : comp = D.1 ci := Option.some.inj (k3.symm.trans hcls.1)
  subst hcomp
  obtain ⟨kC, hkC, -⟩ := hcls.2
  refine W.aast hx1 hb hc (fun q h => by cases h) (fun h => by cases h) k1 k2 rfl hkC ⟨hi0, by show _ < (arrV _ _ _).slots.size; rw [arrV_size]; exact hlt⟩ g1 (fun q h => by rw [g3] at h; cases h) (by rw [g2]; exact hkC) (by rw [g2]; exact va_assign hcls) rfl rfl hd fun H' e1 e2 e3 => ?_
  have hz2 := zAtH_one (i := i.toNatClampNeg) (st' := st) hz1 ho han h0 (fun v hv => List.mem_cons_of_mem _ (List.mem_cons_of_mem _ (List.mem_cons_of_mem _ hv))) e2 e3 (zSim_ast z3 han h0 ha hty ho hvo e1 e2 e3)
  exact hw H' _ ls hz2
end ZA
