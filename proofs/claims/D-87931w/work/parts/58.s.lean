/-! the exchange: its objects; rows, machines -/
set_option maxRecDepth 100000
theorem zBlk_cut {bl bl' : List (Nat × Nat)} {pt pt' : List (Nat × Nat × Nat)} {h : zH} {a : Nat} (o : Nat) (hL : zBlk bl pt h a) (hb : (List.range bl'.length).all (fun i => bl'[i]? == bl[o + i]?) = true) (hp : pt'.all (fun p => pt.contains (p.1 + o, p.2.1, p.2.2 + o)) = true) : zBlk bl' pt' h (a + o) := by
  refine ⟨by have := hL.1; omega, fun i kd hi => ?_, fun j p hj => ?_⟩
  · have hlt := (List.getElem?_eq_some_iff.mp hi).1
    have := List.all_eq_true.mp hb i (List.mem_range.mpr hlt)
    rw [beq_iff_eq, hi] at this
    rw [Nat.add_assoc]
    exact hL.2.1 (o + i) kd this.symm
  · have := List.all_eq_true.mp hp p (List.mem_of_getElem? hj)
    rw [List.contains_iff_mem] at this
    obtain ⟨k, hk⟩ := List.getElem?_of_mem this
    have := hL.2.2 k _ hk
    rw [show a + o + p.1 = a + (p.1 + o) by omega, show a + o + p.2.2 = a + (p.2.2 + o) by omega]
    exact this
theorem zBlk_pm {bl : List (Nat × Nat)} {pt : List (Nat × Nat × Nat)} {h : zH} {a : Nat} (hL : zBlk bl pt h a) (p : Nat × Nat × Nat) (hp : pt.contains p = true) : zP h (a + p.1) p.2.1 = some (a + p.2.2) := by
  rw [List.contains_iff_mem] at hp
  obtain ⟨k, hk⟩ := List.getElem?_of_mem hp
  exact hL.2.2 k p hk
theorem xOk : zBok xB xP = true := by decide
section XOB
variable {h : zH} {o : Nat}
theorem x_obj {bl : List (Nat × Nat)} {pt : List (Nat × Nat × Nat)} {fs : List Nat} (t : zXx h 1) (hok : zBok bl pt = true) (hb : (List.range bl.length).all (fun i => bl[i]? == xB[o + i]?) = true) (hp : pt.all (fun p => xP.contains (p.1 + o, p.2.1, p.2.2 + o)) = true) {kd : Nat × Nat} (h0 : xB[o]? = some kd) (hf : fs.all (fun k => xP.contains (o, k, 0) && zFn kd k) = true) : zCt [(bl, pt, 1 + o), (xB, xP, 1)] (fs.map (fun k => (1 + o, k, 1))) h := by
  have hL := zCt.b t 0 rfl
  refine ⟨fun j q hq => ?_, fun j q hq => ?_⟩
  · match j, hq with
    | 0, hq => cases hq; exact ⟨hok, zBlk_cut o hL hb hp⟩
    | 1, hq => cases hq; exact ⟨xOk, hL⟩
    | n + 2, hq => exact absurd (List.getElem?_eq_some_iff.mp hq).1 (by simp)
  · rw [List.getElem?_map] at hq
    cases hk : fs[j]? with
    | none => rw [hk] at hq; cases hq
    | some k =>
      rw [hk] at hq
      cases hq
      have := List.all_eq_true.mp hf k (List.mem_of_getElem? hk)
      rw [Bool.and_eq_true] at this
      refine ⟨hL.lt o h0, ?_, zBlk_pm hL (o, k, 0) this.1⟩
      show zFn (zT h (1 + o)) k = true
      rw [hL.t o h0]
      exact this.2
theorem x_rd (t : zXx h 1) (ho : o = 35 ∨ o = 64 ∨ o = 71 ∨ o = 78 ∨ o = 85) : zRd h (1 + o) 1 := by
  rcases ho with rfl | rfl | rfl | rfl | rfl <;> exact x_obj (fs := [11, 14]) t (by decide) (by decide) (by decide) rfl (by decide)
theorem x_wr (t : zXx h 1) (ho : o = 38 ∨ o = 67 ∨ o = 74 ∨ o = 81 ∨ o = 88) : zWr h (1 + o) 1 := by
  rcases ho with rfl | rfl | rfl | rfl | rfl <;> exact x_obj (fs := [11, 15]) t (by decide) (by decide) (by decide) rfl (by decide)
theorem x_rw (t : zXx h 1) (ho : o = 41 ∨ o = 43 ∨ o = 45 ∨ o = 48 ∨ o = 50) : zRw h (1 + o) 1 := by
  rcases ho with rfl | rfl | rfl | rfl | rfl <;> exact x_obj (fs := [3]) t (by decide) (by decide) (by decide) rfl (by decide)
theorem x_mslot (t : zXx h 1) {d : Nat} (hd : d < 4) : zP h 33 d = some (64 + 7 * d) ∧ zOb 6 h (64 + 7 * d) ∧ zP h 34 d = some (65 + 7 * d) ∧ zP h 35 d = some (68 + 7 * d) := by
  have hL := zCt.b t 0 rfl
  have e : d = 0 ∨ d = 1 ∨ d = 2 ∨ d = 3 := by omega
  rcases e with rfl | rfl | rfl | rfl
  · exact ⟨zBlk_pm hL (32, 0, 63) (by decide), x_ob t 63 6 rfl, zBlk_pm hL (33, 0, 64) (by decide), zBlk_pm hL (34, 0, 67) (by decide)⟩
  · exact ⟨zBlk_pm hL (32, 1, 70) (by decide), x_ob t 70 6 rfl, zBlk_pm hL (33, 1, 71) (by decide), zBlk_pm hL (34, 1, 74) (by decide)⟩
  · exact ⟨zBlk_pm hL (32, 2, 77) (by decide), x_ob t 77 6 rfl, zBlk_pm hL (33, 2, 78) (by decide), zBlk_pm hL (34, 2, 81) (by decide)⟩
  · exact ⟨zBlk_pm hL (32, 3, 84) (by decide), x_ob t 84 6 rfl, zBlk_pm hL (33, 3, 85) (by decide), zBlk_pm hL (34, 3, 88) (by decide)⟩
theorem x_rdD (t : zXx h 1) {d : Nat} (hd : d < 4) : zRd h (65 + 7 * d) 1 := by
  have := x_rd (o := 64 + 7 * d) t (by omega)
  rw [show 65 + 7 * d = 1 + (64 + 7 * d) by omega]
  exact this
theorem x_wrD (t : zXx h 1) {d : Nat} (hd : d < 4) : zWr h (68 + 7 * d) 1 := by
  have := x_wr (o := 67 + 7 * d) t (by omega)
  rw [show 68 + 7 * d = 1 + (67 + 7 * d) by omega]
  exact this
theorem zRd.T (r : zRd h o 1) : zT h o = (4, 0) ∧ zP h o 11 = some 1 ∧ zT h (o + 1) = (100, 700) ∧ zT h (o + 2) = (100, 4) ∧ o ≠ 0 := ⟨(zCt.b r 0 rfl).t 0 rfl, zCt.f r 0 rfl, (zCt.b r 0 rfl).t 1 rfl, (zCt.b r 0 rfl).t 2 rfl, (zCt.b r 0 rfl).1⟩
theorem zWr.T (r : zWr h o 1) : zT h o = (5, 0) ∧ zP h o 11 = some 1 ∧ zT h (o + 1) = (100, 700) ∧ zT h (o + 2) = (100, 16) ∧ o ≠ 0 := ⟨(zCt.b r 0 rfl).t 0 rfl, zCt.f r 0 rfl, (zCt.b r 0 rfl).t 1 rfl, (zCt.b r 0 rfl).t 2 rfl, (zCt.b r 0 rfl).1⟩
theorem zRw.T (r : zRw h o 1) : zT h o = (6, 0) ∧ zP h o 0 = some (o + 1) ∧ zP h o 3 = some 1 ∧ zT h (o + 1) = (100, 6000) ∧ o ≠ 0 ∧ zOb 5 h o := ⟨(zCt.b r 0 rfl).t 0 rfl, (zCt.b r 0 rfl).p 0 rfl, zCt.f r 0 rfl, (zCt.b r 0 rfl).t 1 rfl, (zCt.b r 0 rfl).1, zOb_mk (zCt.b r 0 rfl).1 ((zCt.b r 0 rfl).lt 0 rfl) ((zCt.b r 0 rfl).t 0 rfl)⟩
end XOB
section XRW
variable {h : zH} {y : gY} {z : gZ}
theorem x_fin0 {h' : zH} {s : gZ} {v : Int32} {W : Nat → Nat → Prop} (x : XR h' y s) (f : fr W h h') (hw : ∀ a j, W a j → wX a j) : xQ h (v, s) (v, h') := ⟨rfl, ⟨y, x⟩, f.fx.mono hw, by show zc h' ≤ _; rw [f.1.2.1]; omega, by show zu h' ≤ _; rw [f.1.2.2]; omega⟩
theorem x_bytesIn {w : Int64} {n : Int32} (x : XR h y z) (hl : z.by.length ≤ 1000) : zw (fX0_bytesIn h 1 w n) (xQ h (sp_bytesIn z w n)) := by
  unfold fX0_bytesIn sp_bytesIn
  have c := x.by
  rcases vR_cases n 1 8 (by omega) (by omega) with ⟨t1, -, t9⟩ | ⟨k, hk1, hk, rfl, t1, -, t9⟩
  · rw [t1, show fX0_in n 1 8 = some 0 from t9, zb1_s, if_pos rfl]
    unfold fX0_bytesIn_J22
    rw [show fX0_in n 1 8 = some 0 from t9, zb1_s, if_pos rfl]
    exact x_ans0 x neg1
  rw [t1, show fX0_in (nI k) 1 8 = some 1 from t9, zb1_s, if_neg (by decide), c.1, nI_add]
  by_cases h2 : z.by.length + k ≤ 1000
  · rw [if_pos (by rw [li, nI_leI (by omega) (by omega)]; exact h2)]
    simp only [h2, if_true]
    refine (g_in (A := 1) (k := 5) (r := 26) (E := fun x4 => (((w >>> (((8 : Int32) * x4).toInt64 &&& 63)) &&& 255).toInt32)) (B := wAt w 8 8) (by omega) (fun i _ => l_byte _) c h2).mono ?_
    rintro ⟨v, h'⟩ ⟨rfl, c', f⟩
    exact x_fin0 (x.upB (f.fx.mono fun a j hw => Or.inr (by omega)) c') f (fun a j hw => by unfold wX; omega)
  · rw [if_neg (by rw [li, nI_leI (by omega) (by omega)]; exact h2)]
    unfold fX0_bytesIn_J22
    rw [show fX0_in (nI k) 1 8 = some 1 from t9, zb1_s, if_neg (by decide)]
    simp only [h2, if_false]
    exact x_ans0 x neg6
theorem x_unitsIn {w : Int64} {n : Int32} (x : XR h y z) (hl : z.un.length ≤ 1000) : zw (fX0_unitsIn h 1 w n) (xQ h (sp_unitsIn z w n)) := by
  unfold fX0_unitsIn sp_unitsIn
  have c := x.un
  rcases vR_cases n 1 4 (by omega) (by omega) with ⟨t1, -, t9⟩ | ⟨k, hk1, hk, rfl, t1, -, t9⟩
  · rw [t1, show fX0_in n 1 4 = some 0 from t9, zb1_s, if_pos rfl]
    unfold fX0_unitsIn_J21
    rw [show fX0_in n 1 4 = some 0 from t9, zb1_s, if_pos rfl]
    exact x_ans0 x neg1
  rw [t1, show fX0_in (nI k) 1 4 = some 1 from t9, zb1_s, if_neg (by decide), c.1, nI_add]
  by_cases h2 : z.un.length + k ≤ 1000
  · rw [if_pos (by rw [li, nI_leI (by omega) (by omega)]; exact h2)]
    simp only [h2, if_true]
    refine (g_in (A := 1) (k := 7) (r := 27) (E := fun x4 => (((w >>> (((16 : Int32) * x4).toInt64 &&& 63)) &&& 65535).toInt32)) (B := wAt w 16 16) (by omega) (fun i _ => l_unit _) c h2).mono ?_
    rintro ⟨v, h'⟩ ⟨rfl, c', f⟩
    exact x_fin0 (x.upU (f.fx.mono fun a j hw => Or.inr (by omega)) c') f (fun a j hw => by unfold wX; omega)
  · rw [if_neg (by rw [li, nI_leI (by omega) (by omega)]; exact h2)]
    unfold fX0_unitsIn_J21
    rw [show fX0_in (nI k) 1 4 = some 1 from t9, zb1_s, if_neg (by decide)]
    simp only [h2, if_false]
    exact x_ans0 x neg6
theorem x_sign {X Y : Int32} (x : XR h y z) : zw (fX0_sign h 1 X Y) (xQ h (sp_sign z X Y)) := by
  unfold fX0_sign sp_sign
  obtain ⟨s0, s1⟩ := x.sg
  rcases vR_cases X 0 1 (by omega) (by omega) with ⟨t1, -, t9⟩ | ⟨k, -, hk, rfl, t1, -, t9⟩
  · rw [t1, show fX0_in X 0 1 = some 0 from t9, zb1_s, if_pos rfl]
    exact x_ans0 x neg1
  rw [t1, show fX0_in (nI k) 0 1 = some 1 from t9, zb1_s, if_neg (by decide)]
  rcases pt_cases Y with ⟨q, -, q9⟩ | ⟨pt, hpt, rfl, q, -, q9⟩
  · rw [q, q9, zb1_s, if_pos rfl]
    exact x_ans0 x neg1
  rw [q, q9, zb1_s, if_neg (by decide)]
  have e2 : k = 0 ∨ k = 1 := by omega
  have f : ∀ j, fr (fun a _ => a = 28) h (zsI h 28 j (nI pt)) := fun j => fr.sI (W := fun a _ => a = 28) (fr.refl _ h) rfl _
  rcases e2 with rfl | rfl <;> simp (disch := omega) only [zw_b1, zw_b2, zw_ck, zw_let, zw_ite, zw_some, vin, nI_clamp, Nat.reduceAdd, Nat.reduceMul, Nat.reduceSub, Nat.reduceEqDiff, Nat.reduceLT, Nat.reduceLeDiff, reduceIte, true_and, and_true, false_and, and_false, ite_true, ite_false, if_true, if_false, not_true_eq_false, not_false_eq_true]
  · rw [s0]
    exact x_fin0 (x.upS ((f 0).fx.mono fun a j hw => Or.inr hw) ⟨by rw [eI, if_pos ⟨rfl, rfl⟩], by rw [eI, if_neg (by omega)]; exact s1⟩) (f 0) (fun a j hw => by unfold wX; omega)
  · rw [s1]
    exact x_fin0 (x.upS ((f 1).fx.mono fun a j hw => Or.inr hw) ⟨by rw [eI, if_neg (by omega)]; exact s0, by rw [eI, if_pos ⟨rfl, rfl⟩]⟩) (f 1) (fun a j hw => by unfold wX; omega)
theorem x_res (x : XR h y z) : zP h 1 24 = some (42 + 2 * y.2.2) ∧ zRw h (42 + 2 * y.2.2) 1 ∧ zP h 1 25 = some (44 - 2 * y.2.2) ∧ zRw h (44 - 2 * y.2.2) 1 := by
  obtain ⟨m1, m2, m3, -⟩ := x.re
  refine ⟨m2, ?_, m3, ?_⟩
  · have := x_rw (o := 41 + 2 * y.2.2) x.st (by omega)
    rw [show 42 + 2 * y.2.2 = 1 + (41 + 2 * y.2.2) by omega]; exact this
  · have := x_rw (o := 43 - 2 * y.2.2) x.st (by omega)
    rw [show 44 - 2 * y.2.2 = 1 + (43 - 2 * y.2.2) by omega]; exact this
theorem x_result {X : Int32} (x : XR h y z) (hk1 : z.re.1 ≤ 2) (hl : z.re.2.length ≤ 6000) : zw (fX0_result h 1 X) (xQ h (sp_result z X)) := by
  unfold fX0_result sp_result
  obtain ⟨m1, m2, m3, m4, m5, m6⟩ := x.re
  obtain ⟨p1, p2, -⟩ := x_res x
  obtain ⟨q1, q2, q3, q4, q5, q6⟩ := zRw.T p2
  rw [m4]
  by_cases h0 : z.re.1 = 0
  · rw [if_pos (by rw [h0]; exact Int32.le_refl _), m5 h0]
    simp only [h0, if_true]
    rcases vI_cases X ([] : List Nat).length (by simp) with ⟨e, _⟩ | ⟨k, _, _, e⟩ <;> rw [e] <;> exact x_ans0 x neg2
  obtain ⟨r1, r2⟩ := m6 h0
  rw [if_neg (by rw [li, nI_leI (by omega) (by omega)]; omega), p1, zb1_s, zw_ck, r1]
  refine ⟨q6, ?_⟩
  rcases in_len X z.re.2.length (by omega) with ⟨e, -, e9⟩ | ⟨k, hk, rfl, e, -, e9⟩
  · rw [e, e9, zb1_s, if_pos rfl]
    exact x_ans0 x neg2
  rw [e, e9, zb1_s, if_neg (by decide), zb1_s, zw_ck, q2, zb1_s, zw_ck, zw_some]
  simp only [h0, if_false]
  refine ⟨q6, ⟨by rw [q4], by rw [q4]; exact vin (by omega) (by omega)⟩, ?_⟩
  rw [nI_clamp (by omega)]
  exact x_same x (by rw [show 42 + 2 * y.2.2 + 1 = 43 + 2 * y.2.2 by omega]; exact r2 k hk)
theorem x_told {X : Int32} (x : XR h y z) (hk1 : z.re.1 ≤ 2) : zw (fX0_told h 1 X) (xQ h (sp_told z X)) := by
  unfold fX0_told sp_told
  obtain ⟨b0, b1, b2⟩ := x.br
  obtain ⟨m1, m2, m3, m4, m5, m6⟩ := x.re
  obtain ⟨p1, p2, -⟩ := x_res x
  obtain ⟨q1, q2, q3, q4, q5, q6⟩ := zRw.T p2
  have fin : ∀ v w : Int32, v = w → zw (some (v, h)) (xQ h (w, z)) := fun v w hv => ⟨_, rfl, x_same x hv⟩
  by_cases h0 : X = 0
  · rw [if_pos h0, if_pos h0]; exact fin _ _ x.pl
  rw [if_neg h0, if_neg h0]
  by_cases h1 : X = 1
  · rw [if_pos h1, if_pos h1]; exact fin _ _ b0
  rw [if_neg h1, if_neg h1]
  by_cases h2 : X = 2
  · rw [if_pos h2, if_pos h2]; exact fin _ _ b1
  rw [if_neg h2, if_neg h2]
  by_cases h3 : X = 3
  · rw [if_pos h3, if_pos h3]; exact fin _ _ b2
  rw [if_neg h3, if_neg h3]
  by_cases h4 : X = 4
  · rw [if_pos h4, if_pos h4]; exact fin _ _ x.pg.2.1
  rw [if_neg h4, if_neg h4]
  by_cases h5 : X = 5
  · rw [if_pos h5, if_pos h5]; exact fin _ _ x.by.1
  rw [if_neg h5, if_neg h5]
  by_cases h6 : X = 6
  · rw [if_pos h6, if_pos h6]; exact fin _ _ x.un.1
  rw [if_neg h6, if_neg h6]
  by_cases h7 : X = 7
  · rw [if_pos h7, if_pos h7, m4]
    by_cases k0 : z.re.1 = 0
    · rw [if_pos (by rw [k0]; rfl)]
      exact fin _ _ (by rw [m5 k0]; rfl)
    · rw [if_neg (by rw [n_0 (by omega)]; exact k0), p1, zb1_s, zw_ck]
      exact ⟨q6, fin _ _ (m6 k0).1⟩
  rw [if_neg h7, if_neg h7]
  by_cases h8 : X = 8
  · rw [if_pos h8, if_pos h8]; exact fin _ _ m4
  rw [if_neg h8, if_neg h8]
  by_cases h9 : X = 9
  · rw [if_pos h9, if_pos h9]
    obtain ⟨pt, fa, -⟩ := x.fa
    exact fin _ _ fa.1
  rw [if_neg h9, if_neg h9]
  by_cases h10 : X = 10
  · rw [if_pos h10, if_pos h10]; exact fin _ _ x.fi
  rw [if_neg h10, if_neg h10]
  exact x_ans0 x neg1
theorem x_fill {X : Int32} (x : XR h y z) (hk1 : z.re.1 ≤ 2) (hl : z.by.length ≤ 1000 ∧ z.un.length ≤ 1000 ∧ z.re.2.length ≤ 6000) : zw (fX0_fill h 1 X) (xQ h (sp_fill z X)) := by
  unfold fX0_fill sp_fill
  have cb := x.by
  have cu := x.un
  obtain ⟨m1, m2, m3, m4, m5, m6⟩ := x.re
  obtain ⟨p1, p2, -⟩ := x_res x
  obtain ⟨q1, q2, q3, q4, q5, q6⟩ := zRw.T p2
  rcases vR_cases X 0 3 (by omega) (by omega) with ⟨t1, -, t9⟩ | ⟨k, -, hk, rfl, t1, -, t9⟩
  · rw [t1, show fX0_in X 0 3 = some 0 from t9, zb1_s, if_pos rfl]
    exact x_ans0 x neg1
  rw [t1, show fX0_in (nI k) 0 3 = some 1 from t9, zb1_s, if_neg (by decide)]
  have e4 : k = 0 ∨ k = 1 ∨ k = 2 ∨ k = 3 := by omega
  rcases e4 with rfl | rfl | hk23
  · unfold fX0_fill_J30
    rw [if_pos nI_0, if_pos nI_0, zw_let, zw_some, cb.1]
    have f : fr (fun a j => a = 1 ∧ j = 5) h (zsI h 1 5 0) := (fr.refl _ h).sI ⟨rfl, rfl⟩ _
    exact x_fin0 (x.upB (f.fx.mono fun a j hw => Or.inr (by omega)) ⟨by rw [eI, if_pos ⟨rfl, rfl⟩]; rfl, fun j hj => absurd hj (Nat.not_lt_zero _)⟩) f (fun a j hw => by unfold wX; omega)
  · unfold fX0_fill_J30
    rw [if_neg n10, if_neg n10, if_pos nI1, zw_let, zw_some, cu.1]
    have f : fr (fun a j => a = 1 ∧ j = 7) h (zsI h 1 7 0) := (fr.refl _ h).sI ⟨rfl, rfl⟩ _
    exact x_fin0 (x.upU (f.fx.mono fun a j hw => Or.inr (by omega)) ⟨by rw [eI, if_pos ⟨rfl, rfl⟩]; rfl, fun j hj => absurd hj (Nat.not_lt_zero _)⟩) f (fun a j hw => by unfold wX; omega)
  have k0 : ¬ k = 0 := by omega
  have k1 : ¬ k = 1 := by omega
  simp only [k0, k1, if_false]
  rw [if_neg (by rw [n_0 (by omega)]; exact k0)]
  unfold fX0_fill_J30
  rw [if_neg (by rw [n_0 (by omega)]; exact k0), if_neg (by rw [li, nI_eq (by omega) (by omega)]; exact k1), m4, show (4 : Int32) - nI k = nI (4 - k) from by rw [li, pk_sub (by omega)]]
  by_cases h1 : z.re.1 = 4 - k
  case neg =>
    rw [if_neg (by rw [nI_eq (by omega) (by omega)]; exact h1), if_neg h1]
    unfold fX0_fill_J79
    rw [m4, show (4 : Int32) - nI k = nI (4 - k) from by rw [li, pk_sub (by omega)], if_neg (by rw [nI_eq (by omega) (by omega)]; exact h1)]
    exact x_ans0 x neg2
  obtain ⟨r1, r2⟩ := m6 (by omega)
  rw [if_pos (by rw [h1]), if_pos h1, p1, zb1_s, zw_ck, r1]
  refine ⟨q6, ?_⟩
  by_cases h2 : z.re.2.length ≤ 1000
  case neg =>
    rw [if_neg (by rw [li, nI_leI (by omega) (by omega)]; exact h2), if_neg h2]
    unfold fX0_fill_J79
    rw [m4, show (4 : Int32) - nI k = nI (4 - k) from by rw [li, pk_sub (by omega)], if_pos (by rw [h1])]
    exact x_ans0 x neg6
  rw [if_pos (by rw [li, nI_leI (by omega) (by omega)]; exact h2), if_pos h2, zb1_s, zw_ck, zb1_s, zw_ck, q2, zb1_s, r1]
  refine ⟨q6, q6, ?_⟩
  have t26 : zT h 26 = (100, 1000) := x_T x.st 25 rfl
  have t27 : zT h 27 = (100, 1000) := x_T x.st 26 rfl
  have cpy : ∀ r : Nat, zcpOk 6000 1000 0 (0 : Int32) (nI z.re.2.length) := fun r => by
    refine ⟨by decide, by decide, nI_pos (by omega), ?_, ?_⟩ <;> rw [nI_clamp (by omega), show (0 : Int32).toNatClampNeg = 0 from rfl] <;> omega
  have cells : ∀ r j, j < z.re.2.length → va_cpy (zI h (42 + 2 * y.2.2 + 1)) (zI h r) 0 0 z.re.2.length j = nI (z.re.2.getD j 0) := fun r j hj => by
    rw [pk_cpy_in (by omega) (by omega), show 0 + (j - 0) = j by omega, show 42 + 2 * y.2.2 + 1 = 43 + 2 * y.2.2 by omega]
    exact r2 j hj
  rcases hk23 with rfl | rfl
  · rw [if_pos (by rfl)]
    unfold fX0_fill_J133
    rw [zw_ck, zw_ck, zw_ck, zw_let, q4, show zT h (1 + 25) = (100, 1000) from t26]
    refine ⟨⟨rfl, by omega⟩, ⟨rfl, by omega⟩, cpy 0, ?_⟩
    rw [if_pos (by rfl)]
    unfold fX0_fill_J152
    rw [zw_let, if_neg (by decide), zw_let, zw_some, nI_clamp (by omega), show (0 : Int32).toNatClampNeg = 0 from rfl]
    generalize hg : va_cpy (zI h (42 + 2 * y.2.2 + 1)) (zI h (1 + 25)) 0 0 z.re.2.length = G
    have f : fr (fun a j => a = 1 ∧ (j = 5 ∨ j = 7) ∨ a = 26) h (zsI (zsI (zsC h (1 + 25) G) 1 5 (nI z.re.2.length)) 1 7 (zI (zsI (zsC h (1 + 25) G) 1 5 (nI z.re.2.length)) 1 7)) := (((fr.refl _ h).sC (fun j => Or.inr rfl) _).sI (Or.inl ⟨rfl, Or.inl rfl⟩) _).sI (Or.inl ⟨rfl, Or.inr rfl⟩) _
    have f7 : fr (fun a j => a = 1 ∧ j = 5 ∨ a = 26) h (zsI (zsI (zsC h (1 + 25) G) 1 5 (nI z.re.2.length)) 1 7 (zI (zsI (zsC h (1 + 25) G) 1 5 (nI z.re.2.length)) 1 7)) := by
      refine ⟨f.1, f.2.1, fun a j hn => ?_, f.2.2.2⟩
      by_cases e : a = 1 ∧ j = 7
      · obtain ⟨rfl, rfl⟩ := e
        refine ⟨?_, rfl, rfl⟩
        simp only [eI, eCI, Nat.reduceAdd, Nat.reduceMul, Nat.reduceSub, Nat.reduceEqDiff, Nat.reduceLT, Nat.reduceLeDiff, reduceIte, true_and, and_true, false_and, and_false, ite_true, ite_false, if_true, if_false, not_true_eq_false, not_false_eq_true]
      · exact f.2.2.1 a j (by omega)
    refine x_fin0 (x.upB (f7.fx.mono fun a j hw => Or.inr (by omega)) ⟨?_, fun j hj => ?_⟩) f7 (fun a j hw => by unfold wX; omega)
    · simp only [eI, eCI, Nat.reduceAdd, Nat.reduceMul, Nat.reduceSub, Nat.reduceEqDiff, Nat.reduceLT, Nat.reduceLeDiff, reduceIte, true_and, and_true, false_and, and_false, ite_true, ite_false, if_true, if_false, not_true_eq_false, not_false_eq_true]
    · simp only [eI, eCI, Nat.reduceAdd, Nat.reduceMul, Nat.reduceSub, Nat.reduceEqDiff, Nat.reduceLT, Nat.reduceLeDiff, reduceIte, true_and, and_true, false_and, and_false, ite_true, ite_false, if_true, if_false, not_true_eq_false, not_false_eq_true]
      rw [← hg]
      exact cells _ j hj
  · rw [if_neg (by decide)]
    unfold fX0_fill_J133
    rw [zw_ck, zw_ck, zw_ck, zw_let, q4, show zT h (1 + 26) = (100, 1000) from t27]
    refine ⟨⟨rfl, by omega⟩, ⟨rfl, by omega⟩, cpy 0, ?_⟩
    rw [if_neg (by decide)]
    unfold fX0_fill_J152
    rw [zw_let, if_pos (by rfl), zw_let, zw_some, nI_clamp (by omega), show (0 : Int32).toNatClampNeg = 0 from rfl]
    generalize hg : va_cpy (zI h (42 + 2 * y.2.2 + 1)) (zI h (1 + 26)) 0 0 z.re.2.length = G
    have f : fr (fun a j => a = 1 ∧ (j = 5 ∨ j = 7) ∨ a = 27) h (zsI (zsI (zsC h (1 + 26) G) 1 5 (zI (zsC h (1 + 26) G) 1 5)) 1 7 (nI z.re.2.length)) := (((fr.refl _ h).sC (fun j => Or.inr rfl) _).sI (Or.inl ⟨rfl, Or.inl rfl⟩) _).sI (Or.inl ⟨rfl, Or.inr rfl⟩) _
    have f7 : fr (fun a j => a = 1 ∧ j = 7 ∨ a = 27) h (zsI (zsI (zsC h (1 + 26) G) 1 5 (zI (zsC h (1 + 26) G) 1 5)) 1 7 (nI z.re.2.length)) := by
      refine ⟨f.1, f.2.1, fun a j hn => ?_, f.2.2.2⟩
      by_cases e : a = 1 ∧ j = 5
      · obtain ⟨rfl, rfl⟩ := e
        refine ⟨?_, rfl, rfl⟩
        simp only [eI, eCI, Nat.reduceAdd, Nat.reduceMul, Nat.reduceSub, Nat.reduceEqDiff, Nat.reduceLT, Nat.reduceLeDiff, reduceIte, true_and, and_true, false_and, and_false, ite_true, ite_false, if_true, if_false, not_true_eq_false, not_false_eq_true]
      · exact f.2.2.1 a j (by omega)
    simp only [show ¬ (3 : Nat) = 2 by omega, if_false]
    refine x_fin0 (x.upU (f7.fx.mono fun a j hw => Or.inr (by omega)) ⟨?_, fun j hj => ?_⟩) f7 (fun a j hw => by unfold wX; omega)
    · simp only [eI, eCI, Nat.reduceAdd, Nat.reduceMul, Nat.reduceSub, Nat.reduceEqDiff, Nat.reduceLT, Nat.reduceLeDiff, reduceIte, true_and, and_true, false_and, and_false, ite_true, ite_false, if_true, if_false, not_true_eq_false, not_false_eq_true]
    · simp only [eI, eCI, Nat.reduceAdd, Nat.reduceMul, Nat.reduceSub, Nat.reduceEqDiff, Nat.reduceLT, Nat.reduceLeDiff, reduceIte, true_and, and_true, false_and, and_false, ite_true, ite_false, if_true, if_false, not_true_eq_false, not_false_eq_true]
      rw [← hg]
      exact cells _ j hj
end XRW
