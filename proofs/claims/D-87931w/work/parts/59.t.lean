/-! the exchange's machines: begin take machine -/
set_option maxRecDepth 100000
section XMA
variable {h h' : zH} {y : gY} {z : gZ}
theorem XR.upD {d : Nat} {mm : gM} (x : XR h y z) (hd : d < 4) (f : fx (fun a j => wxSc z.pg.1 y a j ∨ 64 + 7 * d ≤ a ∧ a ≤ 70 + 7 * d) h h') (hg : xMa h' y.1 d mm) : XR h' y (qM z (gMt z.ma d mm)) := by
  refine x.upM (f.mono fun a j hw => hw.imp id (fun q => by omega)) fun e he => ?_
  unfold gMt
  split
  · rename_i q
    subst q
    exact hg
  · rename_i q
    refine xMa_fx f x.n he (fun a j ha hw => ?_) (x.ma e he)
    rcases hw with (hw | hw) | hw
    · have := x.re.1; unfold sSc at hw; omega
    · exact dSc_no x.pg.2.2.2.2.2.2.1 (by omega) hw
    · omega
theorem x_mobj (x : XR h y z) {d wr : Nat} (hd : d < 4) : (wr = 0 → zRd h (xMo d wr) 1) ∧ (wr ≠ 0 → zWr h (xMo d wr) 1) ∧ zMc h (xMo d wr) ∧ (zT h (xMo d wr) = if wr = 0 then (4, 0) else (5, 0)) ∧ zP h (xMo d wr) 11 = some 1 := by
  unfold xMo
  by_cases hw : wr = 0
  · simp only [hw, if_true]
    have r := x_rdD x.st hd
    have t := zRd.T r
    exact ⟨fun _ => r, fun q => absurd rfl q, ⟨3, by simp, zOb_mk t.2.2.2.2 ((zCt.b r 0 rfl).lt 0 rfl) t.1⟩, t.1, t.2.1⟩
  · simp only [hw, if_false]
    have r := x_wrD x.st hd
    have t := zWr.T r
    exact ⟨fun q => q.elim, fun _ => r, ⟨4, by simp, zOb_mk t.2.2.2.2 ((zCt.b r 0 rfl).lt 0 rfl) t.1⟩, t.1, t.2.1⟩
/-- what a begin leaves at a machine's object -/
theorem x_beg3 {o p s : Nat} {r : Int32} (h2 : zFn (zT h o) 2 = false) (h1 : zFn (zT h o) 1 = false) (k : zH → Prop) (hk : ∀ h', fr (fun a j => a = o ∧ 1 ≤ j ∧ j ≤ 10) h h' → zP h' o 1 = some s → zP h' o 2 = some p → zI h' o 3 = r → zI h' o 4 = 0 → zI h' o 5 = 0 → zI h' o 6 = 0 → zI h' o 7 = 4 → zI h' o 8 = 0 → zI h' o 9 = 0 → zI h' o 10 = 0 → k h') (xx : Nat) : zw (fX4_begin_3 h o xx p r s) k ∧ zw (fX4_begin_4 h o xx p r s) k := by
  have : zw (fX4_begin_3 h o xx p r s) k := by
    simp only [fX4_begin_3, zw_let, zw_some]
    refine hk _ ?_ ?_ ?_ ?_ ?_ ?_ ?_ ?_ ?_ ?_ ?_
    · exact ((((((((((fr.refl _ h).sP ⟨rfl, by omega, by omega⟩ h2 _).sI ⟨rfl, by omega, by omega⟩ _).sP ⟨rfl, by omega, by omega⟩ h1 _).sI ⟨rfl, by omega, by omega⟩ _).sI ⟨rfl, by omega, by omega⟩ _).sI ⟨rfl, by omega, by omega⟩ _).sI ⟨rfl, by omega, by omega⟩ _).sI ⟨rfl, by omega, by omega⟩ _).sI ⟨rfl, by omega, by omega⟩ _).sI ⟨rfl, by omega, by omega⟩ _
    all_goals simp only [eI, eIT, eIP, eIL, ePI, ePT, ePP, ePL, eLI, eLT, eLP, eLL, eIn, ePn, eLn, Nat.reduceAdd, Nat.reduceMul, Nat.reduceSub, Nat.reduceEqDiff, Nat.reduceLT, Nat.reduceLeDiff, reduceIte, true_and, and_true, false_and, and_false, ite_true, ite_false, if_true, if_false, not_true_eq_false, not_false_eq_true]
  exact ⟨this, this⟩
theorem x_begin {X Y wr rule : Int32} (x : XR h y z) (w : pgWf z.pg) (hf : zB wr) : zw (fX0_begin h 1 X Y wr rule) (xQ h (sp_begin z X Y wr rule)) := by
  have hsp : ∀ d, sp_begin z (nI d) Y wr rule = match vR (nI d) 0 3 with
    | none => qT z (-1)
    | some d => sp_cl z Y (fun p => match vR rule 0 (if wr = 0 then 3 else 4) with
      | none => qT z (-1)
      | some r => (0, qM z (gMt z.ma d (gMn p (if wr = 0 then 0 else 1) r)))) := fun d => by
    unfold sp_begin sp_cl
    cases vR (nI d) 0 3 with
    | none => rfl
    | some d =>
      cases vI Y z.pg.1 with
      | none => rfl
      | some p => rfl
  unfold fX0_begin
  rcases vR_cases X 0 3 (by omega) (by omega) with ⟨t1, -, t9⟩ | ⟨d, -, hd, rfl, t1, -, t9⟩
  · rw [show fX0_in X 0 3 = some 0 from t9, zb1_s]
    unfold sp_begin
    rw [t1]
    exact x_need x neg1 _
  rw [hsp, t1, show fX0_in (nI d) 0 3 = some 1 from t9, zb1_s, x_need1, zxv_n]
  rcases x_closed x w Y with ⟨v, h1, hv, t, xe, ek⟩ | ⟨p, hp, rfl, k1, t, ek⟩
  · rw [t, zxr_e]
    simp only [ek]
    exact x_han x xe hv
  rw [t, zxr_r, zb1_s]
  simp only [ek]
  obtain ⟨sl1, sl2, sl3, sl4⟩ := x_mslot x.st (show d < 4 by omega)
  have fin : ∀ q : Nat, q ≤ 4 → zw (fX0_begin_J31 h 1 (nI d) wr rule (y.1 p) (nI q) 0 rule) (xQ h (match vR rule 0 q with
    | none => qT z (-1)
    | some r => (0, qM z (gMt z.ma d (gMn p (if wr = 0 then 0 else 1) r))))) := by
    intro q hq
    unfold fX0_begin_J31
    rcases vR_cases rule 0 q (by omega) (by omega) with ⟨t1, -, t9⟩ | ⟨r, -, hr, rfl, t1, -, t9⟩
    · rw [t1, show fX0_in rule 0 (nI q) = some 0 from t9, zb1_s]
      exact x_need x neg1 _
    rw [t1, show fX0_in (nI r) 0 (nI q) = some 1 from t9, zb1_s, x_need1, zxv_n]
    have fin2 : ∀ wn : Nat, wn = (if wr = 0 then 0 else 1) → zw (fX0_begin_J57 h 1 (nI d) (nI r) (y.1 p) (xMo d wn)) (xQ h (0, qM z (gMt z.ma d (gMn p (if wr = 0 then 0 else 1) r)))) := by
      intro wn hwn
      rw [← hwn]
      have hw1 : wn ≤ 1 := by rw [hwn]; split <;> omega
      obtain ⟨o1, o2, o3, o4, o5⟩ := x_mobj x (d := d) (wr := wn) (by omega)
      have rg := xMo_rg (d := d) (wr := wn) (by omega)
      unfold fX0_begin_J57
      rw [zw_b1]
      have nf : zFn (zT h (xMo d wn)) 2 = false ∧ zFn (zT h (xMo d wn)) 1 = false := by
        rw [o4]; split <;> exact ⟨rfl, rfl⟩
      have bg := x_beg3 (h := h) (o := xMo d wn) (p := y.1 p) (s := xMo d wn) (r := nI r) nf.1 nf.2 (fun h_45 => zw (zck (vp_in (nI d) 4) (zb1 (zP h_45 (1 + 32) (nI d).toNatClampNeg) (fun b_47 => zck (zOb 6 h_45 b_47) (zlet (zsP h_45 b_47 0 (some (xMo d wn))) (fun h_49 => some ((0, h_49))))))) (xQ h (0, qM z (gMt z.ma d (gMn p wn r))))) (by
        intro h2 f2 a1 a2 a3 a4 a5 a6 a7 a8 a9 a10
        have st2 : zXx h2 1 := zCt.ext x.st f2.lx
        obtain ⟨u1, u2, -⟩ := x_mslot st2 (show d < 4 by omega)
        rw [zw_ck, nI_clamp (by omega), show zP h2 (1 + 32) d = some (64 + 7 * d) from u1, zb1_s, zw_ck, zw_let, zw_some]
        refine ⟨vin (by omega) (by omega), u2, ?_⟩
        have f3 : fr (fun a j => 64 + 7 * d ≤ a ∧ a ≤ 70 + 7 * d) h (zsP h2 (64 + 7 * d) 0 (some (xMo d wn))) := by
          refine fr.trans (f2.mono fun a j hw => by omega) (fr.sP (fr.refl _ h2) (by omega) ?_ _)
          rw [u2.t]; rfl
        refine x_fin0 (x.upD (by omega) (f3.fx.mono fun a j hw => Or.inr hw) ⟨fun q => absurd q (by simp only [gMn, Nat.reduceAdd, Nat.reduceMul, Nat.reduceSub, Nat.reduceEqDiff, Nat.reduceLT, Nat.reduceLeDiff, reduceIte, true_and, and_true, false_and, and_false, ite_true, ite_false, if_true, if_false, not_true_eq_false, not_false_eq_true]), fun _ => ?_⟩) f3 (fun a j hw => by unfold wX; omega)
        have e2 : (gMn p wn r).1 2 = wn := by simp only [gMn, Nat.reduceAdd, Nat.reduceMul, Nat.reduceSub, Nat.reduceEqDiff, Nat.reduceLT, Nat.reduceLeDiff, reduceIte, true_and, and_true, false_and, and_false, ite_true, ite_false, if_true, if_false, not_true_eq_false, not_false_eq_true]
        rw [e2]
        have no : ¬ xMo d wn = 64 + 7 * d := by omega
        refine ⟨by rw [ePP, if_pos ⟨rfl, rfl⟩], ?_, ?_, ?_, ?_, ?_, ?_, ?_, ?_, ?_, ⟨0, ?_, by show 0 + 0 ≤ 700; omega, fun i hi => absurd hi (Nat.not_lt_zero _)⟩, fun _ i hi => absurd hi (Nat.not_lt_zero _), fun _ q => absurd rfl q⟩
        · rw [ePP, if_neg (fun q => no q.1)]; exact a1
        · rw [ePP, if_neg (fun q => no q.1)]; exact a2
        · rw [ePI]; exact a3
        · rw [ePI]; exact a6
        · rw [ePI]; exact a7
        · rw [ePI]; exact a8
        · rw [ePI]; exact a9
        · rw [ePI]; exact a10
        · rw [ePI]; exact a5
        · rw [ePI]; exact a4) 1
      unfold fV_Machine_begin
      by_cases hw : wn = 0
      · rw [if_pos (by rw [o4, if_pos hw]), o5, zb1_s, zck_pos (o1 hw)]
        exact bg.1
      · rw [if_neg (by rw [o4, if_neg hw]; decide), if_pos (by rw [o4, if_neg hw]), o5, zb1_s, zck_pos (o2 hw)]
        exact bg.2
    by_cases hw : wr = 0
    · rw [if_pos hw, zw_ck, nI_clamp (by omega), show zP h (1 + 33) d = some (65 + 7 * d) from sl3, zb1_s]
      exact ⟨vin (by omega) (by omega), fin2 0 (by rw [if_pos hw])⟩
    · rw [if_neg hw, zw_ck, nI_clamp (by omega), show zP h (1 + 34) d = some (68 + 7 * d) from sl4, zb1_s]
      exact ⟨vin (by omega) (by omega), fin2 1 (by rw [if_neg hw])⟩
  by_cases hw : wr = 0
  · rw [if_pos hw]
    have := fin 3 (by omega)
    simp only [hw, if_true] at this ⊢
    exact this
  · rw [if_neg hw]
    have := fin 4 (by omega)
    simp only [hw, if_false] at this ⊢
    exact this
theorem x_machine {X Y : Int32} (x : XR h y z) (wm : maSm z.ma) : zw (fX0_machine h 1 X Y) (xQ h (sp_machine z X Y)) := by
  unfold fX0_machine sp_machine
  rcases vR_cases X 0 3 (by omega) (by omega) with ⟨t1, -, t9⟩ | ⟨d, -, hd, rfl, t1, -, t9⟩
  · rw [t1, show fX0_in X 0 3 = some 0 from t9, zb1_s, if_pos rfl]
    exact x_ans0 x neg1
  rw [t1, show fX0_in (nI d) 0 3 = some 1 from t9, zb1_s, if_neg (by decide)]
  obtain ⟨w0, w1, w2⟩ := wm d (by omega)
  obtain ⟨b0, b1⟩ := x.ma d (by omega)
  obtain ⟨sl1, sl2, sl3, sl4⟩ := x_mslot x.st (show d < 4 by omega)
  rw [zw_ck, nI_clamp (by omega), show zP h (1 + 32) d = some (64 + 7 * d) from sl1, zb1_s, zw_ck, zw_let]
  refine ⟨vin (by omega) (by omega), sl2, ?_⟩
  by_cases h0 : (z.ma d).1 0 = 0
  · rw [b0 h0]
    simp only [h0, if_true]
    exact x_ans0 x neg2
  obtain ⟨c1, m1, m2, m3, m4, m5, m6, m7, m8, m9, -⟩ := b1 (by omega)
  obtain ⟨o1, o2, o3, o4, o5⟩ := x_mobj x (d := d) (wr := (z.ma d).1 2) (by omega)
  rw [c1]
  simp only [h0, if_false]
  show zw (zck (zMc h (xMo d ((z.ma d).1 2))) _) _
  rw [zw_ck]
  refine ⟨o3, ?_⟩
  have fin : ∀ v w : Int32, v = w → zw (some (v, h)) (xQ h (w, z)) := fun v w hv => ⟨_, rfl, x_same x hv⟩
  rcases vR_cases Y 0 4 (by omega) (by omega) with ⟨t1, -, t9⟩ | ⟨k, -, hk, rfl, t1, -, t9⟩
  · rw [show fX0_in Y 0 4 = some 0 from t9, zb1_s, if_pos rfl]
    have ny : ∀ k : Nat, k ≤ 4 → ¬ Y = nI k := fun k hk e => by
      subst e
      unfold vR at t1
      rw [if_neg (by rintro (q | q); exact nI_pos (n := k) (by omega) (by rw [nI_0] at q; exact q); rw [nI_ltI (by omega) (by omega)] at q; omega)] at t1
      cases t1
    rw [if_neg (show ¬ Y = 0 from ny 0 (by omega)), if_neg (show ¬ Y = 1 from ny 1 (by omega)), if_neg (show ¬ Y = 2 from ny 2 (by omega)), if_neg (show ¬ Y = 3 from ny 3 (by omega)), if_neg (show ¬ Y = 4 from ny 4 (by omega))]
    exact x_ans0 x neg1
  rw [show fX0_in (nI k) 0 4 = some 1 from t9, zb1_s, if_neg (by decide)]
  have e5 : k = 0 ∨ k = 1 ∨ k = 2 ∨ k = 3 ∨ k = 4 := by omega
  rcases e5 with rfl | rfl | rfl | rfl | rfl
  · rw [if_pos nI_0, if_pos nI_0]; exact fin _ _ m9
  · rw [if_neg n10, if_neg n10, if_pos nI1, if_pos nI1]; exact fin _ _ m4
  · rw [if_neg (by decide), if_neg (by decide), if_pos (by rfl), if_neg (by decide), if_neg (by decide), if_pos (by rfl)]; exact fin _ _ m5
  · rw [if_neg (by decide), if_neg (by decide), if_neg (by decide), if_pos (by rfl), if_neg (by decide), if_neg (by decide), if_neg (by decide), if_pos (by rfl)]; exact fin _ _ m6
  · rw [if_neg (by decide), if_neg (by decide), if_neg (by decide), if_neg (by decide), if_neg (by decide), if_neg (by decide), if_neg (by decide), if_neg (by decide), if_pos (by rfl)]; exact fin _ _ m8
theorem x_take {X : Int32} (x : XR h y z) (wm : maSm z.ma) : zw (fX0_take h 1 X) (xQ h (sp_take z X)) := by
  unfold fX0_take sp_take
  rcases vR_cases X 0 3 (by omega) (by omega) with ⟨t1, -, t9⟩ | ⟨d, -, hd, rfl, t1, -, t9⟩
  · rw [t1, show fX0_in X 0 3 = some 0 from t9, zb1_s, if_pos rfl]
    exact x_ans0 x neg1
  rw [t1, show fX0_in (nI d) 0 3 = some 1 from t9, zb1_s, if_neg (by decide)]
  obtain ⟨w0, w1, w2⟩ := wm d (by omega)
  obtain ⟨b0, b1⟩ := x.ma d (by omega)
  obtain ⟨sl1, sl2, sl3, sl4⟩ := x_mslot x.st (show d < 4 by omega)
  rw [zw_ck, nI_clamp (by omega), show zP h (1 + 32) d = some (64 + 7 * d) from sl1, zb1_s, zw_ck, zw_let]
  refine ⟨vin (by omega) (by omega), sl2, ?_⟩
  by_cases h0 : (z.ma d).1 0 = 0
  · rw [b0 h0]
    simp only [h0, true_or, if_true]
    exact x_ans0 x neg2
  obtain ⟨c1, m1, m2, m3, m4, m5, m6, m7, m8, m9, ⟨fi, q1, q2, q3⟩, m10, m11⟩ := b1 (by omega)
  obtain ⟨o1, o2, o3, o4, o5⟩ := x_mobj x (d := d) (wr := (z.ma d).1 2) (by omega)
  have rg := xMo_rg (d := d) (wr := (z.ma d).1 2) (by omega)
  rw [c1]
  simp only [h0, false_or]
  show zw (zck (zMc h (xMo d ((z.ma d).1 2))) _) _
  rw [zw_ck]
  refine ⟨o3, ?_⟩
  generalize hO : xMo d ((z.ma d).1 2) = O at *
  have em : fV_Steps_isEmpty h O = some (if (z.ma d).2.2 = [] then 1 else 0) := by
    have e : (if zI h O 5 = 0 then some (1 : Int32) else some 0) = some (if (z.ma d).2.2 = [] then 1 else 0) := by
      rw [m9]
      by_cases hl : (z.ma d).2.2 = []
      · rw [if_pos hl, hl, if_pos (by rfl)]
      · have : 0 < (z.ma d).2.2.length := List.length_pos_iff.mpr hl
        rw [if_neg hl, if_neg (by rw [n_0 (by omega)]; omega)]
    unfold fV_Steps_isEmpty
    by_cases hw : (z.ma d).1 2 = 0
    · rw [if_pos (by rw [o4, if_pos hw]), o5, zb1_s, zck_pos (o1 hw)]
      exact e
    · rw [if_neg (by rw [o4, if_neg hw]; decide), if_pos (by rw [o4, if_neg hw]), o5, zb1_s, zck_pos (o2 hw)]
      exact e
  rw [em, zb1_s]
  by_cases hl : (z.ma d).2.2 = []
  · simp only [hl, if_true, i10, if_false]
    exact x_ans0 x neg2
  have hlen : 0 < (z.ma d).2.2.length := List.length_pos_iff.mpr hl
  simp only [hl, if_false, if_true]
  rw [zw_b2]
  have tk : zw (fX4_take_3 h O 1) (fun a => zw (some (a.1, a.2)) (xQ h (nI ((z.ma d).2.2.getD 0 0), qM z (gMt z.ma d ((z.ma d).1, (z.ma d).2.1, (z.ma d).2.2.tail))))) := by
    unfold fX4_take_3
    have e1 : zI (zsI h O 5 (nI (z.ma d).2.2.length - 1)) O 4 = nI fi := by rw [eI, if_neg (by omega)]; exact q1
    rw [zw_let, zw_let, zw_ck, zw_some, zw_some, m9, e1, eI, if_pos ⟨rfl, rfl⟩, nI_1, nI_pred, nI_clamp (by omega), show nI (z.ma d).2.2.length - 1 = nI ((z.ma d).2.2.length - 1) from by rw [li, pk_sub (by omega)]]
    refine ⟨vin (by omega) (by omega), ?_⟩
    have f3 : fr (fun a j => a = O ∧ (j = 4 ∨ j = 5)) h (zsI (zsI h O 5 (nI ((z.ma d).2.2.length - 1))) O 4 (nI (fi + 1))) := ((fr.refl _ h).sI ⟨rfl, Or.inr rfl⟩ _).sI ⟨rfl, Or.inl rfl⟩ _
    have hv : zI (zsI (zsI h O 5 (nI ((z.ma d).2.2.length - 1))) O 4 (nI (fi + 1))) (O + 1) fi = nI ((z.ma d).2.2.getD 0 0) := by
      rw [f3.I (by omega)]; exact q3 0 hlen
    show xQ h _ (zI (zsI (zsI h O 5 (nI ((z.ma d).2.2.length - 1))) O 4 (nI (fi + 1))) (O + 1) fi, _)
    rw [hv]
    refine x_fin0 (x.upD (by omega) (f3.fx.mono fun a j hw => Or.inr (by omega)) ⟨fun q => absurd q h0, fun _ => ?_⟩) f3 (fun a j hw => by unfold wX; omega)
    show zP _ (64 + 7 * d) 0 = some (xMo d ((z.ma d).1 2)) ∧ xMb _ (xMo d ((z.ma d).1 2)) _ _
    rw [hO]
    refine ⟨?_, ?_, ?_, ?_, ?_, ?_, ?_, ?_, ?_, ?_, ⟨fi + 1, ?_, ?_, fun i hi => ?_⟩, fun hw i hi => ?_, fun hw hk => ?_⟩
    · rw [f3.P (by omega)]; exact c1
    · rw [f3.P (by omega)]; exact m1
    · rw [f3.P (by omega)]; exact m2
    · rw [f3.I (by omega)]; exact m3
    · rw [f3.I (by omega)]; exact m4
    · rw [f3.I (by omega)]; exact m5
    · rw [f3.I (by omega)]; exact m6
    · rw [f3.I (by omega)]; exact m7
    · rw [f3.I (by omega)]; exact m8
    · rw [eI, if_neg (by omega), eI, if_pos ⟨rfl, rfl⟩]; exact congrArg nI (List.length_tail).symm
    · rw [eI, if_pos ⟨rfl, rfl⟩]
    · show fi + 1 + (z.ma d).2.2.tail.length ≤ 700
      rw [List.length_tail]; omega
    · have hi' : i < (z.ma d).2.2.tail.length := hi
      rw [List.length_tail] at hi'
      rw [f3.I (by omega), show fi + 1 + i = fi + (i + 1) by omega, q3 (i + 1) (by omega)]
      exact congrArg nI (gD_tl _ _).symm
    · rw [f3.I (by omega)]; exact m10 hw i hi
    · rw [f3.I (by omega)]; exact m11 hw hk
  unfold fV_Machine_take
  by_cases hw : (z.ma d).1 2 = 0
  · rw [if_pos (by rw [o4, if_pos hw]), o5, zb1_s, zck_pos (o1 hw)]
    exact tk
  · rw [if_neg (by rw [o4, if_neg hw]; decide), if_pos (by rw [o4, if_neg hw]), o5, zb1_s, zck_pos (o2 hw)]
    exact tk
end XMA
