/-! the exchange: misread, detect -/
set_option maxRecDepth 100000
/-- what comes of reading is at most twice as long -/
theorem gRun_len {g : gP} {rule sg : Nat} {last : Bool} (sm : gSm g) : ∀ (n st pd : Nat) (l o : List Nat) (f : Nat), isB l → st < 4 → pd ≤ 4 → (gRun g rule sg last n st pd l o f).2.2.2.2.1.length + 2 * (gRun g rule sg last n st pd l o f).2.2.2.1.length ≤ o.length + 2 * l.length := by
  intro n
  induction n with
  | zero => intro st pd l o f _ _ _; exact Nat.le_refl _
  | succ n ih =>
    intro st pd l o f hB h1 h2
    simp only [gRun]
    split
    · exact Nat.le_refl _
    · split
      · exact Nat.le_refl _
      · split
        · exact Nat.le_refl _
        · rename_i hl _ _
          have n1 := gR1_n (rule := rule) (sg := sg) (st := st) (pd := pd) sm hB hl
          have wf1 := gR1_wf (rule := rule) (sg := sg) (l := l) sm h1 h2
          have := ih _ _ (l.drop (gR1 g rule sg st pd l).1) (o ++ (gR1 g rule sg st pd l).2.1) (f + (gR1 g rule sg st pd l).2.2.2.2) (hB.drop _) wf1.1 wf1.2.1
          rw [List.length_drop, List.length_append] at this
          omega
section XMI
variable {h : zH} {y : gY} {z : gZ}
theorem x_cl2 {X Y : Int32} (x : XR h y z) (w : pgWf z.pg) (K : Nat → Nat → zH → Option (Int32 × zH)) (k : Nat → Nat → Int32 × gZ) (hk : ∀ p q, p < z.pg.1 → q < z.pg.1 → X = nI p → Y = nI q → z.pg.2 p 1 0 = 1 → z.pg.2 q 1 0 = 1 → zw (K (y.1 p) (y.1 q) h) (xQ h (k p q))) :
    zw (zxr (fX0_pageAt h 1 X) (fun v_2 h_3 => zb1 v_2 (fun _ => zxr (fX0_pageAt h_3 1 Y) (fun v_14 h_15 => zb1 v_14 (fun _ => zxr (fX0_closedAt h_15 1 X) (fun v_26 h_27 => zb1 v_26 (fun b_36 => zxr (fX0_closedAt h_27 1 Y) (fun v_38 h_39 => zb1 v_38 (fun b_48 => K b_36 b_48 h_39)) (fun e_40 h_41 => zck (zT h_41 e_40 = (2, 0)) (zck (zOb 1 h_41 e_40) (zb2 (fX0_answer h_41 1 (zI h_41 e_40 6)) (fun v_46 h_47 => some ((v_46, h_47)))))))) (fun e_28 h_29 => zck (zT h_29 e_28 = (2, 0)) (zck (zOb 1 h_29 e_28) (zb2 (fX0_answer h_29 1 (zI h_29 e_28 6)) (fun v_34 h_35 => some ((v_34, h_35)))))))) (fun e_16 h_17 => zck (zT h_17 e_16 = (2, 0)) (zck (zOb 1 h_17 e_16) (zb2 (fX0_answer h_17 1 (zI h_17 e_16 6)) (fun v_22 h_23 => some ((v_22, h_23)))))))) (fun e_4 h_5 => zck (zT h_5 e_4 = (2, 0)) (zck (zOb 1 h_5 e_4) (zb2 (fX0_answer h_5 1 (zI h_5 e_4 6)) (fun v_10 h_11 => some ((v_10, h_11))))))) (xQ h (sp_cl2 z X Y k)) := by
  unfold sp_cl2
  rcases x_page x w X with ⟨p, hp, rfl, e, t⟩ | ⟨h1, e, t, xe⟩
  case inr =>
    rw [t, e, zxr_e]
    exact x_han x xe neg1
  rw [t, e, zxr_r, zb1_s]
  rcases x_page x w Y with ⟨q, hq, rfl, e2, t2⟩ | ⟨h1, e2, t2, xe⟩
  case inr =>
    rw [t2, e2, zxr_e]
    exact x_han x xe neg1
  rw [t2, e2, zxr_r, zb1_s]
  have hc1 := (w.2 p hp).2.1
  have hc2 := (w.2 q hq).2.1
  rcases x_closed x w (nI p) with ⟨v, h1, hv, t3, xe, ek⟩ | ⟨p', hp', ep, k1, t3, ek⟩
  · rw [t3, zxr_e]
    have := ek (fun _ => qT z v)
    unfold sp_cl at ek
    rw [e] at ek
    dsimp only at ek ⊢
    by_cases c : z.pg.2 p 1 0 = 0
    · have e5 := ek (fun _ => qT z v)
      rw [if_pos c] at e5 ⊢
      have ev : v = -5 := (congrArg Prod.fst e5).symm
      subst ev
      exact x_han x xe hv
    · have e5 := ek (fun _ => (0, z))
      rw [if_neg c] at e5
      have ev := congrArg Prod.fst e5
      have ev : (0 : Int32) = v := ev
      rw [← ev] at hv
      exact absurd hv (by decide)
  have epp : p = p' := by rw [nI_eq (by have := w.1; omega) (by have := w.1; omega)] at ep; exact ep
  subst epp
  rw [t3, zxr_r, zb1_s]
  rcases x_closed x w (nI q) with ⟨v, h1, hv, t4, xe, ek2⟩ | ⟨q', hq', eq, k2, t4, ek2⟩
  · rw [t4, zxr_e]
    unfold sp_cl at ek2
    rw [e2] at ek2
    dsimp only at ek2 ⊢
    rw [if_neg (by omega)]
    by_cases c : z.pg.2 q 1 0 = 0
    · have e5 := ek2 (fun _ => qT z v)
      rw [if_pos c] at e5 ⊢
      have ev : v = -5 := (congrArg Prod.fst e5).symm
      subst ev
      exact x_han x xe hv
    · have e5 := ek2 (fun _ => (0, z))
      rw [if_neg c] at e5
      have ev : (0 : Int32) = v := congrArg Prod.fst e5
      rw [← ev] at hv
      exact absurd hv (by decide)
  have eqq : q = q' := by rw [nI_eq (by have := w.1; omega) (by have := w.1; omega)] at eq; exact eq
  subst eqq
  rw [t4, zxr_r, zb1_s]
  dsimp only
  rw [if_neg (by omega), if_neg (by omega)]
  exact hk p q hp hq rfl rfl k1 k2
theorem x_misread {X Y : Int32} (x : XR h y z) (w : pgWf z.pg) (wc : clWf z) (wb : byWf z) : zw (fX0_misread h 1 X Y) (xQ h (sp_misread z X Y)) := by
  have hb := x.re.1
  unfold fX0_misread sp_misread
  refine x_cl2 x w _ _ ?_
  rintro p q hp hq rfl rfl c1 c2
  rw [zw_ck]
  refine ⟨x_rw (o := 48) x.st (by omega), ?_⟩
  obtain ⟨b1, b2, b3⟩ := x_rbeg (h := h) (R := 49)
  have fb : fr (wxSc z.pg.1 y) h (zsI (zsI h 49 1 0) 49 2 0) := b3.mono fun a j hw => by left; unfold sSc; omega
  rw [show fX7_begin h (1 + 48) 1 0 = _ from b1, zb1_s]
  generalize zsI (zsI h 49 1 0) 49 2 0 = h2 at *
  have x2 : XR h2 y z := x.scr fb.fx
  obtain ⟨f0, hf0⟩ := nI_ex (zI h2 36 13)
  rw [zw_ck]
  refine ⟨x_rdCt x2.st, ?_⟩
  obtain ⟨rr, er, r1, -⟩ := x_readAll (rule := 3) x2 w wc wb hp c1 (by omega) (Or.inr (Or.inr (Or.inl rfl))) b2 hf0
  have r0 : (gRead (z.pg.2 p) 3 z.sg.1 true 0 4 z.by [] 0).1 = 0 := gRun_ok (by omega) _ _ _ _ _ _
  obtain ⟨h3, rfl, a1, a2, a3⟩ := r1 (by omega)
  rw [show fX0_run_3 h2 1 (1 + 35) (y.1 p) 3 (1 + 25) (zI h2 1 5) (1 + 48) = _ from er, zxv_n]
  have f3 : fr (wxSc z.pg.1 y) h h3 := fb.trans (a3.mono fun a j hw => wRd_xSc (f0 := 0) hb hp (Or.inr (Or.inr (Or.inl rfl))) hw)
  have x3 : XR h3 y z := x.scr f3.fx
  rw [zw_ck]
  refine ⟨x_rw (o := 50) x3.st (by omega), ?_⟩
  obtain ⟨d1, d2, d3⟩ := x_rbeg (h := h3) (R := 51)
  have fd : fr (wxSc z.pg.1 y) h3 (zsI (zsI h3 51 1 0) 51 2 0) := d3.mono fun a j hw => by left; unfold sSc; omega
  have K4 : Kr 49 (zsI (zsI h3 51 1 0) 51 2 0) (gOut z p 3) := (snk_row (R := 49) (by omega)).2.1 h3 _ _ _ d3 (fun c j hd hw => by omega) a1
  rw [show fX7_begin h3 (1 + 50) 1 0 = _ from d1, zb1_s]
  generalize zsI (zsI h3 51 1 0) 51 2 0 = h4 at *
  have f4 := f3.trans fd
  have x4 : XR h4 y z := x.scr f4.fx
  obtain ⟨f0', hf0'⟩ := nI_ex (zI h4 36 13)
  obtain ⟨rr, er, r1, -⟩ := x_readAll (rule := 3) x4 w wc wb hq c2 (by omega) (Or.inr (Or.inr (Or.inr rfl))) d2 hf0'
  have r0 : (gRead (z.pg.2 q) 3 z.sg.1 true 0 4 z.by [] 0).1 = 0 := gRun_ok (by omega) _ _ _ _ _ _
  obtain ⟨h5, rfl, g1, g2, g3⟩ := r1 (by omega)
  rw [show fX0_run_3 h4 1 (1 + 35) (y.1 q) 3 (1 + 25) (zI h4 1 5) (1 + 50) = _ from er, zxv_n]
  have f5 : fr (wxSc z.pg.1 y) h h5 := f4.trans (g3.mono fun a j hw => wRd_xSc (f0 := 0) hb hq (Or.inr (Or.inr (Or.inr rfl))) hw)
  have x5 : XR h5 y z := x.scr f5.fx
  have adq := (x.pg.2.2.2.2.2.2.1.1 q hq).1
  have K5 : Kr 49 h5 (gOut z p 3) := (snk_row (R := 49) (by omega)).2.1 h4 _ _ _ g3 (fun c j hd hw => by omega) K4
  have K6 : Kr 51 h5 (gOut z q 3) := g1
  have lt1 : ∀ u ∈ gOut z p 3, u < 65536 := gRun_lt (w.2 p hp) wb.2.2.1 _ _ _ _ _ _ wb.2.1 (fun u hu => by cases hu)
  have lt2 : ∀ u ∈ gOut z q 3, u < 65536 := gRun_lt (w.2 q hq) wb.2.2.1 _ _ _ _ _ _ wb.2.1 (fun u hu => by cases hu)
  have len : ∀ p, p < z.pg.1 → (gOut z p 3).length ≤ 2000 := fun p hp => by
    have hB := wb.2.1
    have := gRun_len (rule := 3) (sg := z.sg.1) (last := true) (w.2 p hp) z.by.length 0 4 z.by [] 0 hB (by omega) (by omega)
    have h1 : ([] : List Nat).length = 0 := rfl
    have h2 := wb.1
    unfold gOut gRead
    omega
  have l1 := len p hp
  have l2 := len q hq
  have fin : ∀ v : Int32, v = nI (gDf (gOut z p 3) (gOut z q 3)) → xQ h (nI (gDf (gOut z p 3) (gOut z q 3)), z) (v, h5) := fun v hv => ⟨hv, ⟨y, x5⟩, f5.fx.monoN fun a j ha hw => wSc_wX x hw ha, by show zc h5 ≤ _; rw [f5.1.2.1]; omega, by show zu h5 ≤ _; rw [f5.1.2.2]; omega⟩
  generalize gOut z p 3 = A at *
  generalize gOut z q 3 = B at *
  have mx : (if zI h5 (1 + 48) 1 < zI h5 (1 + 50) 1 then zI h5 (1 + 50) 1 else zI h5 (1 + 48) 1) = nI (max A.length B.length) := by
    rw [show zI h5 (1 + 48) 1 = nI A.length from K5.1, show zI h5 (1 + 50) 1 = nI B.length from K6.1]
    by_cases q : A.length < B.length
    · rw [if_pos (by rw [nI_ltI (by omega) (by omega)]; exact q), Nat.max_eq_right (by omega)]
    · rw [if_neg (by rw [nI_ltI (by omega) (by omega)]; exact q), Nat.max_eq_left (by omega)]
  rw [mx]
  refine zw_for (fun i s => s = (nI (cn (fun k => decide (A.length ≤ k) || decide (B.length ≤ k) || A.getD k 0 != B.getD k 0) i), nI i)) (max A.length B.length) ?_ rfl
  rintro i s hi rfl
  dsimp only
  unfold fX0_misread_L111
  by_cases e : i = max A.length B.length
  · rw [e, if_pos (Int32.le_refl _), zw_some]
    exact fin _ rfl
  have st : ∀ (b : Nat) (bb : Bool), (decide (A.length ≤ i) || decide (B.length ≤ i) || A.getD i 0 != B.getD i 0) = bb → b = (if bb then 1 else 0) → ((nI (cn (fun k => decide (A.length ≤ k) || decide (B.length ≤ k) || A.getD k 0 != B.getD k 0) i + b), nI (i + 1)) : Int32 × Int32) = (nI (cn (fun k => decide (A.length ≤ k) || decide (B.length ≤ k) || A.getD k 0 != B.getD k 0) (i + 1)), nI (i + 1)) := by
    intro b bb h1 h2
    show _ = (nI (cn _ i + if (decide (A.length ≤ i) || decide (B.length ≤ i) || A.getD i 0 != B.getD i 0) = true then 1 else 0), _)
    rw [h1, h2]
  rw [if_neg (by rw [nI_leI (by omega) (by omega)]; omega), show zI h5 (1 + 48) 1 = nI A.length from K5.1, show zI h5 (1 + 50) 1 = nI B.length from K6.1]
  by_cases hA : A.length ≤ i
  · rw [if_pos (by rw [nI_leI (by omega) (by omega)]; exact hA), zw_some, nI_1, nI_1]
    exact ⟨by omega, st 1 true (by simp only [hA, decide_true, Bool.true_or]) rfl⟩
  rw [if_neg (by rw [nI_leI (by omega) (by omega)]; exact hA)]
  by_cases hB : B.length ≤ i
  · rw [if_pos (by rw [nI_leI (by omega) (by omega)]; exact hB), zw_some, nI_1, nI_1]
    exact ⟨by omega, st 1 true (by simp only [hB, decide_true, Bool.or_true, Bool.true_or]) rfl⟩
  rw [if_neg (by rw [nI_leI (by omega) (by omega)]; exact hB), zw_ck, zw_ck, nI_clamp (by omega), show zI h5 (1 + 49) i = _ from K5.2.2 i (by omega), show zI h5 (1 + 51) i = _ from K6.2.2 i (by omega)]
  refine ⟨vin (by omega) (by omega), vin (by omega) (by omega), ?_⟩
  have u1 := lt1 _ (gD_mem (l := A) (k := i) (by omega))
  have u2 := lt2 _ (gD_mem (l := B) (k := i) (by omega))
  have n1 : decide (A.length ≤ i) = false := decide_eq_false hA
  have n2 : decide (B.length ≤ i) = false := decide_eq_false hB
  by_cases e : A.getD i 0 = B.getD i 0
  · rw [if_pos (by rw [e]), zw_some, nI_1, show (0 : Int32) = nI 0 from rfl, nI_add]
    exact ⟨by omega, st 0 false (by rw [n1, n2, e]; exact bne_self_eq_false _) rfl⟩
  · rw [if_neg (by rw [nI_eq (by omega) (by omega)]; exact e), zw_some, nI_1, nI_1]
    exact ⟨by omega, st 1 true (by rw [n1, n2]; exact (bne_iff_ne ..).mpr e) rfl⟩
theorem x_detect (x : XR h y z) (w : pgWf z.pg) (wc : clWf z) (wb : byWf z) : zw (fX0_detect h 1) (fun r => ∃ v h', r = (.inl (some (.int v)), h') ∧ xQ h (sp_detect z) (v, h')) := by
  have hn := w.1
  have hb : ∀ p f, p < z.pg.1 → gFl z p = some f → f ≤ 1000 := fun p f hp hf => by
    unfold gFl at hf
    split at hf
    · cases hf
    · cases hf
      have := gRun_f (rule := 2) (sg := z.sg.1) (last := true) (w.2 p hp) z.by.length 0 4 z.by [] 0 wb.2.1 (by omega) (by omega)
      have := wb.1
      unfold gRead
      omega
  unfold fX0_detect
  refine zw_for (fun i s => s.2.2.2 = nI i ∧ fr (wxSc z.pg.1 y) h s.1 ∧ ((gDet (gFl z) i = none ∧ s.2.1 = -1) ∨ ∃ b, gDet (gFl z) i = some b ∧ b.1 < i ∧ b.2 ≤ 1000 ∧ s.2.1 = nI b.1 ∧ s.2.2.1 = nI b.2)) z.pg.1 ?_ ⟨rfl, fr.refl _ _, Or.inl ⟨rfl, rfl⟩⟩
  rintro i ⟨h1, x1, x2, x3⟩ hi ⟨rfl, f1, hd⟩
  dsimp only at f1 hd ⊢
  have X1 : XR h1 y z := x.scr f1.fx
  have fw : fx wX h h1 := f1.fx.monoN fun a j ha hw => wSc_wX x hw ha
  have cz : zc h1 ≤ zc h + 100 := by rw [f1.1.2.1]; omega
  have cu : zu h1 ≤ zu h + 10000 := by rw [f1.1.2.2]; omega
  unfold fX0_detect_L6
  rw [X1.pg.2.1]
  by_cases hie : i = z.pg.1
  · subst hie
    rw [if_pos (Int32.le_refl _)]
    unfold sp_detect
    rcases hd with ⟨e, rfl⟩ | ⟨b, e, b1, b2, rfl, rfl⟩
    · rw [e, if_neg (by rw [neg_nn neg1]; exact id)]
      obtain ⟨r, er, hr⟩ := x_ans X1 fw cz cu neg2
      rw [zw_b2]
      have hr2 := (zw_b2 (x := fX0_answer h1 1 (-2)) (k := fun a b => some (a, b)) (Q := xQ h (qT z (-2)))).mp ⟨r, er, hr⟩
      exact hr2.mono fun y hy => by
        rw [zw_some] at hy ⊢
        exact ⟨y.1, y.2, rfl, hy⟩
    · rw [e, if_pos (nI_pos' (by omega)), zw_some]
      exact ⟨_, _, rfl, rfl, ⟨y, X1⟩, fw, cz, cu⟩
  have hi2 : i < z.pg.1 := by omega
  obtain ⟨s1, s2⟩ := x_slot X1.st (show i < 10 by omega)
  rw [if_neg (by rw [nI_leI (by omega) (by omega)]; omega), zw_ck, nI_clamp (by omega), show zP h1 (1 + 2) i = some (54 + i) from s1, zb1_s, zw_ck, zw_let, X1.pg.2.2.2.1 i (by omega), if_pos hi2]
  refine ⟨vin (by omega) (by omega), s2, ?_⟩
  show zw (zck (zPg h1 (y.1 i)) _) _
  rw [zw_ck, x_isClosed X1 w hi2, zb1_s]
  refine ⟨xPg_pg (X1.pg.2.2.2.2.2.2.2 i hi2) (w.2 i hi2), ?_⟩
  have c1 := (w.2 i hi2).2.1
  by_cases hc : z.pg.2 i 1 0 = 0
  · have e0 : gFl z i = none := by unfold gFl; rw [if_pos hc]
    have e1 : gDet (gFl z) (i + 1) = gDet (gFl z) i := by
      show (match gFl z i with | none => gDet (gFl z) i | some f => _) = _
      rw [e0]
    rw [if_pos (by rw [hc]; rfl), zw_some, nI_1]
    refine ⟨hi2, rfl, f1, ?_⟩
    rw [e1]
    rcases hd with hd | ⟨b, e, b1, b2, b3, b4⟩
    · exact Or.inl hd
    · exact Or.inr ⟨b, e, by omega, b2, b3, b4⟩
  obtain ⟨h2, ef, f2⟩ := x_faultsOf X1 w wc wb hi2 (by omega)
  rw [if_neg (by rw [n_0 (by omega)]; exact hc), ef, zxi_i]
  have fs := f1.trans f2
  have e0 : gFl z i = some (gRead (z.pg.2 i) 2 z.sg.1 true 0 4 z.by [] 0).2.2.2.2.2 := by unfold gFl; rw [if_neg hc]
  have hf1 := hb i _ hi2 e0
  generalize (gRead (z.pg.2 i) 2 z.sg.1 true 0 4 z.by [] 0).2.2.2.2.2 = F at *
  rcases hd with ⟨e, rfl⟩ | ⟨b, e, b1, b2, rfl, rfl⟩
  · have e1 : gDet (gFl z) (i + 1) = some (i, F) := by
      show (match gFl z i with | none => gDet (gFl z) i | some f => match gDet (gFl z) i with | none => some (i, f) | some b => if f < b.2 then some (i, f) else some b) = _
      rw [e0, e]
    rw [if_pos neg1, zw_some, nI_1]
    exact ⟨hi2, rfl, fs, Or.inr ⟨_, e1, by show i < i + 1; omega, hf1, rfl, rfl⟩⟩
  · have e1 : gDet (gFl z) (i + 1) = if F < b.2 then some (i, F) else some b := by
      show (match gFl z i with | none => gDet (gFl z) i | some f => match gDet (gFl z) i with | none => some (i, f) | some b => if f < b.2 then some (i, f) else some b) = _
      rw [e0, e]
    rw [if_neg (nI_pos (by omega))]
    by_cases hlt : F < b.2
    · rw [if_pos hlt] at e1
      rw [if_neg (by rw [nI_leI (by omega) (by omega)]; omega), zw_some, nI_1]
      exact ⟨hi2, rfl, fs, Or.inr ⟨_, e1, by show i < i + 1; omega, hf1, rfl, rfl⟩⟩
    · rw [if_neg hlt] at e1
      rw [if_pos (by rw [nI_leI (by omega) (by omega)]; omega), zw_some, nI_1]
      exact ⟨hi2, rfl, fs, Or.inr ⟨_, e1, by omega, b2, rfl, rfl⟩⟩
end XMI
