/-! the exchange: decode, faults, misread, detect -/
set_option maxRecDepth 100000
/-- closed pages may be read -/
def clWf (z : gZ) : Prop := ∀ p, p < z.pg.1 → z.pg.2 p 1 0 = 1 → z.pg.2 p 0 0 = 0 → gPf (z.pg.2 p)
theorem pgR_of {z : gZ} {p : Nat} (w : pgWf z.pg) (wc : clWf z) (hp : p < z.pg.1) (h1 : z.pg.2 p 1 0 = 1) : pgR (z.pg.2 p) := ⟨w.2 p hp, h1, wc p hp h1⟩
section XDE
variable {h h1 : zH} {y : gY} {z : gZ}
theorem x_han2 {v : Int32} (x : XR h1 y z) (f : fx wX h h1) (hc : zc h1 ≤ zc h + 100) (hu : zu h1 ≤ zu h + 10000) (e : zI h1 2 6 = v) (hv : v < 0) : zw (zck (zT h1 2 = (2, 0)) (zck (zOb 1 h1 2) (zb2 (fX0_answer h1 1 (zI h1 2 6)) (fun a b => some (a, b))))) (xQ h (qT z v)) := by
  rw [zw_ck, zw_ck, e]
  exact ⟨x_T x.st 1 rfl, x_ob x.st 1 1 rfl, x_ans x f hc hu hv⟩
theorem x_rdCt (st : zXx h 1) : zCt [(xB, xP, 1), (dB, dP, 1 + 35)] [(1 + 35, 11, 1), (1 + 35, 14, 1)] h := (x_rd (o := 35) st (Or.inl rfl)).sub [1, 0] [0, 1] rfl rfl
theorem x_wrCt (st : zXx h 1) : zCt [(xB, xP, 1), (wB, wP, 1 + 38)] [(1 + 38, 11, 1), (1 + 38, 15, 1)] h := (x_wr (o := 38) st (Or.inl rfl)).sub [1, 0] [0, 1] rfl rfl
/-- a row begins -/
theorem x_rbeg {R : Nat} : fX7_begin h R 1 0 = some (zsI (zsI h R 1 0) R 2 0) ∧ Kr R (zsI (zsI h R 1 0) R 2 0) [] ∧ fr (fun a j => a = R ∧ (j = 1 ∨ j = 2)) h (zsI (zsI h R 1 0) R 2 0) := by
  refine ⟨?_, ⟨?_, ?_, fun k hk => absurd hk (Nat.not_lt_zero _)⟩, ((fr.refl _ h).sI (by omega) _).sI (by omega) _⟩
  · unfold fX7_begin
    show zck (zB 0) (some _) = _
    rw [zck_pos (show zB 0 from Or.inl rfl)]
  · rw [eI, if_neg (by omega), eIs]; rfl
  · rw [eIs]
theorem x_becomes {l : List Nat} {kind : Nat} (x : XR h1 y z) (f : fx wX h h1) (hc : zc h1 ≤ zc h + 100) (hu : zu h1 ≤ zu h + 10000) (hK : Kr (44 - 2 * y.2.2) h1 l) (hk : kind = 1 ∨ kind = 2) : zw (fX0_becomes h1 1 (nI kind)) (xQ h (nI l.length, qR z (kind, l))) := by
  obtain ⟨m1, m2, m3, m4, m5, m6⟩ := x.re
  obtain ⟨p1, p2, p3, p4⟩ := x_res x
  have t1 : zT h1 1 = (1, 0) := x_T x.st 0 rfl
  obtain ⟨k1, k2, k3⟩ := hK
  unfold fX0_becomes
  rw [p1, zb1_s, p3, zb1_s, zw_let, zw_let, zw_let]
  have f2 : fr (fun a j => a = 1 ∧ (j = 24 ∨ j = 25 ∨ j = 27)) h1 (zsI (zsP (zsP h1 1 24 (some (44 - 2 * y.2.2))) 1 25 (some (42 + 2 * y.2.2))) 1 27 (nI kind)) := (((fr.refl _ h1).sP (by omega) (by rw [t1]; rfl) _).sP (by omega) (by rw [t1]; rfl) _).sI (by omega) _
  have e24 : zP (zsI (zsP (zsP h1 1 24 (some (44 - 2 * y.2.2))) 1 25 (some (42 + 2 * y.2.2))) 1 27 (nI kind)) 1 24 = some (44 - 2 * y.2.2) := by
    rw [eIP, ePP, if_neg (by omega), ePP, if_pos ⟨rfl, rfl⟩]
  have e25 : zP (zsI (zsP (zsP h1 1 24 (some (44 - 2 * y.2.2))) 1 25 (some (42 + 2 * y.2.2))) 1 27 (nI kind)) 1 25 = some (42 + 2 * y.2.2) := by
    rw [eIP, ePP, if_pos ⟨rfl, rfl⟩]
  rw [e24, zb1_s, zw_ck, zw_some]
  have e27 : zI (zsI (zsP (zsP h1 1 24 (some (44 - 2 * y.2.2))) 1 25 (some (42 + 2 * y.2.2))) 1 27 (nI kind)) 1 27 = nI kind := eIs _ _ _ _
  generalize hh : zsI (zsP (zsP h1 1 24 (some (44 - 2 * y.2.2))) 1 25 (some (42 + 2 * y.2.2))) 1 27 (nI kind) = h2 at *
  refine ⟨zCt.ext (zRw.T p4).2.2.2.2.2 f2.lx, ?_⟩
  rw [f2.I (by omega), k1]
  obtain ⟨xt, x1, x2, x3, x4, x5, x6, x7, x8, x9, x0⟩ := x
  have hn : 139 ≤ zn h1 := x1.1
  refine ⟨rfl, ⟨(y.1, y.2.1, 1 - y.2.2), zCt.ext xt f2.lx, ?_, xC2_fx f2.fx hn (fun a j hr w => by omega) x2, xC3_fx f2.fx hn (fun a j hr w => by omega) x3, ⟨?_, ?_, ?_, e27, fun q => absurd q (by show ¬ kind = 0; omega), fun _ => ⟨?_, fun j hj => ?_⟩⟩, xC5_fx f2.fx hn (fun a j hr w => by omega) x5, xC6_fx f2.fx hn (fun a j hr w => by omega) x6, xC7_fx f2.fx hn (fun a j hr w => by omega) x7, xC8_fx f2.fx hn (fun a j hr w => by omega) x8, xC9_fx f2.fx hn (fun a j hr w => by omega) x9, xC0_fx f2.fx hn (fun a j hr w => by omega) x0⟩, f.trans (f2.fx.mono fun a j hw => by unfold wX; omega), ?_, ?_⟩
  · have := xC1_fx (y := y) f2.fx (fun a j hr w => by omega) (fun a j hr w => absurd w (by omega)) x1
    exact this
  · show 1 - y.2.2 ≤ 1; omega
  · show zP h2 1 24 = some (42 + 2 * (1 - y.2.2))
    rw [e24]; exact congrArg some (by omega)
  · show zP h2 1 25 = some (44 - 2 * (1 - y.2.2))
    rw [e25]; exact congrArg some (by omega)
  · show zI h2 (42 + 2 * (1 - y.2.2)) 1 = nI l.length
    rw [f2.I (by omega), show 42 + 2 * (1 - y.2.2) = 44 - 2 * y.2.2 by omega]; exact k1
  · show zI h2 (43 + 2 * (1 - y.2.2)) j = nI (l.getD j 0)
    rw [f2.I (by omega), show 43 + 2 * (1 - y.2.2) = 44 - 2 * y.2.2 + 1 by omega]; exact k3 j hj
  · show zc h2 ≤ _; rw [f2.1.2.1]; exact hc
  · show zu h2 ≤ _; rw [f2.1.2.2]; exact hu
/-- reading all bytes of the exchange into a row that was begun -/
theorem x_readAll {p rule R f0 : Nat} (x : XR h y z) (w : pgWf z.pg) (wc : clWf z) (wb : byWf z) (hp : p < z.pg.1) (h1 : z.pg.2 p 1 0 = 1) (hr : rule ≤ 3) (hR : R = 44 - 2 * y.2.2 ∨ R = 46 ∨ R = 49 ∨ R = 51) (hK : Kr R h []) (hf0 : zI h 36 13 = nI f0) : zw (fX0_run_3 h 1 (1 + 35) (y.1 p) (nI rule) (1 + 25) (zI h 1 5) R) (fun r => ((gRead (z.pg.2 p) rule z.sg.1 true 0 4 z.by [] 0).1 ≠ 1 → ∃ h', r = (.inl none, h') ∧ Kr R h' (gRead (z.pg.2 p) rule z.sg.1 true 0 4 z.by [] 0).2.2.2.2.1 ∧ zI h' 36 13 = nI (f0 + (gRead (z.pg.2 p) rule z.sg.1 true 0 4 z.by [] 0).2.2.2.2.2) ∧ fr (fun a j => a = R ∨ a = R + 1 ∨ a = 36 ∨ a = 38 ∨ a = y.1 p ∧ j ≤ 2) h h') ∧ ((gRead (z.pg.2 p) rule z.sg.1 true 0 4 z.by [] 0).1 = 1 → ∃ h', r = (.inr 2, h') ∧ zI h' 1 19 = nI (z.by.length - (gRead (z.pg.2 p) rule z.sg.1 true 0 4 z.by [] 0).2.2.2.1.length) ∧ zI h' 2 6 = -9 ∧ fr (fun a j => (a = R ∨ a = R + 1 ∨ a = 36 ∨ a = 38 ∨ a = y.1 p ∧ j ≤ 2) ∨ a = 1 ∧ j = 19 ∨ a = 2) h h')) := by
  have hb := x.re.1
  have pl := x.pg.2.2.2.2.2.2.1.1 p hp
  have C : rdC R 6000 36 (y.1 p) (fun c j => c = R ∧ j = 1 ∨ c = R + 1) (fun c j => c = R ∧ (j = 1 ∨ j = 2) ∨ c = R + 1) (Kr R) (z.pg.2 p) := ⟨snk_row (by omega), by omega, by have := pl.1; omega, fun c j hd => by omega, fun h st => x_rd (o := 35) st (Or.inl rfl), pgR_of w wc hp h1⟩
  rw [x.by.1]
  refine (x_run3 (B := z.by) (rule := rule) (sg := z.sg.1) (f0 := f0) C x.st (x.pg.2.2.2.2.2.2.2 p hp) pl.2 x.sg.1 wb.2.2.1 hK (fun c j hd => by omega) hf0 hr wb.2.1 wb.1 x.by.2 (by omega)).mono ?_
  rw [gRead_sh (z.pg.2 p) rule z.sg.1 true 0 4 z.by [] f0]
  rintro r ⟨k1, k2⟩
  refine ⟨fun q => ?_, fun q => ?_⟩
  · obtain ⟨h', e, a1, a2, a3⟩ := k1 q
    exact ⟨h', e, a1, a2, a3.mono fun c j hw => by unfold wRun at hw; omega⟩
  · obtain ⟨h', e, a1, a2, a3⟩ := k2 q
    exact ⟨h', e, a1, a2, a3.mono fun c j hw => by unfold wRuX wRun at hw; omega⟩
theorem wRd_xSc {p R a j : Nat} {f0 : Nat} (hb : y.2.2 ≤ 1) (hp : p < z.pg.1) (hR : R = 44 - 2 * y.2.2 ∨ R = 46 ∨ R = 49 ∨ R = 51) (hw : a = R ∨ a = R + 1 ∨ a = 36 ∨ a = 38 ∨ a = y.1 p ∧ j ≤ 2) : wxSc z.pg.1 y a j := by
  have d : a = y.1 p ∧ j ≤ 2 → dSc y.1 z.pg.1 y.2.1 a j := fun q => Or.inl ⟨q.2, p, hp, q.1⟩
  rcases hw with hw | hw | hw | hw | hw
  · left; unfold sSc; omega
  · left; unfold sSc; omega
  · left; unfold sSc; omega
  · left; unfold sSc; omega
  · exact Or.inr (d hw)
theorem wSc_wX (x : XR h y z) {a j : Nat} (hw : wxSc z.pg.1 y a j) (ha : a < zn h) : wX a j := by
  have hb := x.re.1
  have m6 := x.pg.2.2.2.2.2.2.1
  rcases hw with hw | hw
  · unfold sSc at hw; unfold wX; omega
  · rcases hw with ⟨_, p, hp, rfl⟩ | hw
    · have := (m6.1 p hp).1; unfold wX; omega
    · have := m6.2.2.1; unfold wX; omega
theorem x_decode {X Y : Int32} (x : XR h y z) (w : pgWf z.pg) (wc : clWf z) (wb : byWf z) : zw (fX0_decode h 1 X Y) (xQ h (sp_decode z X Y)) := by
  have hb := x.re.1
  unfold fX0_decode sp_decode
  rcases x_closed x w X with ⟨v, h1, hv, t, xe, ek⟩ | ⟨p, hp, rfl, k1, t, ek⟩
  · rw [t, ek, zxr_e]
    exact x_han x xe hv
  rw [t, ek, zxr_r, zb1_s]
  rcases vR_cases Y 0 3 (by omega) (by omega) with ⟨t1, -, t9⟩ | ⟨r, -, hr, rfl, t1, -, t9⟩
  · rw [t1, show fX0_in Y 0 3 = some 0 from t9, zb1_s]
    exact x_need x neg1 _
  obtain ⟨p1, p2, p3, p4⟩ := x_res x
  rw [t1, show fX0_in (nI r) 0 3 = some 1 from t9, zb1_s, x_need1, zxv_n, p3, zb1_s, zw_ck]
  refine ⟨p4, ?_⟩
  obtain ⟨b1, b2, b3⟩ := x_rbeg (h := h) (R := 44 - 2 * y.2.2)
  have fb : fr (wxSc z.pg.1 y) h (zsI (zsI h (44 - 2 * y.2.2) 1 0) (44 - 2 * y.2.2) 2 0) := b3.mono fun a j hw => by left; unfold sSc; omega
  rw [b1, zb1_s]
  generalize zsI (zsI h (44 - 2 * y.2.2) 1 0) (44 - 2 * y.2.2) 2 0 = h2 at *
  have x2 : XR h2 y z := x.scr fb.fx
  obtain ⟨f0, hf0⟩ := nI_ex (zI h2 36 13)
  rw [(x_res x2).2.2.1, zb1_s, zw_ck]
  refine ⟨x_rdCt x2.st, ?_⟩
  obtain ⟨rr, er, r1, r2⟩ := x_readAll (rule := r) x2 w wc wb hp k1 hr (Or.inl rfl) b2 hf0
  rw [er]
  dsimp only
  by_cases q : (gRead (z.pg.2 p) r z.sg.1 true 0 4 z.by [] 0).1 = 1
  · obtain ⟨h3, rfl, a1, a2, a3⟩ := r2 q
    rw [zxv_e, if_pos q]
    have x3 : XR h3 y (qA z (z.by.length - (gRead (z.pg.2 p) r z.sg.1 true 0 4 z.by [] 0).2.2.2.1.length)) := x2.upA (a3.fx.mono fun a j hw => by
      rcases hw with hw | hw | hw
      · exact Or.inl (wRd_xSc (f0 := 0) hb hp (Or.inl rfl) hw)
      · exact Or.inr hw
      · left; left; unfold sSc; omega) a1
    refine x_han2 x3 ?_ ?_ ?_ a2 neg9
    · refine (fb.fx.monoN fun a j ha hw => wSc_wX x hw ha).trans (a3.fx.monoN fun a j ha hw => ?_)
      rcases hw with hw | hw | hw
      · exact wSc_wX x2 (wRd_xSc (f0 := 0) hb hp (Or.inl rfl) hw) ha
      · unfold wX; omega
      · unfold wX; omega
    · rw [a3.1.2.1, fb.1.2.1]; omega
    · rw [a3.1.2.2, fb.1.2.2]; omega
  · obtain ⟨h3, rfl, a1, a2, a3⟩ := r1 q
    rw [zxv_n, if_neg q, zw_b2]
    have x3 : XR h3 y z := x2.scr (a3.fx.mono fun a j hw => wRd_xSc (f0 := 0) hb hp (Or.inl rfl) hw)
    refine (x_becomes (h := h) (kind := 1) x3 ?_ ?_ ?_ a1 (Or.inl rfl)).mono fun y hy => ⟨_, rfl, hy⟩
    · exact (fb.fx.monoN fun a j ha hw => wSc_wX x hw ha).trans (a3.fx.monoN fun a j ha hw => wSc_wX x2 (wRd_xSc (f0 := 0) hb hp (Or.inl rfl) hw) ha)
    · rw [a3.1.2.1, fb.1.2.1]; omega
    · rw [a3.1.2.2, fb.1.2.2]; omega
/-- the faults of a page -/
theorem x_faultsOf {p : Nat} (x : XR h y z) (w : pgWf z.pg) (wc : clWf z) (wb : byWf z) (hp : p < z.pg.1) (h1 : z.pg.2 p 1 0 = 1) : ∃ h', fX0_faultsOf h 1 (y.1 p) = some (.inl (some (.int (nI (gRead (z.pg.2 p) 2 z.sg.1 true 0 4 z.by [] 0).2.2.2.2.2))), h') ∧ fr (wxSc z.pg.1 y) h h' := by
  have hb := x.re.1
  obtain ⟨b1, b2, b3⟩ := x_rbeg (h := h) (R := 46)
  have fb : fr (wxSc z.pg.1 y) h (zsI (zsI h 46 1 0) 46 2 0) := b3.mono fun a j hw => by left; unfold sSc; omega
  unfold fX0_faultsOf
  rw [zck_pos (show zRw h (1 + 45) 1 from x_rw (o := 45) x.st (by omega)), show fX7_begin h (1 + 45) 1 0 = _ from b1, zb1_s]
  generalize zsI (zsI h 46 1 0) 46 2 0 = h2 at *
  have fc : fr (wxSc z.pg.1 y) h (zsI h2 36 13 0) := fb.sI (by left; unfold sSc; omega) _
  have K3 : Kr 46 (zsI h2 36 13 0) [] := (snk_row (R := 46) (by omega)).2.1 h2 _ [] (fun a j => a = 36) (fr.sI (W := fun a _ => a = 36) (fr.refl _ h2) rfl _) (fun c j hd hw => by omega) b2
  have e13 : zI (zsI h2 36 13 0) 36 13 = nI 0 := by rw [eIs]; rfl
  show ∃ h', zck _ (zxv (fX0_run_3 (zsI h2 36 13 0) 1 (1 + 35) (y.1 p) 2 (1 + 25) (zI (zsI h2 36 13 0) 1 5) (1 + 45)) _ _) = _ ∧ _
  generalize zsI h2 36 13 0 = h3 at *
  have x3 : XR h3 y z := x.scr fc.fx
  rw [zck_pos (x_rdCt x3.st)]
  obtain ⟨rr, er, r1, -⟩ := x_readAll (rule := 2) x3 w wc wb hp h1 (by omega) (Or.inr (Or.inl rfl)) K3 e13
  have r0 : (gRead (z.pg.2 p) 2 z.sg.1 true 0 4 z.by [] 0).1 = 0 := gRun_ok (by omega) _ _ _ _ _ _
  obtain ⟨h4, rfl, a1, a2, a3⟩ := r1 (by omega)
  rw [show fX0_run_3 h3 1 (1 + 35) (y.1 p) 2 (1 + 25) (zI h3 1 5) (1 + 45) = _ from er, zxv_n, show zI h4 (1 + 35) 13 = _ from a2, Nat.zero_add]
  exact ⟨h4, rfl, fc.trans (a3.mono fun a j hw => wRd_xSc (f0 := 0) hb hp (Or.inr (Or.inl rfl)) hw)⟩
theorem x_faults {X : Int32} (x : XR h y z) (w : pgWf z.pg) (wc : clWf z) (wb : byWf z) : zw (fX0_faults h 1 X) (xQ h (sp_faults z X)) := by
  unfold fX0_faults sp_faults
  rcases x_closed x w X with ⟨v, h1, hv, t, xe, ek⟩ | ⟨p, hp, rfl, k1, t, ek⟩
  · rw [t, ek, zxr_e]
    exact x_han x xe hv
  rw [t, ek, zxr_r, zb1_s]
  obtain ⟨h', e, f⟩ := x_faultsOf x w wc wb hp k1
  rw [e, zxi_i, zw_some]
  exact ⟨rfl, ⟨y, x.scr f.fx⟩, f.fx.monoN fun a j ha hw => wSc_wX x hw ha, by show zc h' ≤ _; rw [f.1.2.1]; omega, by show zu h' ≤ _; rw [f.1.2.2]; omega⟩
end XDE
