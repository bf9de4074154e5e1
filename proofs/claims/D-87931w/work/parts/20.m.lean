/-! the model: each method as a function over the heap (written by genM.py) -/
set_option maxRecDepth 100000
def mB : List (Nat × Nat) := [(8, 0), (100, 11), (101, 11), (100, 11), (100, 11), (100, 1100), (100, 1100), (100, 1100), (100, 1100), (101, 1100), (100, 110), (100, 110), (100, 110), (101, 110), (100, 1000), (100, 1000), (100, 6000), (100, 2), (100, 3), (100, 40), (100, 40), (100, 160), (101, 4), (100, 3), (100, 4), (100, 4000), (100, 4000), (100, 6400), (100, 8), (100, 1000), (100, 40), (100, 40), (101, 4), (100, 4), (101, 4), (100, 4), (100, 4), (100, 4), (100, 4), (100, 32), (100, 4), (100, 4), (100, 4), (100, 4800), (100, 8), (100, 1200), (100, 64)]
def mP : List (Nat × Nat × Nat) := [(0, 1, 1), (0, 2, 2), (0, 3, 3), (0, 4, 4), (0, 5, 5), (0, 6, 6), (0, 7, 7), (0, 8, 8), (0, 9, 9), (0, 10, 10), (0, 11, 11), (0, 12, 12), (0, 13, 13), (0, 15, 14), (0, 17, 15), (0, 20, 16), (0, 21, 17), (0, 23, 18), (0, 26, 19), (0, 27, 20), (0, 28, 21), (0, 29, 22), (0, 30, 23), (0, 33, 24), (0, 43, 25), (0, 44, 26), (0, 45, 27), (0, 46, 28), (0, 49, 29), (0, 50, 30), (0, 51, 31), (0, 52, 32), (0, 53, 33), (0, 54, 34), (0, 55, 35), (0, 56, 36), (0, 57, 37), (0, 58, 38), (0, 59, 39), (0, 60, 40), (0, 61, 41), (0, 62, 42), (0, 63, 43), (0, 64, 44), (0, 65, 45), (0, 66, 46)]
theorem mOk : zBok mB mP = true := by decide +kernel
noncomputable def fX9_in (x0 : Int32) (x1 : Int32) (x2 : Int32) : Option (Int32) := if x0 < x1 then (some 0) else (if x2 < x0 then (some 0) else (some 1))
theorem zX9_in {F : zF} {h : zH} {x0 : Int32} {x1 : Int32} {x2 : Int32} {y : Int32} (hD : 1 ≤ F.2.1) (hf : fX9_in x0 x1 x2 = some y) (hM : ((.inl (some (.int y)), h) : zX) = zEnd F) : Z F 3 cX9_in RX9 "in" (some .boolean) [] h 0 [(0, .int x0), (1, .int x1), (2, .int x2)] [] := by
  unfold fX9_in at hf
  refine z_iload_n 0 dX9_in_0 rfl rfl ?_
  refine z_iload_n 1 dX9_in_1 rfl rfl ?_
  refine z_icmp_lt 14 dX9_in_2 rfl hf (fun _ hf => ?_) (fun _ hf => ?_)
  · refine z_iconst 0 dX9_in_14 rfl ?_
    cases hf
    exact z_zret dX9_in_15 rfl (Or.inl rfl) hM
  · refine z_iload_n 0 dX9_in_5 rfl rfl ?_
    refine z_iload_n 2 dX9_in_6 rfl rfl ?_
    refine z_icmp_gt 14 dX9_in_7 rfl hf (fun _ hf => ?_) (fun _ hf => ?_)
    · refine z_iconst 0 dX9_in_14 rfl ?_
      cases hf
      exact z_zret dX9_in_15 rfl (Or.inl rfl) hM
    · refine z_iconst 1 dX9_in_10 rfl ?_
      refine z_goto 15 dX9_in_11 rfl ?_
      cases hf
      exact z_zret dX9_in_15 rfl (Or.inr rfl) hM
theorem ctX9_in {l : Launch} {h : zH} {x0 : Int32} {x1 : Int32} {x2 : Int32} {v : Int32} (hf : fX9_in x0 x1 x2 = some v) : zC l yX9_in (ws_ yX9_in cX9_in 3 (some .boolean)) 1 [.int x0, .int x1, .int x2] h (.inl (some (.int v)), h) :=
  z_start (by decide) (Nat.le_of_ble_eq_true rfl) (zX9_in (F := (l, 1, h, (.inl (some (.int v)), h))) (Nat.le_refl _) hf rfl)
theorem fdX9_150_7 : zFd RX9 150 7 24 .int false := ⟨_, _, _, rfl, rfl, by decide, rfl, rfl, Or.inl q1416, Or.inl rfl⟩
noncomputable def fX9_tell (h : zH) (a : Nat) (x1 : Int32) : Option (Int32 × zH) := if 0 ≤ x1 then (some ((x1, h))) else (zlet (zsI h a 24 ((zI h a 24) + 1)) (fun h_1 => some ((x1, h_1))))
theorem zX9_tell {F : zF} {h : zH} {a : Nat} {x1 : Int32} {y : Int32 × zH} (hD : 1 ≤ F.2.1) (hL : zBlk mB mP h a) (hf : fX9_tell h a x1 = some y) (hM : ((.inl (some (.int y.1)), y.2) : zX) = zEnd F) : Z F 2 cX9_tell RX9 "tell" (some .int) [] h 0 [(0, .ref a), (1, .int x1)] [] := by
  unfold fX9_tell at hf
  refine z_iload_n 1 dX9_tell_0 rfl rfl ?_
  refine z_if_ge 14 dX9_tell_1 rfl hf (fun _ hf => ?_) (fun _ hf => ?_)
  · refine z_iload_n 1 dX9_tell_14 rfl rfl ?_
    cases hf
    exact z_iret dX9_tell_15 rfl hM
  · refine z_aload_n 0 dX9_tell_4 rfl rfl ?_
    refine z_dup dX9_tell_5 rfl ?_
    refine z_geti fdX9_150_7 (hL.t 0 rfl) dX9_tell_6 ?_
    refine z_iconst 1 dX9_tell_9 rfl ?_
    refine z_iadd dX9_tell_10 ?_
    obtain ⟨h_1, he, hf⟩ := zlet_some hf
    refine z_puti fdX9_150_7 (hL.t 0 rfl) (hL.nz 0) he dX9_tell_11 ?_
    have hL := hL.I he
    refine z_iload_n 1 dX9_tell_14 rfl rfl ?_
    cases hf
    exact z_iret dX9_tell_15 rfl hM
theorem ctX9_tell {l : Launch} {h : zH} {a : Nat} {x1 : Int32} {v : Int32} {h' : zH} (hL : zBlk mB mP h a) (hf : fX9_tell h a x1 = some (v, h')) : zC l yX9_tell (ws_ yX9_tell cX9_tell 2 (some .int)) 1 [.ref a, .int x1] h (.inl (some (.int v)), h') :=
  z_start (by decide) (Nat.le_of_ble_eq_true rfl) (zX9_tell (F := (l, 1, h, (.inl (some (.int v)), h'))) (Nat.le_refl _) hL hf rfl)
theorem ssX9_156 : zIs RX9 156 yX9_in (ws_ yX9_in cX9_in 3 (some .boolean)) 3 3 := ⟨zGood_c q1606 q109, Or.inl q1604, q1605, ⟨by decide, by decide⟩, by decide +kernel⟩
theorem fdX9_163_7 : zFd RX9 163 7 0 .int false := ⟨_, _, _, rfl, rfl, by decide, rfl, rfl, Or.inl q1392, Or.inl rfl⟩
theorem fdX9_9_7 : zFd RX9 9 7 1 (.array .int) true := ⟨_, _, _, rfl, rfl, by decide, rfl, rfl, Or.inl q1393, Or.inl rfl⟩
theorem fdX9_13_7 : zFd RX9 13 7 2 (.array .boolean) true := ⟨_, _, _, rfl, rfl, by decide, rfl, rfl, Or.inl q1394, Or.inl rfl⟩
theorem fdX9_17_7 : zFd RX9 17 7 3 (.array .int) true := ⟨_, _, _, rfl, rfl, by decide, rfl, rfl, Or.inl q1395, Or.inl rfl⟩
theorem fdX9_20_7 : zFd RX9 20 7 4 (.array .int) true := ⟨_, _, _, rfl, rfl, by decide, rfl, rfl, Or.inl q1396, Or.inl rfl⟩
noncomputable def fX9_page_J58 (h : zH) (a : Nat) (k0 : Int32) (k1 : Int32) : Option (Int32 × zH) := zck (vp_in k1 11) (zck (zB k0) (zlet (zsI h (a + 2) k1.toNatClampNeg k0) (fun h_6 => zck (vp_in (zI h_6 a 0) 11) (zlet (zsI h_6 (a + 3) (zI h_6 a 0).toNatClampNeg 0) (fun h_9 => zck (vp_in (zI h_9 a 0) 11) (zlet (zsI h_9 (a + 4) (zI h_9 a 0).toNatClampNeg 0) (fun h_11 => zlet (zsI h_11 a 0 ((zI h_11 a 0) + 1)) (fun h_12 => some (((zI h_12 a 0) - 1, h_12))))))))))
theorem zX9_page_J58 {F : zF} {h : zH} {a : Nat} {k0 : Int32} {k1 : Int32} {y : Int32 × zH} (hD : 2 ≤ F.2.1) (hL : zBlk mB mP h a) (hf : fX9_page_J58 h a k0 k1 = some y) (hM : ((.inl (some (.int y.1)), y.2) : zX) = zEnd F) : Z F 2 cX9_page RX9 "page" (some .int) [] h 58 [(0, .ref a)] [.int k0, .int k1, .ref (a + 2)] := by
  unfold fX9_page_J58 at hf
  obtain ⟨hi_5, hf⟩ := zck_some hf
  obtain ⟨hz_7, hf⟩ := zck_some hf
  obtain ⟨h_6, he, hf⟩ := zlet_some hf
  refine z_zast hz_7 (hL.t 2 rfl) (hL.nz 2) hi_5 he dX9_page_58 ?_
  have hL := hL.I he
  refine z_aload_n 0 dX9_page_59 rfl rfl ?_
  refine z_getr fdX9_17_7 (Or.inr ⟨_, rfl⟩) (hL.t 0 rfl) (hL.p 2 rfl) dX9_page_60 ?_
  refine z_aload_n 0 dX9_page_63 rfl rfl ?_
  refine z_geti fdX9_163_7 (hL.t 0 rfl) dX9_page_64 ?_
  refine z_iconst 0 dX9_page_67 rfl ?_
  obtain ⟨hi_8, hf⟩ := zck_some hf
  obtain ⟨h_9, he, hf⟩ := zlet_some hf
  refine z_iast (hL.t 3 rfl) (hL.nz 3) hi_8 he dX9_page_68 ?_
  have hL := hL.I he
  refine z_aload_n 0 dX9_page_69 rfl rfl ?_
  refine z_getr fdX9_20_7 (Or.inr ⟨_, rfl⟩) (hL.t 0 rfl) (hL.p 3 rfl) dX9_page_70 ?_
  refine z_aload_n 0 dX9_page_73 rfl rfl ?_
  refine z_geti fdX9_163_7 (hL.t 0 rfl) dX9_page_74 ?_
  refine z_iconst 0 dX9_page_77 rfl ?_
  obtain ⟨hi_10, hf⟩ := zck_some hf
  obtain ⟨h_11, he, hf⟩ := zlet_some hf
  refine z_iast (hL.t 4 rfl) (hL.nz 4) hi_10 he dX9_page_78 ?_
  have hL := hL.I he
  refine z_aload_n 0 dX9_page_79 rfl rfl ?_
  refine z_dup dX9_page_80 rfl ?_
  refine z_geti fdX9_163_7 (hL.t 0 rfl) dX9_page_81 ?_
  refine z_iconst 1 dX9_page_84 rfl ?_
  refine z_iadd dX9_page_85 ?_
  obtain ⟨h_12, he, hf⟩ := zlet_some hf
  refine z_puti fdX9_163_7 (hL.t 0 rfl) (hL.nz 0) he dX9_page_86 ?_
  have hL := hL.I he
  refine z_aload_n 0 dX9_page_89 rfl rfl ?_
  refine z_geti fdX9_163_7 (hL.t 0 rfl) dX9_page_90 ?_
  refine z_iconst 1 dX9_page_93 rfl ?_
  refine z_isub dX9_page_94 ?_
  cases hf
  exact z_iret dX9_page_95 rfl hM
theorem svX9_166_7 : zIv RX9 166 yX9_tell (ws_ yX9_tell cX9_tell 2 (some .int)) 2 7 1 := ⟨zGood_c q1610 q109, ⟨_, _, rfl, rfl, qs46⟩, Or.inl q1607, q1609, ⟨by decide, by decide⟩, by decide +kernel⟩
noncomputable def fX9_page (h : zH) (a : Nat) (x1 : Int32) : Option (Int32 × zH) := zb1 (fX9_in x1 0 3) (fun v_2 => if v_2 = 0 then (zb2 (fX9_tell h a ((-1))) (fun v_17 h_18 => some ((v_17, h_18)))) else (if (zI h a 0) = 10 then (zb2 (fX9_tell h a ((-6))) (fun v_14 h_15 => some ((v_14, h_15)))) else (zck (vp_in (zI h a 0) 11) (zlet (zsI h (a + 1) (zI h a 0).toNatClampNeg x1) (fun h_4 => if x1 = 0 then (fX9_page_J58 h_4 a 0 (zI h_4 a 0)) else (fX9_page_J58 h_4 a 1 (zI h_4 a 0)))))))
theorem zX9_page {F : zF} {h : zH} {a : Nat} {x1 : Int32} {y : Int32 × zH} (hD : 2 ≤ F.2.1) (hL : zBlk mB mP h a) (hf : fX9_page h a x1 = some y) (hM : ((.inl (some (.int y.1)), y.2) : zX) = zEnd F) : Z F 2 cX9_page RX9 "page" (some .int) [] h 0 [(0, .ref a), (1, .int x1)] [] := by
  unfold fX9_page at hf
  refine z_iload_n 1 dX9_page_0 rfl rfl ?_
  refine z_iconst 0 dX9_page_1 rfl ?_
  refine z_iconst 3 dX9_page_2 rfl ?_
  obtain ⟨v_2, hc_1, hf⟩ := zb1_some hf
  refine z_invSi ssX9_156 (ctX9_in hc_1) ⟨Nat.le_trans (by decide) hD, by decide⟩ rfl rfl (Nat.le_of_ble_eq_true rfl) dX9_page_3 ?_
  refine z_if_ne 15 dX9_page_6 rfl hf (fun _ hf => ?_) (fun _ hf => ?_)
  · refine z_aload_n 0 dX9_page_15 rfl rfl ?_
    refine z_geti fdX9_163_7 (hL.t 0 rfl) dX9_page_16 ?_
    refine z_bipush 10 dX9_page_19 rfl ?_
    refine z_icmp_ne 31 dX9_page_21 rfl hf (fun _ hf => ?_) (fun _ hf => ?_)
    · refine z_aload_n 0 dX9_page_31 rfl rfl ?_
      refine z_getr fdX9_9_7 (Or.inr ⟨_, rfl⟩) (hL.t 0 rfl) (hL.p 0 rfl) dX9_page_32 ?_
      refine z_aload_n 0 dX9_page_35 rfl rfl ?_
      refine z_geti fdX9_163_7 (hL.t 0 rfl) dX9_page_36 ?_
      refine z_iload_n 1 dX9_page_39 rfl rfl ?_
      obtain ⟨hi_3, hf⟩ := zck_some hf
      obtain ⟨h_4, he, hf⟩ := zlet_some hf
      refine z_iast (hL.t 1 rfl) (hL.nz 1) hi_3 he dX9_page_40 ?_
      have hL := hL.I he
      refine z_aload_n 0 dX9_page_41 rfl rfl ?_
      refine z_getr fdX9_13_7 (Or.inr ⟨_, rfl⟩) (hL.t 0 rfl) (hL.p 1 rfl) dX9_page_42 ?_
      refine z_aload_n 0 dX9_page_45 rfl rfl ?_
      refine z_geti fdX9_163_7 (hL.t 0 rfl) dX9_page_46 ?_
      refine z_iload_n 1 dX9_page_49 rfl rfl ?_
      refine z_if_eq 57 dX9_page_50 rfl hf (fun _ hf => ?_) (fun _ hf => ?_)
      · refine z_iconst 0 dX9_page_57 rfl ?_
        refine z_sub [0] rfl ?_
        exact zX9_page_J58 hD hL hf hM
      · refine z_iconst 1 dX9_page_53 rfl ?_
        refine z_goto 58 dX9_page_54 rfl ?_
        refine z_sub [0] rfl ?_
        exact zX9_page_J58 hD hL hf hM
    · refine z_aload_n 0 dX9_page_24 rfl rfl ?_
      refine z_bipush (-6) dX9_page_25 rfl ?_
      obtain ⟨v_14, h_15, hc_13, hf⟩ := zb2_some hf
      have hct := ctX9_tell (l := F.1) hL hc_13
      refine z_invVi svX9_166_7 hct (hL.t 0 rfl) ⟨Nat.le_trans (by decide) hD, by decide⟩ rfl rfl (Nat.le_of_ble_eq_true rfl) dX9_page_27 ?_
      have hL := hL.ext mOk hct.1
      cases hf
      exact z_iret dX9_page_30 rfl hM
  · refine z_aload_n 0 dX9_page_9 rfl rfl ?_
    refine z_iconst (-1) dX9_page_10 rfl ?_
    obtain ⟨v_17, h_18, hc_16, hf⟩ := zb2_some hf
    have hct := ctX9_tell (l := F.1) hL hc_16
    refine z_invVi svX9_166_7 hct (hL.t 0 rfl) ⟨Nat.le_trans (by decide) hD, by decide⟩ rfl rfl (Nat.le_of_ble_eq_true rfl) dX9_page_11 ?_
    have hL := hL.ext mOk hct.1
    cases hf
    exact z_iret dX9_page_14 rfl hM
theorem ctX9_page {l : Launch} {h : zH} {a : Nat} {x1 : Int32} {v : Int32} {h' : zH} (hL : zBlk mB mP h a) (hf : fX9_page h a x1 = some (v, h')) : zC l yX9_page (ws_ yX9_page cX9_page 2 (some .int)) 2 [.ref a, .int x1] h (.inl (some (.int v)), h') :=
  z_start (by decide) (Nat.le_of_ble_eq_true rfl) (zX9_page (F := (l, 2, h, (.inl (some (.int v)), h'))) (Nat.le_refl _) hL hf rfl)
noncomputable def fX9_isPage (h : zH) (a : Nat) (x1 : Int32) : Option (Int32) := zb1 (fX9_in x1 0 ((zI h a 0) - 1)) (fun v_2 => zck (zB v_2) (some v_2))
theorem zX9_isPage {F : zF} {h : zH} {a : Nat} {x1 : Int32} {y : Int32} (hD : 2 ≤ F.2.1) (hL : zBlk mB mP h a) (hf : fX9_isPage h a x1 = some y) (hM : ((.inl (some (.int y)), h) : zX) = zEnd F) : Z F 2 cX9_isPage RX9 "isPage" (some .boolean) [] h 0 [(0, .ref a), (1, .int x1)] [] := by
  unfold fX9_isPage at hf
  refine z_iload_n 1 dX9_isPage_0 rfl rfl ?_
  refine z_iconst 0 dX9_isPage_1 rfl ?_
  refine z_aload_n 0 dX9_isPage_2 rfl rfl ?_
  refine z_geti fdX9_163_7 (hL.t 0 rfl) dX9_isPage_3 ?_
  refine z_iconst 1 dX9_isPage_6 rfl ?_
  refine z_isub dX9_isPage_7 ?_
  obtain ⟨v_2, hc_1, hf⟩ := zb1_some hf
  refine z_invSi ssX9_156 (ctX9_in hc_1) ⟨Nat.le_trans (by decide) hD, by decide⟩ rfl rfl (Nat.le_of_ble_eq_true rfl) dX9_isPage_8 ?_
  obtain ⟨hz_3, hf⟩ := zck_some hf
  cases hf
  exact z_zret dX9_isPage_11 rfl hz_3 hM
theorem ctX9_isPage {l : Launch} {h : zH} {a : Nat} {x1 : Int32} {v : Int32} (hL : zBlk mB mP h a) (hf : fX9_isPage h a x1 = some v) : zC l yX9_isPage (ws_ yX9_isPage cX9_isPage 2 (some .boolean)) 2 [.ref a, .int x1] h (.inl (some (.int v)), h) :=
  z_start (by decide) (Nat.le_of_ble_eq_true rfl) (zX9_isPage (F := (l, 2, h, (.inl (some (.int v)), h))) (Nat.le_refl _) hL hf rfl)
theorem fdX9_23_7 : zFd RX9 23 7 5 (.array .int) true := ⟨_, _, _, rfl, rfl, by decide, rfl, rfl, Or.inl q1397, Or.inl rfl⟩
theorem fdX9_26_7 : zFd RX9 26 7 6 (.array .int) true := ⟨_, _, _, rfl, rfl, by decide, rfl, rfl, Or.inl q1398, Or.inl rfl⟩
theorem fdX9_29_7 : zFd RX9 29 7 7 (.array .int) true := ⟨_, _, _, rfl, rfl, by decide, rfl, rfl, Or.inl q1399, Or.inl rfl⟩
theorem fdX9_32_7 : zFd RX9 32 7 8 (.array .int) true := ⟨_, _, _, rfl, rfl, by decide, rfl, rfl, Or.inl q1400, Or.inl rfl⟩
theorem fdX9_35_7 : zFd RX9 35 7 9 (.array .boolean) true := ⟨_, _, _, rfl, rfl, by decide, rfl, rfl, Or.inl q1401, Or.inl rfl⟩
noncomputable def fX9_copyEntry (h : zH) (a : Nat) (x1 : Int32) (x2 : Int32) : Option (zH) := zck (vp_in x1 1100) (zck (vp_in x2 1100) (zlet (zsI h (a + 5) x2.toNatClampNeg (zI h (a + 5) x1.toNatClampNeg)) (fun h_3 => zck (vp_in x1 1100) (zck (vp_in x2 1100) (zlet (zsI h_3 (a + 6) x2.toNatClampNeg (zI h_3 (a + 6) x1.toNatClampNeg)) (fun h_6 => zck (vp_in x1 1100) (zck (vp_in x2 1100) (zlet (zsI h_6 (a + 7) x2.toNatClampNeg (zI h_6 (a + 7) x1.toNatClampNeg)) (fun h_9 => zck (vp_in x1 1100) (zck (vp_in x2 1100) (zlet (zsI h_9 (a + 8) x2.toNatClampNeg (zI h_9 (a + 8) x1.toNatClampNeg)) (fun h_12 => zck (vp_in x1 1100) (zck (vp_in x2 1100) (zck (zB (zI h_12 (a + 9) x1.toNatClampNeg)) (zlet (zsI h_12 (a + 9) x2.toNatClampNeg (zI h_12 (a + 9) x1.toNatClampNeg)) (fun h_15 => some h_15))))))))))))))))
theorem zX9_copyEntry {F : zF} {h : zH} {a : Nat} {x1 : Int32} {x2 : Int32} {y : zH} (hD : 1 ≤ F.2.1) (hL : zBlk mB mP h a) (hf : fX9_copyEntry h a x1 x2 = some y) (hM : ((.inl none, y) : zX) = zEnd F) : Z F 3 cX9_copyEntry RX9 "copyEntry" none [] h 0 [(0, .ref a), (1, .int x1), (2, .int x2)] [] := by
  unfold fX9_copyEntry at hf
  refine z_aload_n 0 dX9_copyEntry_0 rfl rfl ?_
  refine z_getr fdX9_23_7 (Or.inr ⟨_, rfl⟩) (hL.t 0 rfl) (hL.p 4 rfl) dX9_copyEntry_1 ?_
  refine z_iload_n 2 dX9_copyEntry_4 rfl rfl ?_
  refine z_aload_n 0 dX9_copyEntry_5 rfl rfl ?_
  refine z_getr fdX9_23_7 (Or.inr ⟨_, rfl⟩) (hL.t 0 rfl) (hL.p 4 rfl) dX9_copyEntry_6 ?_
  refine z_iload_n 1 dX9_copyEntry_9 rfl rfl ?_
  obtain ⟨hi_1, hf⟩ := zck_some hf
  refine z_iald (hL.t 5 rfl) hi_1 dX9_copyEntry_10 ?_
  obtain ⟨hi_2, hf⟩ := zck_some hf
  obtain ⟨h_3, he, hf⟩ := zlet_some hf
  refine z_iast (hL.t 5 rfl) (hL.nz 5) hi_2 he dX9_copyEntry_11 ?_
  have hL := hL.I he
  refine z_aload_n 0 dX9_copyEntry_12 rfl rfl ?_
  refine z_getr fdX9_26_7 (Or.inr ⟨_, rfl⟩) (hL.t 0 rfl) (hL.p 5 rfl) dX9_copyEntry_13 ?_
  refine z_iload_n 2 dX9_copyEntry_16 rfl rfl ?_
  refine z_aload_n 0 dX9_copyEntry_17 rfl rfl ?_
  refine z_getr fdX9_26_7 (Or.inr ⟨_, rfl⟩) (hL.t 0 rfl) (hL.p 5 rfl) dX9_copyEntry_18 ?_
  refine z_iload_n 1 dX9_copyEntry_21 rfl rfl ?_
  obtain ⟨hi_4, hf⟩ := zck_some hf
  refine z_iald (hL.t 6 rfl) hi_4 dX9_copyEntry_22 ?_
  obtain ⟨hi_5, hf⟩ := zck_some hf
  obtain ⟨h_6, he, hf⟩ := zlet_some hf
  refine z_iast (hL.t 6 rfl) (hL.nz 6) hi_5 he dX9_copyEntry_23 ?_
  have hL := hL.I he
  refine z_aload_n 0 dX9_copyEntry_24 rfl rfl ?_
  refine z_getr fdX9_29_7 (Or.inr ⟨_, rfl⟩) (hL.t 0 rfl) (hL.p 6 rfl) dX9_copyEntry_25 ?_
  refine z_iload_n 2 dX9_copyEntry_28 rfl rfl ?_
  refine z_aload_n 0 dX9_copyEntry_29 rfl rfl ?_
  refine z_getr fdX9_29_7 (Or.inr ⟨_, rfl⟩) (hL.t 0 rfl) (hL.p 6 rfl) dX9_copyEntry_30 ?_
  refine z_iload_n 1 dX9_copyEntry_33 rfl rfl ?_
  obtain ⟨hi_7, hf⟩ := zck_some hf
  refine z_iald (hL.t 7 rfl) hi_7 dX9_copyEntry_34 ?_
  obtain ⟨hi_8, hf⟩ := zck_some hf
  obtain ⟨h_9, he, hf⟩ := zlet_some hf
  refine z_iast (hL.t 7 rfl) (hL.nz 7) hi_8 he dX9_copyEntry_35 ?_
  have hL := hL.I he
  refine z_aload_n 0 dX9_copyEntry_36 rfl rfl ?_
  refine z_getr fdX9_32_7 (Or.inr ⟨_, rfl⟩) (hL.t 0 rfl) (hL.p 7 rfl) dX9_copyEntry_37 ?_
  refine z_iload_n 2 dX9_copyEntry_40 rfl rfl ?_
  refine z_aload_n 0 dX9_copyEntry_41 rfl rfl ?_
  refine z_getr fdX9_32_7 (Or.inr ⟨_, rfl⟩) (hL.t 0 rfl) (hL.p 7 rfl) dX9_copyEntry_42 ?_
  refine z_iload_n 1 dX9_copyEntry_45 rfl rfl ?_
  obtain ⟨hi_10, hf⟩ := zck_some hf
  refine z_iald (hL.t 8 rfl) hi_10 dX9_copyEntry_46 ?_
  obtain ⟨hi_11, hf⟩ := zck_some hf
  obtain ⟨h_12, he, hf⟩ := zlet_some hf
  refine z_iast (hL.t 8 rfl) (hL.nz 8) hi_11 he dX9_copyEntry_47 ?_
  have hL := hL.I he
  refine z_aload_n 0 dX9_copyEntry_48 rfl rfl ?_
  refine z_getr fdX9_35_7 (Or.inr ⟨_, rfl⟩) (hL.t 0 rfl) (hL.p 8 rfl) dX9_copyEntry_49 ?_
  refine z_iload_n 2 dX9_copyEntry_52 rfl rfl ?_
  refine z_aload_n 0 dX9_copyEntry_53 rfl rfl ?_
  refine z_getr fdX9_35_7 (Or.inr ⟨_, rfl⟩) (hL.t 0 rfl) (hL.p 8 rfl) dX9_copyEntry_54 ?_
  refine z_iload_n 1 dX9_copyEntry_57 rfl rfl ?_
  obtain ⟨hi_13, hf⟩ := zck_some hf
  refine z_zald (hL.t 9 rfl) hi_13 dX9_copyEntry_58 ?_
  obtain ⟨hi_14, hf⟩ := zck_some hf
  obtain ⟨hz_16, hf⟩ := zck_some hf
  obtain ⟨h_15, he, hf⟩ := zlet_some hf
  refine z_zast hz_16 (hL.t 9 rfl) (hL.nz 9) hi_14 he dX9_copyEntry_59 ?_
  have hL := hL.I he
  cases hf
  exact z_vret dX9_copyEntry_60 rfl hM
theorem ctX9_copyEntry {l : Launch} {h : zH} {a : Nat} {x1 : Int32} {x2 : Int32} {h' : zH} (hL : zBlk mB mP h a) (hf : fX9_copyEntry h a x1 x2 = some h') : zC l yX9_copyEntry (ws_ yX9_copyEntry cX9_copyEntry 3 none) 1 [.ref a, .int x1, .int x2] h (.inl none, h') :=
  z_start (by decide) (Nat.le_of_ble_eq_true rfl) (zX9_copyEntry (F := (l, 1, h, (.inl none, h'))) (Nat.le_refl _) hL hf rfl)
theorem fdX9_38_7 : zFd RX9 38 7 10 (.array .int) true := ⟨_, _, _, rfl, rfl, by decide, rfl, rfl, Or.inl q1402, Or.inl rfl⟩
theorem fdX9_41_7 : zFd RX9 41 7 11 (.array .int) true := ⟨_, _, _, rfl, rfl, by decide, rfl, rfl, Or.inl q1403, Or.inl rfl⟩
theorem fdX9_44_7 : zFd RX9 44 7 12 (.array .int) true := ⟨_, _, _, rfl, rfl, by decide, rfl, rfl, Or.inl q1404, Or.inl rfl⟩
theorem fdX9_47_7 : zFd RX9 47 7 13 (.array .boolean) true := ⟨_, _, _, rfl, rfl, by decide, rfl, rfl, Or.inl q1405, Or.inl rfl⟩
noncomputable def fX9_copyShift (h : zH) (a : Nat) (x1 : Int32) (x2 : Int32) : Option (zH) := zck (vp_in x1 110) (zck (vp_in x2 110) (zlet (zsI h (a + 10) x2.toNatClampNeg (zI h (a + 10) x1.toNatClampNeg)) (fun h_3 => zck (vp_in x1 110) (zck (vp_in x2 110) (zlet (zsI h_3 (a + 11) x2.toNatClampNeg (zI h_3 (a + 11) x1.toNatClampNeg)) (fun h_6 => zck (vp_in x1 110) (zck (vp_in x2 110) (zlet (zsI h_6 (a + 12) x2.toNatClampNeg (zI h_6 (a + 12) x1.toNatClampNeg)) (fun h_9 => zck (vp_in x1 110) (zck (vp_in x2 110) (zck (zB (zI h_9 (a + 13) x1.toNatClampNeg)) (zlet (zsI h_9 (a + 13) x2.toNatClampNeg (zI h_9 (a + 13) x1.toNatClampNeg)) (fun h_12 => some h_12)))))))))))))
theorem zX9_copyShift {F : zF} {h : zH} {a : Nat} {x1 : Int32} {x2 : Int32} {y : zH} (hD : 1 ≤ F.2.1) (hL : zBlk mB mP h a) (hf : fX9_copyShift h a x1 x2 = some y) (hM : ((.inl none, y) : zX) = zEnd F) : Z F 3 cX9_copyShift RX9 "copyShift" none [] h 0 [(0, .ref a), (1, .int x1), (2, .int x2)] [] := by
  unfold fX9_copyShift at hf
  refine z_aload_n 0 dX9_copyShift_0 rfl rfl ?_
  refine z_getr fdX9_38_7 (Or.inr ⟨_, rfl⟩) (hL.t 0 rfl) (hL.p 9 rfl) dX9_copyShift_1 ?_
  refine z_iload_n 2 dX9_copyShift_4 rfl rfl ?_
  refine z_aload_n 0 dX9_copyShift_5 rfl rfl ?_
  refine z_getr fdX9_38_7 (Or.inr ⟨_, rfl⟩) (hL.t 0 rfl) (hL.p 9 rfl) dX9_copyShift_6 ?_
  refine z_iload_n 1 dX9_copyShift_9 rfl rfl ?_
  obtain ⟨hi_1, hf⟩ := zck_some hf
  refine z_iald (hL.t 10 rfl) hi_1 dX9_copyShift_10 ?_
  obtain ⟨hi_2, hf⟩ := zck_some hf
  obtain ⟨h_3, he, hf⟩ := zlet_some hf
  refine z_iast (hL.t 10 rfl) (hL.nz 10) hi_2 he dX9_copyShift_11 ?_
  have hL := hL.I he
  refine z_aload_n 0 dX9_copyShift_12 rfl rfl ?_
  refine z_getr fdX9_41_7 (Or.inr ⟨_, rfl⟩) (hL.t 0 rfl) (hL.p 10 rfl) dX9_copyShift_13 ?_
  refine z_iload_n 2 dX9_copyShift_16 rfl rfl ?_
  refine z_aload_n 0 dX9_copyShift_17 rfl rfl ?_
  refine z_getr fdX9_41_7 (Or.inr ⟨_, rfl⟩) (hL.t 0 rfl) (hL.p 10 rfl) dX9_copyShift_18 ?_
  refine z_iload_n 1 dX9_copyShift_21 rfl rfl ?_
  obtain ⟨hi_4, hf⟩ := zck_some hf
  refine z_iald (hL.t 11 rfl) hi_4 dX9_copyShift_22 ?_
  obtain ⟨hi_5, hf⟩ := zck_some hf
  obtain ⟨h_6, he, hf⟩ := zlet_some hf
  refine z_iast (hL.t 11 rfl) (hL.nz 11) hi_5 he dX9_copyShift_23 ?_
  have hL := hL.I he
  refine z_aload_n 0 dX9_copyShift_24 rfl rfl ?_
  refine z_getr fdX9_44_7 (Or.inr ⟨_, rfl⟩) (hL.t 0 rfl) (hL.p 11 rfl) dX9_copyShift_25 ?_
  refine z_iload_n 2 dX9_copyShift_28 rfl rfl ?_
  refine z_aload_n 0 dX9_copyShift_29 rfl rfl ?_
  refine z_getr fdX9_44_7 (Or.inr ⟨_, rfl⟩) (hL.t 0 rfl) (hL.p 11 rfl) dX9_copyShift_30 ?_
  refine z_iload_n 1 dX9_copyShift_33 rfl rfl ?_
  obtain ⟨hi_7, hf⟩ := zck_some hf
  refine z_iald (hL.t 12 rfl) hi_7 dX9_copyShift_34 ?_
  obtain ⟨hi_8, hf⟩ := zck_some hf
  obtain ⟨h_9, he, hf⟩ := zlet_some hf
  refine z_iast (hL.t 12 rfl) (hL.nz 12) hi_8 he dX9_copyShift_35 ?_
  have hL := hL.I he
  refine z_aload_n 0 dX9_copyShift_36 rfl rfl ?_
  refine z_getr fdX9_47_7 (Or.inr ⟨_, rfl⟩) (hL.t 0 rfl) (hL.p 12 rfl) dX9_copyShift_37 ?_
  refine z_iload_n 2 dX9_copyShift_40 rfl rfl ?_
  refine z_aload_n 0 dX9_copyShift_41 rfl rfl ?_
  refine z_getr fdX9_47_7 (Or.inr ⟨_, rfl⟩) (hL.t 0 rfl) (hL.p 12 rfl) dX9_copyShift_42 ?_
  refine z_iload_n 1 dX9_copyShift_45 rfl rfl ?_
  obtain ⟨hi_10, hf⟩ := zck_some hf
  refine z_zald (hL.t 13 rfl) hi_10 dX9_copyShift_46 ?_
  obtain ⟨hi_11, hf⟩ := zck_some hf
  obtain ⟨hz_13, hf⟩ := zck_some hf
  obtain ⟨h_12, he, hf⟩ := zlet_some hf
  refine z_zast hz_13 (hL.t 13 rfl) (hL.nz 13) hi_11 he dX9_copyShift_47 ?_
  have hL := hL.I he
  cases hf
  exact z_vret dX9_copyShift_48 rfl hM
theorem ctX9_copyShift {l : Launch} {h : zH} {a : Nat} {x1 : Int32} {x2 : Int32} {h' : zH} (hL : zBlk mB mP h a) (hf : fX9_copyShift h a x1 x2 = some h') : zC l yX9_copyShift (ws_ yX9_copyShift cX9_copyShift 3 none) 1 [.ref a, .int x1, .int x2] h (.inl none, h') :=
  z_start (by decide) (Nat.le_of_ble_eq_true rfl) (zX9_copyShift (F := (l, 1, h, (.inl none, h'))) (Nat.le_refl _) hL hf rfl)
theorem svX9_170_7 : zIv RX9 170 yX9_isPage (ws_ yX9_isPage cX9_isPage 2 (some .boolean)) 2 7 1 := ⟨zGood_c q1618 q109, ⟨_, _, rfl, rfl, qs47⟩, Or.inl q1615, q1617, ⟨by decide, by decide⟩, by decide +kernel⟩
theorem svX9_174_7 : zIv RX9 174 yX9_copyEntry (ws_ yX9_copyEntry cX9_copyEntry 3 none) 3 7 2 := ⟨zGood_c q1622 q109, ⟨_, _, rfl, rfl, qs48⟩, Or.inl q1619, q1621, ⟨by decide, by decide⟩, by decide +kernel⟩
noncomputable def fX9_derive_L107 (h : zH) (a : Nat) (x1 : Int32) (x2 : Int32) (x3 : Int32) : Option ((zH × Int32) ⊕ (zH)) := zck (vp_in x1 11) (if (zI h (a + 3) x1.toNatClampNeg) ≤ x3 then (some (.inr h)) else (zb1 (fX9_copyEntry h a (((100 : Int32) * x1) + x3) (((100 : Int32) * x2) + x3)) (fun h_18 => some (.inl ((h_18, x3 + 1))))))
theorem zX9_derive_L107 {F : zF} {h : zH} {a : Nat} {x1 : Int32} {x2 : Int32} {x3 : Int32} {y : (zH × Int32) ⊕ (zH)} (hD : 3 ≤ F.2.1) (hL : zBlk mB mP h a) (hf : fX9_derive_L107 h a x1 x2 x3 = some y) (hM : ((∀ s' : zH × Int32, y = .inl s' → (zBlk mB mP s'.1 a → Z F 4 cX9_derive RX9 "derive" (some .int) [] s'.1 107 [(0, .ref a), (1, .int x1), (2, .int x2), (3, .int s'.2)] [])) ∧ ∀ r : zH, y = .inr r → (zBlk mB mP r a → Z F 4 cX9_derive RX9 "derive" (some .int) [] r 139 [(0, .ref a), (1, .int x1), (2, .int x2)] []))) : Z F 4 cX9_derive RX9 "derive" (some .int) [] h 107 [(0, .ref a), (1, .int x1), (2, .int x2), (3, .int x3)] [] := by
  unfold fX9_derive_L107 at hf
  refine z_iload_n 3 dX9_derive_107 rfl rfl ?_
  refine z_aload_n 0 dX9_derive_108 rfl rfl ?_
  refine z_getr fdX9_17_7 (Or.inr ⟨_, rfl⟩) (hL.t 0 rfl) (hL.p 2 rfl) dX9_derive_109 ?_
  refine z_iload_n 1 dX9_derive_112 rfl rfl ?_
  obtain ⟨hi_15, hf⟩ := zck_some hf
  refine z_iald (hL.t 3 rfl) hi_15 dX9_derive_113 ?_
  refine z_icmp_ge 139 dX9_derive_114 rfl hf (fun _ hf => ?_) (fun _ hf => ?_)
  · cases hf
    refine z_sub [0, 1, 2] rfl ?_
    exact (hM.2 _ rfl) hL
  · refine z_aload_n 0 dX9_derive_117 rfl rfl ?_
    refine z_bipush 100 dX9_derive_118 rfl ?_
    refine z_iload_n 1 dX9_derive_120 rfl rfl ?_
    refine z_imul dX9_derive_121 ?_
    refine z_iload_n 3 dX9_derive_122 rfl rfl ?_
    refine z_iadd dX9_derive_123 ?_
    refine z_bipush 100 dX9_derive_124 rfl ?_
    refine z_iload_n 2 dX9_derive_126 rfl rfl ?_
    refine z_imul dX9_derive_127 ?_
    refine z_iload_n 3 dX9_derive_128 rfl rfl ?_
    refine z_iadd dX9_derive_129 ?_
    obtain ⟨h_18, hc_16, hf⟩ := zb1_some hf
    have hct := ctX9_copyEntry (l := F.1) hL hc_16
    refine z_invVv svX9_174_7 hct (hL.t 0 rfl) ⟨Nat.le_trans (by decide) hD, by decide⟩ rfl rfl (Nat.le_of_ble_eq_true rfl) dX9_derive_130 ?_
    have hL := hL.ext mOk hct.1
    refine z_iinc 3 (x3 + 1) dX9_derive_133 rfl rfl (by decide) (lc' := [(0, .ref a), (1, .int x1), (2, .int x2), (3, .int (x3 + 1))]) rfl ?_
    refine z_goto 107 dX9_derive_136 rfl ?_
    cases hf
    exact (hM.1 _ rfl) hL
theorem svX9_178_7 : zIv RX9 178 yX9_copyShift (ws_ yX9_copyShift cX9_copyShift 3 none) 3 7 2 := ⟨zGood_c q1626 q109, ⟨_, _, rfl, rfl, qs49⟩, Or.inl q1623, q1625, ⟨by decide, by decide⟩, by decide +kernel⟩
noncomputable def fX9_derive_L141 (h : zH) (a : Nat) (x1 : Int32) (x2 : Int32) (x3 : Int32) : Option ((zH × Int32) ⊕ ((Int32 × zH))) := zck (vp_in x1 11) (if (zI h (a + 4) x1.toNatClampNeg) ≤ x3 then (zlet (zsI h a 0 ((zI h a 0) + 1)) (fun h_21 => some (.inr ((x2, h_21))))) else (zb1 (fX9_copyShift h a (((10 : Int32) * x1) + x3) (((10 : Int32) * x2) + x3)) (fun h_24 => some (.inl ((h_24, x3 + 1))))))
theorem zX9_derive_L141 {F : zF} {h : zH} {a : Nat} {x1 : Int32} {x2 : Int32} {x3 : Int32} {y : (zH × Int32) ⊕ ((Int32 × zH))} (hD : 3 ≤ F.2.1) (hL : zBlk mB mP h a) (hf : fX9_derive_L141 h a x1 x2 x3 = some y) (hM : ((∀ s' : zH × Int32, y = .inl s' → (zBlk mB mP s'.1 a → Z F 4 cX9_derive RX9 "derive" (some .int) [] s'.1 141 [(0, .ref a), (1, .int x1), (2, .int x2), (3, .int s'.2)] [])) ∧ ∀ r : (Int32 × zH), y = .inr r → ((.inl (some (.int r.1)), r.2) : zX) = zEnd F)) : Z F 4 cX9_derive RX9 "derive" (some .int) [] h 141 [(0, .ref a), (1, .int x1), (2, .int x2), (3, .int x3)] [] := by
  unfold fX9_derive_L141 at hf
  refine z_iload_n 3 dX9_derive_141 rfl rfl ?_
  refine z_aload_n 0 dX9_derive_142 rfl rfl ?_
  refine z_getr fdX9_20_7 (Or.inr ⟨_, rfl⟩) (hL.t 0 rfl) (hL.p 3 rfl) dX9_derive_143 ?_
  refine z_iload_n 1 dX9_derive_146 rfl rfl ?_
  obtain ⟨hi_20, hf⟩ := zck_some hf
  refine z_iald (hL.t 4 rfl) hi_20 dX9_derive_147 ?_
  refine z_icmp_ge 173 dX9_derive_148 rfl hf (fun _ hf => ?_) (fun _ hf => ?_)
  · refine z_aload_n 0 dX9_derive_173 rfl rfl ?_
    refine z_dup dX9_derive_174 rfl ?_
    refine z_geti fdX9_163_7 (hL.t 0 rfl) dX9_derive_175 ?_
    refine z_iconst 1 dX9_derive_178 rfl ?_
    refine z_iadd dX9_derive_179 ?_
    obtain ⟨h_21, he, hf⟩ := zlet_some hf
    refine z_puti fdX9_163_7 (hL.t 0 rfl) (hL.nz 0) he dX9_derive_180 ?_
    have hL := hL.I he
    refine z_iload_n 2 dX9_derive_183 rfl rfl ?_
    cases hf
    exact z_iret dX9_derive_184 rfl (hM.2 _ rfl)
  · refine z_aload_n 0 dX9_derive_151 rfl rfl ?_
    refine z_bipush 10 dX9_derive_152 rfl ?_
    refine z_iload_n 1 dX9_derive_154 rfl rfl ?_
    refine z_imul dX9_derive_155 ?_
    refine z_iload_n 3 dX9_derive_156 rfl rfl ?_
    refine z_iadd dX9_derive_157 ?_
    refine z_bipush 10 dX9_derive_158 rfl ?_
    refine z_iload_n 2 dX9_derive_160 rfl rfl ?_
    refine z_imul dX9_derive_161 ?_
    refine z_iload_n 3 dX9_derive_162 rfl rfl ?_
    refine z_iadd dX9_derive_163 ?_
    obtain ⟨h_24, hc_22, hf⟩ := zb1_some hf
    have hct := ctX9_copyShift (l := F.1) hL hc_22
    refine z_invVv svX9_178_7 hct (hL.t 0 rfl) ⟨Nat.le_trans (by decide) hD, by decide⟩ rfl rfl (Nat.le_of_ble_eq_true rfl) dX9_derive_164 ?_
    have hL := hL.ext mOk hct.1
    refine z_iinc 3 (x3 + 1) dX9_derive_167 rfl rfl (by decide) (lc' := [(0, .ref a), (1, .int x1), (2, .int x2), (3, .int (x3 + 1))]) rfl ?_
    refine z_goto 141 dX9_derive_170 rfl ?_
    cases hf
    exact (hM.1 _ rfl) hL
noncomputable def fX9_derive (h : zH) (a : Nat) (x1 : Int32) : Option (Int32 × zH) := zb1 (fX9_isPage h a x1) (fun v_2 => if v_2 = 0 then (zb2 (fX9_tell h a ((-1))) (fun v_35 h_36 => some ((v_35, h_36)))) else (zck (vp_in x1 11) (if (zI h (a + 1) x1.toNatClampNeg) = 0 then (zck (vp_in x1 11) (if (zI h (a + 2) x1.toNatClampNeg) = 0 then (zb2 (fX9_tell h a ((-5))) (fun v_29 h_30 => some ((v_29, h_30)))) else (if (zI h a 0) = 10 then (zb2 (fX9_tell h a ((-6))) (fun v_26 h_27 => some ((v_26, h_27)))) else (zck (vp_in (zI h a 0) 11) (zlet (zsI h (a + 1) (zI h a 0).toNatClampNeg 0) (fun h_6 => zck (vp_in (zI h a 0) 11) (zlet (zsI h_6 (a + 2) (zI h a 0).toNatClampNeg 0) (fun h_8 => zck (vp_in x1 11) (zck (vp_in (zI h a 0) 11) (zlet (zsI h_8 (a + 3) (zI h a 0).toNatClampNeg (zI h_8 (a + 3) x1.toNatClampNeg)) (fun h_11 => zck (vp_in x1 11) (zck (vp_in (zI h a 0) 11) (zlet (zsI h_11 (a + 4) (zI h a 0).toNatClampNeg (zI h_11 (a + 4) x1.toNatClampNeg)) (fun h_14 => zb1 (zlp (fun s => fX9_derive_L107 s.1 a x1 (zI h a 0) s.2) (h_14, 0)) (fun t_19 => zlp (fun s => fX9_derive_L141 s.1 a x1 (zI h a 0) s.2) (t_19, 0)))))))))))))))) else (zb2 (fX9_tell h a ((-3))) (fun v_32 h_33 => some ((v_32, h_33)))))))
theorem zX9_derive {F : zF} {h : zH} {a : Nat} {x1 : Int32} {y : Int32 × zH} (hD : 3 ≤ F.2.1) (hL : zBlk mB mP h a) (hf : fX9_derive h a x1 = some y) (hM : ((.inl (some (.int y.1)), y.2) : zX) = zEnd F) : Z F 4 cX9_derive RX9 "derive" (some .int) [] h 0 [(0, .ref a), (1, .int x1)] [] := by
  unfold fX9_derive at hf
  refine z_aload_n 0 dX9_derive_0 rfl rfl ?_
  refine z_iload_n 1 dX9_derive_1 rfl rfl ?_
  obtain ⟨v_2, hc_1, hf⟩ := zb1_some hf
  refine z_invVi svX9_170_7 (ctX9_isPage hL hc_1) (hL.t 0 rfl) ⟨Nat.le_trans (by decide) hD, by decide⟩ rfl rfl (Nat.le_of_ble_eq_true rfl) dX9_derive_2 ?_
  refine z_if_ne 14 dX9_derive_5 rfl hf (fun _ hf => ?_) (fun _ hf => ?_)
  · refine z_aload_n 0 dX9_derive_14 rfl rfl ?_
    refine z_getr fdX9_9_7 (Or.inr ⟨_, rfl⟩) (hL.t 0 rfl) (hL.p 0 rfl) dX9_derive_15 ?_
    refine z_iload_n 1 dX9_derive_18 rfl rfl ?_
    obtain ⟨hi_3, hf⟩ := zck_some hf
    refine z_iald (hL.t 1 rfl) hi_3 dX9_derive_19 ?_
    refine z_if_eq 30 dX9_derive_20 rfl hf (fun _ hf => ?_) (fun _ hf => ?_)
    · refine z_aload_n 0 dX9_derive_30 rfl rfl ?_
      refine z_getr fdX9_13_7 (Or.inr ⟨_, rfl⟩) (hL.t 0 rfl) (hL.p 1 rfl) dX9_derive_31 ?_
      refine z_iload_n 1 dX9_derive_34 rfl rfl ?_
      obtain ⟨hi_4, hf⟩ := zck_some hf
      refine z_zald (hL.t 2 rfl) hi_4 dX9_derive_35 ?_
      refine z_if_ne 46 dX9_derive_36 rfl hf (fun _ hf => ?_) (fun _ hf => ?_)
      · refine z_aload_n 0 dX9_derive_46 rfl rfl ?_
        refine z_geti fdX9_163_7 (hL.t 0 rfl) dX9_derive_47 ?_
        refine z_bipush 10 dX9_derive_50 rfl ?_
        refine z_icmp_ne 62 dX9_derive_52 rfl hf (fun _ hf => ?_) (fun _ hf => ?_)
        · refine z_aload_n 0 dX9_derive_62 rfl rfl ?_
          refine z_geti fdX9_163_7 (hL.t 0 rfl) dX9_derive_63 ?_
          refine z_istore_n dX9_derive_66 rfl (by decide) (lc' := [(0, .ref a), (1, .int x1), (2, .int (zI h a 0))]) rfl ?_
          refine z_aload_n 0 dX9_derive_67 rfl rfl ?_
          refine z_getr fdX9_9_7 (Or.inr ⟨_, rfl⟩) (hL.t 0 rfl) (hL.p 0 rfl) dX9_derive_68 ?_
          refine z_iload_n 2 dX9_derive_71 rfl rfl ?_
          refine z_iconst 0 dX9_derive_72 rfl ?_
          obtain ⟨hi_5, hf⟩ := zck_some hf
          obtain ⟨h_6, he, hf⟩ := zlet_some hf
          refine z_iast (hL.t 1 rfl) (hL.nz 1) hi_5 he dX9_derive_73 ?_
          have hL := hL.I he
          refine z_aload_n 0 dX9_derive_74 rfl rfl ?_
          refine z_getr fdX9_13_7 (Or.inr ⟨_, rfl⟩) (hL.t 0 rfl) (hL.p 1 rfl) dX9_derive_75 ?_
          refine z_iload_n 2 dX9_derive_78 rfl rfl ?_
          refine z_iconst 0 dX9_derive_79 rfl ?_
          obtain ⟨hi_7, hf⟩ := zck_some hf
          obtain ⟨h_8, he, hf⟩ := zlet_some hf
          refine z_zast (Or.inl rfl) (hL.t 2 rfl) (hL.nz 2) hi_7 he dX9_derive_80 ?_
          have hL := hL.I he
          refine z_aload_n 0 dX9_derive_81 rfl rfl ?_
          refine z_getr fdX9_17_7 (Or.inr ⟨_, rfl⟩) (hL.t 0 rfl) (hL.p 2 rfl) dX9_derive_82 ?_
          refine z_iload_n 2 dX9_derive_85 rfl rfl ?_
          refine z_aload_n 0 dX9_derive_86 rfl rfl ?_
          refine z_getr fdX9_17_7 (Or.inr ⟨_, rfl⟩) (hL.t 0 rfl) (hL.p 2 rfl) dX9_derive_87 ?_
          refine z_iload_n 1 dX9_derive_90 rfl rfl ?_
          obtain ⟨hi_9, hf⟩ := zck_some hf
          refine z_iald (hL.t 3 rfl) hi_9 dX9_derive_91 ?_
          obtain ⟨hi_10, hf⟩ := zck_some hf
          obtain ⟨h_11, he, hf⟩ := zlet_some hf
          refine z_iast (hL.t 3 rfl) (hL.nz 3) hi_10 he dX9_derive_92 ?_
          have hL := hL.I he
          refine z_aload_n 0 dX9_derive_93 rfl rfl ?_
          refine z_getr fdX9_20_7 (Or.inr ⟨_, rfl⟩) (hL.t 0 rfl) (hL.p 3 rfl) dX9_derive_94 ?_
          refine z_iload_n 2 dX9_derive_97 rfl rfl ?_
          refine z_aload_n 0 dX9_derive_98 rfl rfl ?_
          refine z_getr fdX9_20_7 (Or.inr ⟨_, rfl⟩) (hL.t 0 rfl) (hL.p 3 rfl) dX9_derive_99 ?_
          refine z_iload_n 1 dX9_derive_102 rfl rfl ?_
          obtain ⟨hi_12, hf⟩ := zck_some hf
          refine z_iald (hL.t 4 rfl) hi_12 dX9_derive_103 ?_
          obtain ⟨hi_13, hf⟩ := zck_some hf
          obtain ⟨h_14, he, hf⟩ := zlet_some hf
          refine z_iast (hL.t 4 rfl) (hL.nz 4) hi_13 he dX9_derive_104 ?_
          have hL := hL.I he
          refine z_iconst 0 dX9_derive_105 rfl ?_
          refine z_istore_n dX9_derive_106 rfl (by decide) (lc' := [(0, .ref a), (1, .int x1), (2, .int (zI h a 0)), (3, .int 0)]) rfl ?_
          obtain ⟨t_19, hl, hf⟩ := zb1_some hf
          refine z_loop (fun (s : zH × Int32) => (zBlk mB mP s.1 a → Z F 4 cX9_derive RX9 "derive" (some .int) [] s.1 107 [(0, .ref a), (1, .int x1), (2, .int (zI h a 0)), (3, .int s.2)] [])) (fun (r : zH) => (zBlk mB mP r a → Z F 4 cX9_derive RX9 "derive" (some .int) [] r 139 [(0, .ref a), (1, .int x1), (2, .int (zI h a 0))] [])) (fun s y hb hs hr hL => zX9_derive_L107 hD hL hb ⟨hs, hr⟩) hl ?_ hL
          intro hL
          show Z F 4 cX9_derive RX9 "derive" (some .int) [] t_19 139 [(0, .ref a), (1, .int x1), (2, .int (zI h a 0))] []
          refine z_iconst 0 dX9_derive_139 rfl ?_
          refine z_istore_n dX9_derive_140 rfl (by decide) (lc' := [(0, .ref a), (1, .int x1), (2, .int (zI h a 0)), (3, .int 0)]) rfl ?_
          exact z_loop (fun (s : zH × Int32) => (zBlk mB mP s.1 a → Z F 4 cX9_derive RX9 "derive" (some .int) [] s.1 141 [(0, .ref a), (1, .int x1), (2, .int (zI h a 0)), (3, .int s.2)] [])) (fun (r : (Int32 × zH)) => ((.inl (some (.int r.1)), r.2) : zX) = zEnd F) (fun s y hb hs hr hL => zX9_derive_L141 hD hL hb ⟨hs, hr⟩) hf hM hL
        · refine z_aload_n 0 dX9_derive_55 rfl rfl ?_
          refine z_bipush (-6) dX9_derive_56 rfl ?_
          obtain ⟨v_26, h_27, hc_25, hf⟩ := zb2_some hf
          have hct := ctX9_tell (l := F.1) hL hc_25
          refine z_invVi svX9_166_7 hct (hL.t 0 rfl) ⟨Nat.le_trans (by decide) hD, by decide⟩ rfl rfl (Nat.le_of_ble_eq_true rfl) dX9_derive_58 ?_
          have hL := hL.ext mOk hct.1
          cases hf
          exact z_iret dX9_derive_61 rfl hM
      · refine z_aload_n 0 dX9_derive_39 rfl rfl ?_
        refine z_bipush (-5) dX9_derive_40 rfl ?_
        obtain ⟨v_29, h_30, hc_28, hf⟩ := zb2_some hf
        have hct := ctX9_tell (l := F.1) hL hc_28
        refine z_invVi svX9_166_7 hct (hL.t 0 rfl) ⟨Nat.le_trans (by decide) hD, by decide⟩ rfl rfl (Nat.le_of_ble_eq_true rfl) dX9_derive_42 ?_
        have hL := hL.ext mOk hct.1
        cases hf
        exact z_iret dX9_derive_45 rfl hM
    · refine z_aload_n 0 dX9_derive_23 rfl rfl ?_
      refine z_bipush (-3) dX9_derive_24 rfl ?_
      obtain ⟨v_32, h_33, hc_31, hf⟩ := zb2_some hf
      have hct := ctX9_tell (l := F.1) hL hc_31
      refine z_invVi svX9_166_7 hct (hL.t 0 rfl) ⟨Nat.le_trans (by decide) hD, by decide⟩ rfl rfl (Nat.le_of_ble_eq_true rfl) dX9_derive_26 ?_
      have hL := hL.ext mOk hct.1
      cases hf
      exact z_iret dX9_derive_29 rfl hM
  · refine z_aload_n 0 dX9_derive_8 rfl rfl ?_
    refine z_iconst (-1) dX9_derive_9 rfl ?_
    obtain ⟨v_35, h_36, hc_34, hf⟩ := zb2_some hf
    have hct := ctX9_tell (l := F.1) hL hc_34
    refine z_invVi svX9_166_7 hct (hL.t 0 rfl) ⟨Nat.le_trans (by decide) hD, by decide⟩ rfl rfl (Nat.le_of_ble_eq_true rfl) dX9_derive_10 ?_
    have hL := hL.ext mOk hct.1
    cases hf
    exact z_iret dX9_derive_13 rfl hM
theorem ctX9_derive {l : Launch} {h : zH} {a : Nat} {x1 : Int32} {v : Int32} {h' : zH} (hL : zBlk mB mP h a) (hf : fX9_derive h a x1 = some (v, h')) : zC l yX9_derive (ws_ yX9_derive cX9_derive 4 (some .int)) 3 [.ref a, .int x1] h (.inl (some (.int v)), h') :=
  z_start (by decide) (Nat.le_of_ble_eq_true rfl) (zX9_derive (F := (l, 3, h, (.inl (some (.int v)), h'))) (Nat.le_refl _) hL hf rfl)
noncomputable def fX9_fixed (h : zH) (a : Nat) (x1 : Int32) : Option (Int32) := zb1 (fX9_isPage h a x1) (fun v_2 => if v_2 = 0 then (some ((-1))) else (zck (vp_in x1 11) (if (zI h (a + 1) x1.toNatClampNeg) = 0 then (zck (vp_in x1 11) (if (zI h (a + 2) x1.toNatClampNeg) = 0 then (some 0) else (some ((-4))))) else (some ((-3))))))
theorem zX9_fixed {F : zF} {h : zH} {a : Nat} {x1 : Int32} {y : Int32} (hD : 3 ≤ F.2.1) (hL : zBlk mB mP h a) (hf : fX9_fixed h a x1 = some y) (hM : ((.inl (some (.int y)), h) : zX) = zEnd F) : Z F 2 cX9_fixed RX9 "fixed" (some .int) [] h 0 [(0, .ref a), (1, .int x1)] [] := by
  unfold fX9_fixed at hf
  refine z_aload_n 0 dX9_fixed_0 rfl rfl ?_
  refine z_iload_n 1 dX9_fixed_1 rfl rfl ?_
  obtain ⟨v_2, hc_1, hf⟩ := zb1_some hf
  refine z_invVi svX9_170_7 (ctX9_isPage hL hc_1) (hL.t 0 rfl) ⟨Nat.le_trans (by decide) hD, by decide⟩ rfl rfl (Nat.le_of_ble_eq_true rfl) dX9_fixed_2 ?_
  refine z_if_ne 10 dX9_fixed_5 rfl hf (fun _ hf => ?_) (fun _ hf => ?_)
  · refine z_aload_n 0 dX9_fixed_10 rfl rfl ?_
    refine z_getr fdX9_9_7 (Or.inr ⟨_, rfl⟩) (hL.t 0 rfl) (hL.p 0 rfl) dX9_fixed_11 ?_
    refine z_iload_n 1 dX9_fixed_14 rfl rfl ?_
    obtain ⟨hi_3, hf⟩ := zck_some hf
    refine z_iald (hL.t 1 rfl) hi_3 dX9_fixed_15 ?_
    refine z_if_eq 22 dX9_fixed_16 rfl hf (fun _ hf => ?_) (fun _ hf => ?_)
    · refine z_aload_n 0 dX9_fixed_22 rfl rfl ?_
      refine z_getr fdX9_13_7 (Or.inr ⟨_, rfl⟩) (hL.t 0 rfl) (hL.p 1 rfl) dX9_fixed_23 ?_
      refine z_iload_n 1 dX9_fixed_26 rfl rfl ?_
      obtain ⟨hi_4, hf⟩ := zck_some hf
      refine z_zald (hL.t 2 rfl) hi_4 dX9_fixed_27 ?_
      refine z_if_eq 36 dX9_fixed_28 rfl hf (fun _ hf => ?_) (fun _ hf => ?_)
      · refine z_iconst 0 dX9_fixed_36 rfl ?_
        cases hf
        exact z_iret dX9_fixed_37 rfl hM
      · refine z_bipush (-4) dX9_fixed_31 rfl ?_
        refine z_goto 37 dX9_fixed_33 rfl ?_
        cases hf
        exact z_iret dX9_fixed_37 rfl hM
    · refine z_bipush (-3) dX9_fixed_19 rfl ?_
      cases hf
      exact z_iret dX9_fixed_21 rfl hM
  · refine z_iconst (-1) dX9_fixed_8 rfl ?_
    cases hf
    exact z_iret dX9_fixed_9 rfl hM
theorem ctX9_fixed {l : Launch} {h : zH} {a : Nat} {x1 : Int32} {v : Int32} (hL : zBlk mB mP h a) (hf : fX9_fixed h a x1 = some v) : zC l yX9_fixed (ws_ yX9_fixed cX9_fixed 2 (some .int)) 3 [.ref a, .int x1] h (.inl (some (.int v)), h) :=
  z_start (by decide) (Nat.le_of_ble_eq_true rfl) (zX9_fixed (F := (l, 3, h, (.inl (some (.int v)), h))) (Nat.le_refl _) hL hf rfl)
noncomputable def fX9_isText (x0 : Int32) (x1 : Int32) (x2 : Int32) : Option (Int32) := zb1 (fX9_in x0 0 3) (fun v_2 => if v_2 = 0 then (some 0) else (zb1 (fX9_in x2 1 3) (fun v_4 => if v_4 = 0 then (some 0) else (if x1 < 0 then (some 0) else (if ((1 : Int32) <<< (((8 : Int32) * x2) &&& 31)) ≤ x1 then (some 0) else (some 1))))))
theorem zX9_isText {F : zF} {h : zH} {x0 : Int32} {x1 : Int32} {x2 : Int32} {y : Int32} (hD : 2 ≤ F.2.1) (hf : fX9_isText x0 x1 x2 = some y) (hM : ((.inl (some (.int y)), h) : zX) = zEnd F) : Z F 3 cX9_isText RX9 "isText" (some .boolean) [] h 0 [(0, .int x0), (1, .int x1), (2, .int x2)] [] := by
  unfold fX9_isText at hf
  refine z_iload_n 0 dX9_isText_0 rfl rfl ?_
  refine z_iconst 0 dX9_isText_1 rfl ?_
  refine z_iconst 3 dX9_isText_2 rfl ?_
  obtain ⟨v_2, hc_1, hf⟩ := zb1_some hf
  refine z_invSi ssX9_156 (ctX9_in hc_1) ⟨Nat.le_trans (by decide) hD, by decide⟩ rfl rfl (Nat.le_of_ble_eq_true rfl) dX9_isText_3 ?_
  refine z_if_eq 36 dX9_isText_6 rfl hf (fun _ hf => ?_) (fun _ hf => ?_)
  · refine z_iconst 0 dX9_isText_36 rfl ?_
    cases hf
    exact z_zret dX9_isText_37 rfl (Or.inl rfl) hM
  · refine z_iload_n 2 dX9_isText_9 rfl rfl ?_
    refine z_iconst 1 dX9_isText_10 rfl ?_
    refine z_iconst 3 dX9_isText_11 rfl ?_
    obtain ⟨v_4, hc_3, hf⟩ := zb1_some hf
    refine z_invSi ssX9_156 (ctX9_in hc_3) ⟨Nat.le_trans (by decide) hD, by decide⟩ rfl rfl (Nat.le_of_ble_eq_true rfl) dX9_isText_12 ?_
    refine z_if_eq 36 dX9_isText_15 rfl hf (fun _ hf => ?_) (fun _ hf => ?_)
    · refine z_iconst 0 dX9_isText_36 rfl ?_
      cases hf
      exact z_zret dX9_isText_37 rfl (Or.inl rfl) hM
    · refine z_iload_n 1 dX9_isText_18 rfl rfl ?_
      refine z_if_lt 36 dX9_isText_19 rfl hf (fun _ hf => ?_) (fun _ hf => ?_)
      · refine z_iconst 0 dX9_isText_36 rfl ?_
        cases hf
        exact z_zret dX9_isText_37 rfl (Or.inl rfl) hM
      · refine z_iload_n 1 dX9_isText_22 rfl rfl ?_
        refine z_iconst 1 dX9_isText_23 rfl ?_
        refine z_bipush 8 dX9_isText_24 rfl ?_
        refine z_iload_n 2 dX9_isText_26 rfl rfl ?_
        refine z_imul dX9_isText_27 ?_
        refine z_ishl dX9_isText_28 ?_
        refine z_icmp_ge 36 dX9_isText_29 rfl hf (fun _ hf => ?_) (fun _ hf => ?_)
        · refine z_iconst 0 dX9_isText_36 rfl ?_
          cases hf
          exact z_zret dX9_isText_37 rfl (Or.inl rfl) hM
        · refine z_iconst 1 dX9_isText_32 rfl ?_
          refine z_goto 37 dX9_isText_33 rfl ?_
          cases hf
          exact z_zret dX9_isText_37 rfl (Or.inr rfl) hM
theorem ctX9_isText {l : Launch} {h : zH} {x0 : Int32} {x1 : Int32} {x2 : Int32} {v : Int32} (hf : fX9_isText x0 x1 x2 = some v) : zC l yX9_isText (ws_ yX9_isText cX9_isText 3 (some .boolean)) 2 [.int x0, .int x1, .int x2] h (.inl (some (.int v)), h) :=
  z_start (by decide) (Nat.le_of_ble_eq_true rfl) (zX9_isText (F := (l, 2, h, (.inl (some (.int v)), h))) (Nat.le_refl _) hf rfl)
noncomputable def fX9_isPoint (x0 : Int32) : Option (Int32) := zb1 (fX9_in x0 0 1114111) (fun v_2 => if v_2 = 0 then (some 0) else (zb1 (fX9_in x0 55296 57343) (fun v_4 => if v_4 = 0 then (some 1) else (some 0))))
theorem zX9_isPoint {F : zF} {h : zH} {x0 : Int32} {y : Int32} (hD : 2 ≤ F.2.1) (hf : fX9_isPoint x0 = some y) (hM : ((.inl (some (.int y)), h) : zX) = zEnd F) : Z F 1 cX9_isPoint RX9 "isPoint" (some .boolean) [] h 0 [(0, .int x0)] [] := by
  unfold fX9_isPoint at hf
  refine z_iload_n 0 dX9_isPoint_0 rfl rfl ?_
  refine z_iconst 0 dX9_isPoint_1 rfl ?_
  refine z_ldc q1641 dX9_isPoint_2 ?_
  obtain ⟨v_2, hc_1, hf⟩ := zb1_some hf
  refine z_invSi ssX9_156 (ctX9_in hc_1) ⟨Nat.le_trans (by decide) hD, by decide⟩ rfl rfl (Nat.le_of_ble_eq_true rfl) dX9_isPoint_4 ?_
  refine z_if_eq 25 dX9_isPoint_7 rfl hf (fun _ hf => ?_) (fun _ hf => ?_)
  · refine z_iconst 0 dX9_isPoint_25 rfl ?_
    cases hf
    exact z_zret dX9_isPoint_26 rfl (Or.inl rfl) hM
  · refine z_iload_n 0 dX9_isPoint_10 rfl rfl ?_
    refine z_ldc q1642 dX9_isPoint_11 ?_
    refine z_ldc q1643 dX9_isPoint_13 ?_
    obtain ⟨v_4, hc_3, hf⟩ := zb1_some hf
    refine z_invSi ssX9_156 (ctX9_in hc_3) ⟨Nat.le_trans (by decide) hD, by decide⟩ rfl rfl (Nat.le_of_ble_eq_true rfl) dX9_isPoint_15 ?_
    refine z_if_ne 25 dX9_isPoint_18 rfl hf (fun _ hf => ?_) (fun _ hf => ?_)
    · refine z_iconst 0 dX9_isPoint_25 rfl ?_
      cases hf
      exact z_zret dX9_isPoint_26 rfl (Or.inl rfl) hM
    · refine z_iconst 1 dX9_isPoint_21 rfl ?_
      refine z_goto 26 dX9_isPoint_22 rfl ?_
      cases hf
      exact z_zret dX9_isPoint_26 rfl (Or.inr rfl) hM
theorem ctX9_isPoint {l : Launch} {h : zH} {x0 : Int32} {v : Int32} (hf : fX9_isPoint x0 = some v) : zC l yX9_isPoint (ws_ yX9_isPoint cX9_isPoint 1 (some .boolean)) 2 [.int x0] h (.inl (some (.int v)), h) :=
  z_start (by decide) (Nat.le_of_ble_eq_true rfl) (zX9_isPoint (F := (l, 2, h, (.inl (some (.int v)), h))) (Nat.le_refl _) hf rfl)
noncomputable def fX9_entryOf_L6 (h : zH) (a : Nat) (x1 : Int32) (x2 : Int32) (x3 : Int32) (x4 : Int32) (x5 : Int32) : Option ((Int32) ⊕ (Int32)) := zck (vp_in x1 11) (if (((100 : Int32) * x1) + (zI h (a + 3) x1.toNatClampNeg)) ≤ x5 then (some (.inr ((-1)))) else (zck (vp_in x5 1100) (if (zI h (a + 5) x5.toNatClampNeg) = x2 then (zck (vp_in x5 1100) (if (zI h (a + 6) x5.toNatClampNeg) = x4 then (zck (vp_in x5 1100) (if (zI h (a + 7) x5.toNatClampNeg) = x3 then (some (.inr x5)) else (some (.inl (x5 + 1))))) else (some (.inl (x5 + 1))))) else (some (.inl (x5 + 1))))))
theorem zX9_entryOf_L6 {F : zF} {h : zH} {a : Nat} {x1 : Int32} {x2 : Int32} {x3 : Int32} {x4 : Int32} {x5 : Int32} {y : (Int32) ⊕ (Int32)} (hD : 1 ≤ F.2.1) (hL : zBlk mB mP h a) (hf : fX9_entryOf_L6 h a x1 x2 x3 x4 x5 = some y) (hM : ((∀ s' : Int32, y = .inl s' → Z F 6 cX9_entryOf RX9 "entryOf" (some .int) [] h 6 [(0, .ref a), (1, .int x1), (2, .int x2), (3, .int x3), (4, .int x4), (5, .int s')] []) ∧ ∀ r : Int32, y = .inr r → ((.inl (some (.int r)), h) : zX) = zEnd F)) : Z F 6 cX9_entryOf RX9 "entryOf" (some .int) [] h 6 [(0, .ref a), (1, .int x1), (2, .int x2), (3, .int x3), (4, .int x4), (5, .int x5)] [] := by
  unfold fX9_entryOf_L6 at hf
  refine z_iload 5 dX9_entryOf_6 rfl ?_
  refine z_bipush 100 dX9_entryOf_8 rfl ?_
  refine z_iload_n 1 dX9_entryOf_10 rfl rfl ?_
  refine z_imul dX9_entryOf_11 ?_
  refine z_aload_n 0 dX9_entryOf_12 rfl rfl ?_
  refine z_getr fdX9_17_7 (Or.inr ⟨_, rfl⟩) (hL.t 0 rfl) (hL.p 2 rfl) dX9_entryOf_13 ?_
  refine z_iload_n 1 dX9_entryOf_16 rfl rfl ?_
  obtain ⟨hi_1, hf⟩ := zck_some hf
  refine z_iald (hL.t 3 rfl) hi_1 dX9_entryOf_17 ?_
  refine z_iadd dX9_entryOf_18 ?_
  refine z_icmp_ge 65 dX9_entryOf_19 rfl hf (fun _ hf => ?_) (fun _ hf => ?_)
  · refine z_iconst (-1) dX9_entryOf_65 rfl ?_
    cases hf
    exact z_iret dX9_entryOf_66 rfl (hM.2 _ rfl)
  · refine z_aload_n 0 dX9_entryOf_22 rfl rfl ?_
    refine z_getr fdX9_23_7 (Or.inr ⟨_, rfl⟩) (hL.t 0 rfl) (hL.p 4 rfl) dX9_entryOf_23 ?_
    refine z_iload 5 dX9_entryOf_26 rfl ?_
    obtain ⟨hi_2, hf⟩ := zck_some hf
    refine z_iald (hL.t 5 rfl) hi_2 dX9_entryOf_28 ?_
    refine z_iload_n 2 dX9_entryOf_29 rfl rfl ?_
    refine z_icmp_ne 59 dX9_entryOf_30 rfl hf (fun _ hf => ?_) (fun _ hf => ?_)
    · refine z_iinc 5 (x5 + 1) dX9_entryOf_59 rfl rfl (by decide) (lc' := [(0, .ref a), (1, .int x1), (2, .int x2), (3, .int x3), (4, .int x4), (5, .int (x5 + 1))]) rfl ?_
      refine z_goto 6 dX9_entryOf_62 rfl ?_
      cases hf
      exact (hM.1 _ rfl)
    · refine z_aload_n 0 dX9_entryOf_33 rfl rfl ?_
      refine z_getr fdX9_26_7 (Or.inr ⟨_, rfl⟩) (hL.t 0 rfl) (hL.p 5 rfl) dX9_entryOf_34 ?_
      refine z_iload 5 dX9_entryOf_37 rfl ?_
      obtain ⟨hi_3, hf⟩ := zck_some hf
      refine z_iald (hL.t 6 rfl) hi_3 dX9_entryOf_39 ?_
      refine z_iload 4 dX9_entryOf_40 rfl ?_
      refine z_icmp_ne 59 dX9_entryOf_42 rfl hf (fun _ hf => ?_) (fun _ hf => ?_)
      · refine z_iinc 5 (x5 + 1) dX9_entryOf_59 rfl rfl (by decide) (lc' := [(0, .ref a), (1, .int x1), (2, .int x2), (3, .int x3), (4, .int x4), (5, .int (x5 + 1))]) rfl ?_
        refine z_goto 6 dX9_entryOf_62 rfl ?_
        cases hf
        exact (hM.1 _ rfl)
      · refine z_aload_n 0 dX9_entryOf_45 rfl rfl ?_
        refine z_getr fdX9_29_7 (Or.inr ⟨_, rfl⟩) (hL.t 0 rfl) (hL.p 6 rfl) dX9_entryOf_46 ?_
        refine z_iload 5 dX9_entryOf_49 rfl ?_
        obtain ⟨hi_4, hf⟩ := zck_some hf
        refine z_iald (hL.t 7 rfl) hi_4 dX9_entryOf_51 ?_
        refine z_iload_n 3 dX9_entryOf_52 rfl rfl ?_
        refine z_icmp_ne 59 dX9_entryOf_53 rfl hf (fun _ hf => ?_) (fun _ hf => ?_)
        · refine z_iinc 5 (x5 + 1) dX9_entryOf_59 rfl rfl (by decide) (lc' := [(0, .ref a), (1, .int x1), (2, .int x2), (3, .int x3), (4, .int x4), (5, .int (x5 + 1))]) rfl ?_
          refine z_goto 6 dX9_entryOf_62 rfl ?_
          cases hf
          exact (hM.1 _ rfl)
        · refine z_iload 5 dX9_entryOf_56 rfl ?_
          cases hf
          exact z_iret dX9_entryOf_58 rfl (hM.2 _ rfl)
noncomputable def fX9_entryOf (h : zH) (a : Nat) (x1 : Int32) (x2 : Int32) (x3 : Int32) (x4 : Int32) : Option (Int32) := zlp (fun s => fX9_entryOf_L6 h a x1 x2 x3 x4 s) ((100 : Int32) * x1)
theorem zX9_entryOf {F : zF} {h : zH} {a : Nat} {x1 : Int32} {x2 : Int32} {x3 : Int32} {x4 : Int32} {y : Int32} (hD : 1 ≤ F.2.1) (hL : zBlk mB mP h a) (hf : fX9_entryOf h a x1 x2 x3 x4 = some y) (hM : ((.inl (some (.int y)), h) : zX) = zEnd F) : Z F 6 cX9_entryOf RX9 "entryOf" (some .int) [] h 0 [(0, .ref a), (1, .int x1), (2, .int x2), (3, .int x3), (4, .int x4)] [] := by
  unfold fX9_entryOf at hf
  refine z_bipush 100 dX9_entryOf_0 rfl ?_
  refine z_iload_n 1 dX9_entryOf_2 rfl rfl ?_
  refine z_imul dX9_entryOf_3 ?_
  refine z_istore dX9_entryOf_4 (by decide) (lc' := [(0, .ref a), (1, .int x1), (2, .int x2), (3, .int x3), (4, .int x4), (5, .int ((100 : Int32) * x1))]) rfl ?_
  exact z_loop (fun (s : Int32) => Z F 6 cX9_entryOf RX9 "entryOf" (some .int) [] h 6 [(0, .ref a), (1, .int x1), (2, .int x2), (3, .int x3), (4, .int x4), (5, .int s)] []) (fun (r : Int32) => ((.inl (some (.int r)), h) : zX) = zEnd F) (fun s y hb hs hr => zX9_entryOf_L6 hD hL hb ⟨hs, hr⟩) hf hM
theorem ctX9_entryOf {l : Launch} {h : zH} {a : Nat} {x1 : Int32} {x2 : Int32} {x3 : Int32} {x4 : Int32} {v : Int32} (hL : zBlk mB mP h a) (hf : fX9_entryOf h a x1 x2 x3 x4 = some v) : zC l yX9_entryOf (ws_ yX9_entryOf cX9_entryOf 6 (some .int)) 1 [.ref a, .int x1, .int x2, .int x3, .int x4] h (.inl (some (.int v)), h) :=
  z_start (by decide) (Nat.le_of_ble_eq_true rfl) (zX9_entryOf (F := (l, 1, h, (.inl (some (.int v)), h))) (Nat.le_refl _) hL hf rfl)
theorem svX9_181_7 : zIv RX9 181 yX9_fixed (ws_ yX9_fixed cX9_fixed 2 (some .int)) 2 7 1 := ⟨zGood_c q1634 q109, ⟨_, _, rfl, rfl, qs50⟩, Or.inl q1631, q1633, ⟨by decide, by decide⟩, by decide +kernel⟩
theorem ssX9_184 : zIs RX9 184 yX9_isText (ws_ yX9_isText cX9_isText 3 (some .boolean)) 3 3 := ⟨zGood_c q1637 q109, Or.inl q1635, q1636, ⟨by decide, by decide⟩, by decide +kernel⟩
theorem ssX9_187 : zIs RX9 187 yX9_isPoint (ws_ yX9_isPoint cX9_isPoint 1 (some .boolean)) 1 1 := ⟨zGood_c q1640 q109, Or.inl q1638, q1639, ⟨by decide, by decide⟩, by decide +kernel⟩
theorem svX9_190_7 : zIv RX9 190 yX9_entryOf (ws_ yX9_entryOf cX9_entryOf 6 (some .int)) 6 7 4 := ⟨zGood_c q1647 q109, ⟨_, _, rfl, rfl, qs51⟩, Or.inl q1644, q1646, ⟨by decide, by decide⟩, by decide +kernel⟩
noncomputable def fX9_entry_J166 (h : zH) (a : Nat) (x1 : Int32) (x8 : Int32) (k0 : Int32) (k1 : Int32) : Option (Int32 × zH) := zck (vp_in k1 1100) (zck (zB k0) (zlet (zsI h (a + 9) k1.toNatClampNeg k0) (fun h_22 => if x8 < 0 then (zck (vp_in x1 11) (zck (vp_in x1 11) (zlet (zsI h_22 (a + 3) x1.toNatClampNeg ((zI h_22 (a + 3) x1.toNatClampNeg) + 1)) (fun h_26 => some ((0, h_26)))))) else (some ((1, h_22))))))
theorem zX9_entry_J166 {F : zF} {h : zH} {a : Nat} {x1 : Int32} {x8 : Int32} {k0 : Int32} {k1 : Int32} {y : Int32 × zH} (hD : 4 ≤ F.2.1) (hL : zBlk mB mP h a) (hf : fX9_entry_J166 h a x1 x8 k0 k1 = some y) (hM : ((.inl (some (.int y.1)), y.2) : zX) = zEnd F) : Z F 10 cX9_entry RX9 "entry" (some .int) [] h 166 [(0, .ref a), (1, .int x1), (8, .int x8)] [.int k0, .int k1, .ref (a + 9)] := by
  unfold fX9_entry_J166 at hf
  obtain ⟨hi_21, hf⟩ := zck_some hf
  obtain ⟨hz_23, hf⟩ := zck_some hf
  obtain ⟨h_22, he, hf⟩ := zlet_some hf
  refine z_zast hz_23 (hL.t 9 rfl) (hL.nz 9) hi_21 he dX9_entry_166 ?_
  have hL := hL.I he
  refine z_iload 2 dX9_entry_167 rfl ?_
  refine z_if_lt 174 dX9_entry_169 rfl hf (fun _ hf => ?_) (fun _ hf => ?_)
  · refine z_aload_n 0 dX9_entry_174 rfl rfl ?_
    refine z_getr fdX9_17_7 (Or.inr ⟨_, rfl⟩) (hL.t 0 rfl) (hL.p 2 rfl) dX9_entry_175 ?_
    refine z_iload_n 1 dX9_entry_178 rfl rfl ?_
    refine z_dup2 dX9_entry_179 rfl rfl ?_
    obtain ⟨hi_24, hf⟩ := zck_some hf
    refine z_iald (hL.t 3 rfl) hi_24 dX9_entry_180 ?_
    refine z_iconst 1 dX9_entry_181 rfl ?_
    refine z_iadd dX9_entry_182 ?_
    obtain ⟨hi_25, hf⟩ := zck_some hf
    obtain ⟨h_26, he, hf⟩ := zlet_some hf
    refine z_iast (hL.t 3 rfl) (hL.nz 3) hi_25 he dX9_entry_183 ?_
    have hL := hL.I he
    refine z_iconst 0 dX9_entry_184 rfl ?_
    cases hf
    exact z_iret dX9_entry_185 rfl hM
  · refine z_iconst 1 dX9_entry_172 rfl ?_
    cases hf
    exact z_iret dX9_entry_173 rfl hM
noncomputable def fX9_entry_J114 (h : zH) (a : Nat) (x1 : Int32) (x2 : Int32) (x3 : Int32) (x4 : Int32) (x5 : Int32) (x7 : Int32) (x8 : Int32) (k0 : Int32) : Option (Int32 × zH) := zck (vp_in k0 1100) (zlet (zsI h (a + 5) k0.toNatClampNeg x2) (fun h_14 => zck (vp_in k0 1100) (zlet (zsI h_14 (a + 6) k0.toNatClampNeg x4) (fun h_16 => zck (vp_in k0 1100) (zlet (zsI h_16 (a + 7) k0.toNatClampNeg x3) (fun h_18 => zck (vp_in k0 1100) (zlet (zsI h_18 (a + 8) k0.toNatClampNeg x7) (fun h_20 => if x5 < 0 then (fX9_entry_J166 h_20 a x1 x8 0 k0) else (fX9_entry_J166 h_20 a x1 x8 1 k0)))))))))
theorem zX9_entry_J114 {F : zF} {h : zH} {a : Nat} {x1 : Int32} {x2 : Int32} {x3 : Int32} {x4 : Int32} {x5 : Int32} {x7 : Int32} {x8 : Int32} {k0 : Int32} {y : Int32 × zH} (hD : 4 ≤ F.2.1) (hL : zBlk mB mP h a) (hf : fX9_entry_J114 h a x1 x2 x3 x4 x5 x7 x8 k0 = some y) (hM : ((.inl (some (.int y.1)), y.2) : zX) = zEnd F) : Z F 10 cX9_entry RX9 "entry" (some .int) [] h 114 [(0, .ref a), (1, .int x1), (2, .int x2), (3, .int x3), (4, .int x4), (5, .int x5), (7, .int x7), (8, .int x8)] [.int k0] := by
  unfold fX9_entry_J114 at hf
  refine z_istore dX9_entry_114 (by decide) (lc' := [(0, .ref a), (1, .int x1), (2, .int x2), (3, .int x3), (4, .int x4), (5, .int x5), (7, .int x7), (8, .int x8), (9, .int k0)]) rfl ?_
  refine z_aload_n 0 dX9_entry_116 rfl rfl ?_
  refine z_getr fdX9_23_7 (Or.inr ⟨_, rfl⟩) (hL.t 0 rfl) (hL.p 4 rfl) dX9_entry_117 ?_
  refine z_iload 8 dX9_entry_120 rfl ?_
  refine z_iload_n 2 dX9_entry_122 rfl rfl ?_
  obtain ⟨hi_13, hf⟩ := zck_some hf
  obtain ⟨h_14, he, hf⟩ := zlet_some hf
  refine z_iast (hL.t 5 rfl) (hL.nz 5) hi_13 he dX9_entry_123 ?_
  have hL := hL.I he
  refine z_aload_n 0 dX9_entry_124 rfl rfl ?_
  refine z_getr fdX9_26_7 (Or.inr ⟨_, rfl⟩) (hL.t 0 rfl) (hL.p 5 rfl) dX9_entry_125 ?_
  refine z_iload 8 dX9_entry_128 rfl ?_
  refine z_iload 4 dX9_entry_130 rfl ?_
  obtain ⟨hi_15, hf⟩ := zck_some hf
  obtain ⟨h_16, he, hf⟩ := zlet_some hf
  refine z_iast (hL.t 6 rfl) (hL.nz 6) hi_15 he dX9_entry_132 ?_
  have hL := hL.I he
  refine z_aload_n 0 dX9_entry_133 rfl rfl ?_
  refine z_getr fdX9_29_7 (Or.inr ⟨_, rfl⟩) (hL.t 0 rfl) (hL.p 6 rfl) dX9_entry_134 ?_
  refine z_iload 8 dX9_entry_137 rfl ?_
  refine z_iload_n 3 dX9_entry_139 rfl rfl ?_
  obtain ⟨hi_17, hf⟩ := zck_some hf
  obtain ⟨h_18, he, hf⟩ := zlet_some hf
  refine z_iast (hL.t 7 rfl) (hL.nz 7) hi_17 he dX9_entry_140 ?_
  have hL := hL.I he
  refine z_aload_n 0 dX9_entry_141 rfl rfl ?_
  refine z_getr fdX9_32_7 (Or.inr ⟨_, rfl⟩) (hL.t 0 rfl) (hL.p 7 rfl) dX9_entry_142 ?_
  refine z_iload 8 dX9_entry_145 rfl ?_
  refine z_iload 6 dX9_entry_147 rfl ?_
  obtain ⟨hi_19, hf⟩ := zck_some hf
  obtain ⟨h_20, he, hf⟩ := zlet_some hf
  refine z_iast (hL.t 8 rfl) (hL.nz 8) hi_19 he dX9_entry_149 ?_
  have hL := hL.I he
  refine z_aload_n 0 dX9_entry_150 rfl rfl ?_
  refine z_getr fdX9_35_7 (Or.inr ⟨_, rfl⟩) (hL.t 0 rfl) (hL.p 8 rfl) dX9_entry_151 ?_
  refine z_iload 8 dX9_entry_154 rfl ?_
  refine z_iload 5 dX9_entry_156 rfl ?_
  refine z_if_lt 165 dX9_entry_158 rfl hf (fun _ hf => ?_) (fun _ hf => ?_)
  · refine z_iconst 0 dX9_entry_165 rfl ?_
    refine z_sub [0, 1, 7] rfl ?_
    exact zX9_entry_J166 hD hL hf hM
  · refine z_iconst 1 dX9_entry_161 rfl ?_
    refine z_goto 166 dX9_entry_162 rfl ?_
    refine z_sub [0, 1, 7] rfl ?_
    exact zX9_entry_J166 hD hL hf hM
noncomputable def fX9_entry_J93 (h : zH) (a : Nat) (x1 : Int32) (x2 : Int32) (x3 : Int32) (x4 : Int32) (x5 : Int32) (x7 : Int32) (x8 : Int32) : Option (Int32 × zH) := if x8 < 0 then (zck (vp_in x1 11) (fX9_entry_J114 h a x1 x2 x3 x4 x5 x7 x8 (((100 : Int32) * x1) + (zI h (a + 3) x1.toNatClampNeg)))) else (fX9_entry_J114 h a x1 x2 x3 x4 x5 x7 x8 x8)
theorem zX9_entry_J93 {F : zF} {h : zH} {a : Nat} {x1 : Int32} {x2 : Int32} {x3 : Int32} {x4 : Int32} {x5 : Int32} {x7 : Int32} {x8 : Int32} {y : Int32 × zH} (hD : 4 ≤ F.2.1) (hL : zBlk mB mP h a) (hf : fX9_entry_J93 h a x1 x2 x3 x4 x5 x7 x8 = some y) (hM : ((.inl (some (.int y.1)), y.2) : zX) = zEnd F) : Z F 10 cX9_entry RX9 "entry" (some .int) [] h 93 [(0, .ref a), (1, .int x1), (2, .int x2), (3, .int x3), (4, .int x4), (5, .int x5), (7, .int x7), (8, .int x8)] [] := by
  unfold fX9_entry_J93 at hf
  refine z_iload 7 dX9_entry_93 rfl ?_
  refine z_if_lt 103 dX9_entry_95 rfl hf (fun _ hf => ?_) (fun _ hf => ?_)
  · refine z_bipush 100 dX9_entry_103 rfl ?_
    refine z_iload_n 1 dX9_entry_105 rfl rfl ?_
    refine z_imul dX9_entry_106 ?_
    refine z_aload_n 0 dX9_entry_107 rfl rfl ?_
    refine z_getr fdX9_17_7 (Or.inr ⟨_, rfl⟩) (hL.t 0 rfl) (hL.p 2 rfl) dX9_entry_108 ?_
    refine z_iload_n 1 dX9_entry_111 rfl rfl ?_
    obtain ⟨hi_12, hf⟩ := zck_some hf
    refine z_iald (hL.t 3 rfl) hi_12 dX9_entry_112 ?_
    refine z_iadd dX9_entry_113 ?_
    exact zX9_entry_J114 hD hL hf hM
  · refine z_iload 7 dX9_entry_98 rfl ?_
    refine z_goto 114 dX9_entry_100 rfl ?_
    exact zX9_entry_J114 hD hL hf hM
noncomputable def fX9_entry_J33 (h : zH) (a : Nat) (x1 : Int32) (x2 : Int32) (x3 : Int32) (x4 : Int32) (x5 : Int32) (k0 : Int32) : Option (Int32 × zH) := zb1 (fX9_isText x2 x3 x4) (fun v_4 => if v_4 = 0 then (zb2 (fX9_tell h a ((-1))) (fun v_6 h_7 => some ((v_6, h_7)))) else (zb1 (fX9_isPoint k0) (fun v_9 => if v_9 = 0 then (zb2 (fX9_tell h a ((-1))) (fun v_32 h_33 => some ((v_32, h_33)))) else (zb1 (fX9_entryOf h a x1 x2 x3 x4) (fun v_11 => if 0 ≤ v_11 then (fX9_entry_J93 h a x1 x2 x3 x4 x5 k0 v_11) else (zck (vp_in x1 11) (if (zI h (a + 3) x1.toNatClampNeg) = 100 then (zb2 (fX9_tell h a ((-6))) (fun v_29 h_30 => some ((v_29, h_30)))) else (fX9_entry_J93 h a x1 x2 x3 x4 x5 k0 v_11))))))))
theorem zX9_entry_J33 {F : zF} {h : zH} {a : Nat} {x1 : Int32} {x2 : Int32} {x3 : Int32} {x4 : Int32} {x5 : Int32} {k0 : Int32} {y : Int32 × zH} (hD : 4 ≤ F.2.1) (hL : zBlk mB mP h a) (hf : fX9_entry_J33 h a x1 x2 x3 x4 x5 k0 = some y) (hM : ((.inl (some (.int y.1)), y.2) : zX) = zEnd F) : Z F 10 cX9_entry RX9 "entry" (some .int) [] h 33 [(0, .ref a), (1, .int x1), (2, .int x2), (3, .int x3), (4, .int x4), (5, .int x5)] [.int k0] := by
  unfold fX9_entry_J33 at hf
  refine z_istore dX9_entry_33 (by decide) (lc' := [(0, .ref a), (1, .int x1), (2, .int x2), (3, .int x3), (4, .int x4), (5, .int x5), (7, .int k0)]) rfl ?_
  refine z_iload_n 2 dX9_entry_35 rfl rfl ?_
  refine z_iload_n 3 dX9_entry_36 rfl rfl ?_
  refine z_iload 4 dX9_entry_37 rfl ?_
  obtain ⟨v_4, hc_3, hf⟩ := zb1_some hf
  refine z_invSi ssX9_184 (ctX9_isText hc_3) ⟨Nat.le_trans (by decide) hD, by decide⟩ rfl rfl (Nat.le_of_ble_eq_true rfl) dX9_entry_39 ?_
  refine z_if_eq 53 dX9_entry_42 rfl hf (fun _ hf => ?_) (fun _ hf => ?_)
  · refine z_aload_n 0 dX9_entry_53 rfl rfl ?_
    refine z_iconst (-1) dX9_entry_54 rfl ?_
    obtain ⟨v_6, h_7, hc_5, hf⟩ := zb2_some hf
    have hct := ctX9_tell (l := F.1) hL hc_5
    refine z_invVi svX9_166_7 hct (hL.t 0 rfl) ⟨Nat.le_trans (by decide) hD, by decide⟩ rfl rfl (Nat.le_of_ble_eq_true rfl) dX9_entry_55 ?_
    have hL := hL.ext mOk hct.1
    cases hf
    exact z_iret dX9_entry_58 rfl hM
  · refine z_iload 6 dX9_entry_45 rfl ?_
    obtain ⟨v_9, hc_8, hf⟩ := zb1_some hf
    refine z_invSi ssX9_187 (ctX9_isPoint hc_8) ⟨Nat.le_trans (by decide) hD, by decide⟩ rfl rfl (Nat.le_of_ble_eq_true rfl) dX9_entry_47 ?_
    refine z_if_ne 59 dX9_entry_50 rfl hf (fun _ hf => ?_) (fun _ hf => ?_)
    · refine z_aload_n 0 dX9_entry_59 rfl rfl ?_
      refine z_iload_n 1 dX9_entry_60 rfl rfl ?_
      refine z_iload_n 2 dX9_entry_61 rfl rfl ?_
      refine z_iload_n 3 dX9_entry_62 rfl rfl ?_
      refine z_iload 4 dX9_entry_63 rfl ?_
      obtain ⟨v_11, hc_10, hf⟩ := zb1_some hf
      refine z_invVi svX9_190_7 (ctX9_entryOf hL hc_10) (hL.t 0 rfl) ⟨Nat.le_trans (by decide) hD, by decide⟩ rfl rfl (Nat.le_of_ble_eq_true rfl) dX9_entry_65 ?_
      refine z_istore dX9_entry_68 (by decide) (lc' := [(0, .ref a), (1, .int x1), (2, .int x2), (3, .int x3), (4, .int x4), (5, .int x5), (7, .int k0), (8, .int v_11)]) rfl ?_
      refine z_iload 7 dX9_entry_70 rfl ?_
      refine z_if_ge 93 dX9_entry_72 rfl hf (fun _ hf => ?_) (fun _ hf => ?_)
      · exact zX9_entry_J93 hD hL hf hM
      · refine z_aload_n 0 dX9_entry_75 rfl rfl ?_
        refine z_getr fdX9_17_7 (Or.inr ⟨_, rfl⟩) (hL.t 0 rfl) (hL.p 2 rfl) dX9_entry_76 ?_
        refine z_iload_n 1 dX9_entry_79 rfl rfl ?_
        obtain ⟨hi_27, hf⟩ := zck_some hf
        refine z_iald (hL.t 3 rfl) hi_27 dX9_entry_80 ?_
        refine z_bipush 100 dX9_entry_81 rfl ?_
        refine z_icmp_ne 93 dX9_entry_83 rfl hf (fun _ hf => ?_) (fun _ hf => ?_)
        · exact zX9_entry_J93 hD hL hf hM
        · refine z_aload_n 0 dX9_entry_86 rfl rfl ?_
          refine z_bipush (-6) dX9_entry_87 rfl ?_
          obtain ⟨v_29, h_30, hc_28, hf⟩ := zb2_some hf
          have hct := ctX9_tell (l := F.1) hL hc_28
          refine z_invVi svX9_166_7 hct (hL.t 0 rfl) ⟨Nat.le_trans (by decide) hD, by decide⟩ rfl rfl (Nat.le_of_ble_eq_true rfl) dX9_entry_89 ?_
          have hL := hL.ext mOk hct.1
          cases hf
          exact z_iret dX9_entry_92 rfl hM
    · refine z_aload_n 0 dX9_entry_53 rfl rfl ?_
      refine z_iconst (-1) dX9_entry_54 rfl ?_
      obtain ⟨v_32, h_33, hc_31, hf⟩ := zb2_some hf
      have hct := ctX9_tell (l := F.1) hL hc_31
      refine z_invVi svX9_166_7 hct (hL.t 0 rfl) ⟨Nat.le_trans (by decide) hD, by decide⟩ rfl rfl (Nat.le_of_ble_eq_true rfl) dX9_entry_55 ?_
      have hL := hL.ext mOk hct.1
      cases hf
      exact z_iret dX9_entry_58 rfl hM
noncomputable def fX9_entry (h : zH) (a : Nat) (x1 : Int32) (x2 : Int32) (x3 : Int32) (x4 : Int32) (x5 : Int32) : Option (Int32 × zH) := zb1 (fX9_fixed h a x1) (fun v_2 => if v_2 = 0 then (if x5 < 0 then (fX9_entry_J33 h a x1 x2 x3 x4 x5 (((-1)) - x5)) else (fX9_entry_J33 h a x1 x2 x3 x4 x5 x5)) else (zb2 (fX9_tell h a v_2) (fun v_35 h_36 => some ((v_35, h_36)))))
theorem zX9_entry {F : zF} {h : zH} {a : Nat} {x1 : Int32} {x2 : Int32} {x3 : Int32} {x4 : Int32} {x5 : Int32} {y : Int32 × zH} (hD : 4 ≤ F.2.1) (hL : zBlk mB mP h a) (hf : fX9_entry h a x1 x2 x3 x4 x5 = some y) (hM : ((.inl (some (.int y.1)), y.2) : zX) = zEnd F) : Z F 10 cX9_entry RX9 "entry" (some .int) [] h 0 [(0, .ref a), (1, .int x1), (2, .int x2), (3, .int x3), (4, .int x4), (5, .int x5)] [] := by
  unfold fX9_entry at hf
  refine z_aload_n 0 dX9_entry_0 rfl rfl ?_
  refine z_iload_n 1 dX9_entry_1 rfl rfl ?_
  obtain ⟨v_2, hc_1, hf⟩ := zb1_some hf
  refine z_invVi svX9_181_7 (ctX9_fixed hL hc_1) (hL.t 0 rfl) ⟨Nat.le_trans (by decide) hD, by decide⟩ rfl rfl (Nat.le_of_ble_eq_true rfl) dX9_entry_2 ?_
  refine z_istore dX9_entry_5 (by decide) (lc' := [(0, .ref a), (1, .int x1), (2, .int x2), (3, .int x3), (4, .int x4), (5, .int x5), (6, .int v_2)]) rfl ?_
  refine z_iload 6 dX9_entry_7 rfl ?_
  refine z_if_eq 19 dX9_entry_9 rfl hf (fun _ hf => ?_) (fun _ hf => ?_)
  · refine z_iload 5 dX9_entry_19 rfl ?_
    refine z_if_lt 29 dX9_entry_21 rfl hf (fun _ hf => ?_) (fun _ hf => ?_)
    · refine z_iconst (-1) dX9_entry_29 rfl ?_
      refine z_iload 5 dX9_entry_30 rfl ?_
      refine z_isub dX9_entry_32 ?_
      refine z_sub [0, 1, 2, 3, 4, 5] rfl ?_
      exact zX9_entry_J33 hD hL hf hM
    · refine z_iload 5 dX9_entry_24 rfl ?_
      refine z_goto 33 dX9_entry_26 rfl ?_
      refine z_sub [0, 1, 2, 3, 4, 5] rfl ?_
      exact zX9_entry_J33 hD hL hf hM
  · refine z_aload_n 0 dX9_entry_12 rfl rfl ?_
    refine z_iload 6 dX9_entry_13 rfl ?_
    obtain ⟨v_35, h_36, hc_34, hf⟩ := zb2_some hf
    have hct := ctX9_tell (l := F.1) hL hc_34
    refine z_invVi svX9_166_7 hct (hL.t 0 rfl) ⟨Nat.le_trans (by decide) hD, by decide⟩ rfl rfl (Nat.le_of_ble_eq_true rfl) dX9_entry_15 ?_
    have hL := hL.ext mOk hct.1
    cases hf
    exact z_iret dX9_entry_18 rfl hM
theorem ctX9_entry {l : Launch} {h : zH} {a : Nat} {x1 : Int32} {x2 : Int32} {x3 : Int32} {x4 : Int32} {x5 : Int32} {v : Int32} {h' : zH} (hL : zBlk mB mP h a) (hf : fX9_entry h a x1 x2 x3 x4 x5 = some (v, h')) : zC l yX9_entry (ws_ yX9_entry cX9_entry 10 (some .int)) 4 [.ref a, .int x1, .int x2, .int x3, .int x4, .int x5] h (.inl (some (.int v)), h') :=
  z_start (by decide) (Nat.le_of_ble_eq_true rfl) (zX9_entry (F := (l, 4, h, (.inl (some (.int v)), h'))) (Nat.le_refl _) hL hf rfl)
noncomputable def fX9_shiftOf_L6 (h : zH) (a : Nat) (x1 : Int32) (x2 : Int32) (x3 : Int32) (x4 : Int32) : Option ((Int32) ⊕ (Int32)) := zck (vp_in x1 11) (if (((10 : Int32) * x1) + (zI h (a + 4) x1.toNatClampNeg)) ≤ x4 then (some (.inr ((-1)))) else (zck (vp_in x4 110) (if (zI h (a + 10) x4.toNatClampNeg) = x2 then (zck (vp_in x4 110) (if (zI h (a + 11) x4.toNatClampNeg) = x3 then (some (.inr x4)) else (some (.inl (x4 + 1))))) else (some (.inl (x4 + 1))))))
theorem zX9_shiftOf_L6 {F : zF} {h : zH} {a : Nat} {x1 : Int32} {x2 : Int32} {x3 : Int32} {x4 : Int32} {y : (Int32) ⊕ (Int32)} (hD : 1 ≤ F.2.1) (hL : zBlk mB mP h a) (hf : fX9_shiftOf_L6 h a x1 x2 x3 x4 = some y) (hM : ((∀ s' : Int32, y = .inl s' → Z F 5 cX9_shiftOf RX9 "shiftOf" (some .int) [] h 6 [(0, .ref a), (1, .int x1), (2, .int x2), (3, .int x3), (4, .int s')] []) ∧ ∀ r : Int32, y = .inr r → ((.inl (some (.int r)), h) : zX) = zEnd F)) : Z F 5 cX9_shiftOf RX9 "shiftOf" (some .int) [] h 6 [(0, .ref a), (1, .int x1), (2, .int x2), (3, .int x3), (4, .int x4)] [] := by
  unfold fX9_shiftOf_L6 at hf
  refine z_iload 4 dX9_shiftOf_6 rfl ?_
  refine z_bipush 10 dX9_shiftOf_8 rfl ?_
  refine z_iload_n 1 dX9_shiftOf_10 rfl rfl ?_
  refine z_imul dX9_shiftOf_11 ?_
  refine z_aload_n 0 dX9_shiftOf_12 rfl rfl ?_
  refine z_getr fdX9_20_7 (Or.inr ⟨_, rfl⟩) (hL.t 0 rfl) (hL.p 3 rfl) dX9_shiftOf_13 ?_
  refine z_iload_n 1 dX9_shiftOf_16 rfl rfl ?_
  obtain ⟨hi_1, hf⟩ := zck_some hf
  refine z_iald (hL.t 4 rfl) hi_1 dX9_shiftOf_17 ?_
  refine z_iadd dX9_shiftOf_18 ?_
  refine z_icmp_ge 53 dX9_shiftOf_19 rfl hf (fun _ hf => ?_) (fun _ hf => ?_)
  · refine z_iconst (-1) dX9_shiftOf_53 rfl ?_
    cases hf
    exact z_iret dX9_shiftOf_54 rfl (hM.2 _ rfl)
  · refine z_aload_n 0 dX9_shiftOf_22 rfl rfl ?_
    refine z_getr fdX9_38_7 (Or.inr ⟨_, rfl⟩) (hL.t 0 rfl) (hL.p 9 rfl) dX9_shiftOf_23 ?_
    refine z_iload 4 dX9_shiftOf_26 rfl ?_
    obtain ⟨hi_2, hf⟩ := zck_some hf
    refine z_iald (hL.t 10 rfl) hi_2 dX9_shiftOf_28 ?_
    refine z_iload_n 2 dX9_shiftOf_29 rfl rfl ?_
    refine z_icmp_ne 47 dX9_shiftOf_30 rfl hf (fun _ hf => ?_) (fun _ hf => ?_)
    · refine z_iinc 4 (x4 + 1) dX9_shiftOf_47 rfl rfl (by decide) (lc' := [(0, .ref a), (1, .int x1), (2, .int x2), (3, .int x3), (4, .int (x4 + 1))]) rfl ?_
      refine z_goto 6 dX9_shiftOf_50 rfl ?_
      cases hf
      exact (hM.1 _ rfl)
    · refine z_aload_n 0 dX9_shiftOf_33 rfl rfl ?_
      refine z_getr fdX9_41_7 (Or.inr ⟨_, rfl⟩) (hL.t 0 rfl) (hL.p 10 rfl) dX9_shiftOf_34 ?_
      refine z_iload 4 dX9_shiftOf_37 rfl ?_
      obtain ⟨hi_3, hf⟩ := zck_some hf
      refine z_iald (hL.t 11 rfl) hi_3 dX9_shiftOf_39 ?_
      refine z_iload_n 3 dX9_shiftOf_40 rfl rfl ?_
      refine z_icmp_ne 47 dX9_shiftOf_41 rfl hf (fun _ hf => ?_) (fun _ hf => ?_)
      · refine z_iinc 4 (x4 + 1) dX9_shiftOf_47 rfl rfl (by decide) (lc' := [(0, .ref a), (1, .int x1), (2, .int x2), (3, .int x3), (4, .int (x4 + 1))]) rfl ?_
        refine z_goto 6 dX9_shiftOf_50 rfl ?_
        cases hf
        exact (hM.1 _ rfl)
      · refine z_iload 4 dX9_shiftOf_44 rfl ?_
        cases hf
        exact z_iret dX9_shiftOf_46 rfl (hM.2 _ rfl)
noncomputable def fX9_shiftOf (h : zH) (a : Nat) (x1 : Int32) (x2 : Int32) (x3 : Int32) : Option (Int32) := zlp (fun s => fX9_shiftOf_L6 h a x1 x2 x3 s) ((10 : Int32) * x1)
theorem zX9_shiftOf {F : zF} {h : zH} {a : Nat} {x1 : Int32} {x2 : Int32} {x3 : Int32} {y : Int32} (hD : 1 ≤ F.2.1) (hL : zBlk mB mP h a) (hf : fX9_shiftOf h a x1 x2 x3 = some y) (hM : ((.inl (some (.int y)), h) : zX) = zEnd F) : Z F 5 cX9_shiftOf RX9 "shiftOf" (some .int) [] h 0 [(0, .ref a), (1, .int x1), (2, .int x2), (3, .int x3)] [] := by
  unfold fX9_shiftOf at hf
  refine z_bipush 10 dX9_shiftOf_0 rfl ?_
  refine z_iload_n 1 dX9_shiftOf_2 rfl rfl ?_
  refine z_imul dX9_shiftOf_3 ?_
  refine z_istore dX9_shiftOf_4 (by decide) (lc' := [(0, .ref a), (1, .int x1), (2, .int x2), (3, .int x3), (4, .int ((10 : Int32) * x1))]) rfl ?_
  exact z_loop (fun (s : Int32) => Z F 5 cX9_shiftOf RX9 "shiftOf" (some .int) [] h 6 [(0, .ref a), (1, .int x1), (2, .int x2), (3, .int x3), (4, .int s)] []) (fun (r : Int32) => ((.inl (some (.int r)), h) : zX) = zEnd F) (fun s y hb hs hr => zX9_shiftOf_L6 hD hL hb ⟨hs, hr⟩) hf hM
theorem ctX9_shiftOf {l : Launch} {h : zH} {a : Nat} {x1 : Int32} {x2 : Int32} {x3 : Int32} {v : Int32} (hL : zBlk mB mP h a) (hf : fX9_shiftOf h a x1 x2 x3 = some v) : zC l yX9_shiftOf (ws_ yX9_shiftOf cX9_shiftOf 5 (some .int)) 1 [.ref a, .int x1, .int x2, .int x3] h (.inl (some (.int v)), h) :=
  z_start (by decide) (Nat.le_of_ble_eq_true rfl) (zX9_shiftOf (F := (l, 1, h, (.inl (some (.int v)), h))) (Nat.le_refl _) hL hf rfl)
theorem svX9_194_7 : zIv RX9 194 yX9_shiftOf (ws_ yX9_shiftOf cX9_shiftOf 5 (some .int)) 5 7 3 := ⟨zGood_c q1655 q109, ⟨_, _, rfl, rfl, qs52⟩, Or.inl q1652, q1654, ⟨by decide, by decide⟩, by decide +kernel⟩
noncomputable def fX9_shift (h : zH) (a : Nat) (x1 : Int32) (x2 : Int32) (x3 : Int32) (x4 : Int32) (x5 : Int32) : Option (Int32 × zH) := zb1 (fX9_fixed h a x1) (fun v_2 => if v_2 = 0 then (zb1 (fX9_in x2 0 3) (fun v_4 => if v_4 = 0 then (zb2 (fX9_tell h a ((-1))) (fun v_6 h_7 => some ((v_6, h_7)))) else (zb1 (fX9_in x4 0 3) (fun v_9 => if v_9 = 0 then (zb2 (fX9_tell h a ((-1))) (fun v_11 h_12 => some ((v_11, h_12)))) else (if x2 = x4 then (zb2 (fX9_tell h a ((-1))) (fun v_14 h_15 => some ((v_14, h_15)))) else (zb1 (fX9_in x3 0 255) (fun v_17 => if v_17 = 0 then (zb2 (fX9_tell h a ((-1))) (fun v_41 h_42 => some ((v_41, h_42)))) else (zb1 (fX9_shiftOf h a x1 x2 x3) (fun v_19 => if v_19 < 0 then (zck (vp_in x1 11) (if (zI h (a + 4) x1.toNatClampNeg) = 10 then (zb2 (fX9_tell h a ((-6))) (fun v_35 h_36 => some ((v_35, h_36)))) else (zck (vp_in x1 11) (zck (vp_in (((10 : Int32) * x1) + (zI h (a + 4) x1.toNatClampNeg)) 110) (zlet (zsI h (a + 10) (((10 : Int32) * x1) + (zI h (a + 4) x1.toNatClampNeg)).toNatClampNeg x2) (fun h_23 => zck (vp_in (((10 : Int32) * x1) + (zI h (a + 4) x1.toNatClampNeg)) 110) (zlet (zsI h_23 (a + 11) (((10 : Int32) * x1) + (zI h (a + 4) x1.toNatClampNeg)).toNatClampNeg x3) (fun h_25 => zck (vp_in (((10 : Int32) * x1) + (zI h (a + 4) x1.toNatClampNeg)) 110) (zlet (zsI h_25 (a + 12) (((10 : Int32) * x1) + (zI h (a + 4) x1.toNatClampNeg)).toNatClampNeg x4) (fun h_27 => zck (vp_in (((10 : Int32) * x1) + (zI h (a + 4) x1.toNatClampNeg)) 110) (zck (zB x5) (zlet (zsI h_27 (a + 13) (((10 : Int32) * x1) + (zI h (a + 4) x1.toNatClampNeg)).toNatClampNeg x5) (fun h_29 => zck (vp_in x1 11) (zck (vp_in x1 11) (zlet (zsI h_29 (a + 4) x1.toNatClampNeg ((zI h_29 (a + 4) x1.toNatClampNeg) + 1)) (fun h_33 => some ((0, h_33)))))))))))))))))) else (zb2 (fX9_tell h a ((-7))) (fun v_38 h_39 => some ((v_38, h_39))))))))))))) else (zb2 (fX9_tell h a v_2) (fun v_44 h_45 => some ((v_44, h_45)))))
theorem zX9_shift {F : zF} {h : zH} {a : Nat} {x1 : Int32} {x2 : Int32} {x3 : Int32} {x4 : Int32} {x5 : Int32} {y : Int32 × zH} (hD : 4 ≤ F.2.1) (hL : zBlk mB mP h a) (hf : fX9_shift h a x1 x2 x3 x4 x5 = some y) (hM : ((.inl (some (.int y.1)), y.2) : zX) = zEnd F) : Z F 8 cX9_shift RX9 "shift" (some .int) [] h 0 [(0, .ref a), (1, .int x1), (2, .int x2), (3, .int x3), (4, .int x4), (5, .int x5)] [] := by
  unfold fX9_shift at hf
  refine z_aload_n 0 dX9_shift_0 rfl rfl ?_
  refine z_iload_n 1 dX9_shift_1 rfl rfl ?_
  obtain ⟨v_2, hc_1, hf⟩ := zb1_some hf
  refine z_invVi svX9_181_7 (ctX9_fixed hL hc_1) (hL.t 0 rfl) ⟨Nat.le_trans (by decide) hD, by decide⟩ rfl rfl (Nat.le_of_ble_eq_true rfl) dX9_shift_2 ?_
  refine z_istore dX9_shift_5 (by decide) (lc' := [(0, .ref a), (1, .int x1), (2, .int x2), (3, .int x3), (4, .int x4), (5, .int x5), (6, .int v_2)]) rfl ?_
  refine z_iload 6 dX9_shift_7 rfl ?_
  refine z_if_eq 19 dX9_shift_9 rfl hf (fun _ hf => ?_) (fun _ hf => ?_)
  · refine z_iload_n 2 dX9_shift_19 rfl rfl ?_
    refine z_iconst 0 dX9_shift_20 rfl ?_
    refine z_iconst 3 dX9_shift_21 rfl ?_
    obtain ⟨v_4, hc_3, hf⟩ := zb1_some hf
    refine z_invSi ssX9_156 (ctX9_in hc_3) ⟨Nat.le_trans (by decide) hD, by decide⟩ rfl rfl (Nat.le_of_ble_eq_true rfl) dX9_shift_22 ?_
    refine z_if_eq 55 dX9_shift_25 rfl hf (fun _ hf => ?_) (fun _ hf => ?_)
    · refine z_aload_n 0 dX9_shift_55 rfl rfl ?_
      refine z_iconst (-1) dX9_shift_56 rfl ?_
      obtain ⟨v_6, h_7, hc_5, hf⟩ := zb2_some hf
      have hct := ctX9_tell (l := F.1) hL hc_5
      refine z_invVi svX9_166_7 hct (hL.t 0 rfl) ⟨Nat.le_trans (by decide) hD, by decide⟩ rfl rfl (Nat.le_of_ble_eq_true rfl) dX9_shift_57 ?_
      have hL := hL.ext mOk hct.1
      cases hf
      exact z_iret dX9_shift_60 rfl hM
    · refine z_iload 4 dX9_shift_28 rfl ?_
      refine z_iconst 0 dX9_shift_30 rfl ?_
      refine z_iconst 3 dX9_shift_31 rfl ?_
      obtain ⟨v_9, hc_8, hf⟩ := zb1_some hf
      refine z_invSi ssX9_156 (ctX9_in hc_8) ⟨Nat.le_trans (by decide) hD, by decide⟩ rfl rfl (Nat.le_of_ble_eq_true rfl) dX9_shift_32 ?_
      refine z_if_eq 55 dX9_shift_35 rfl hf (fun _ hf => ?_) (fun _ hf => ?_)
      · refine z_aload_n 0 dX9_shift_55 rfl rfl ?_
        refine z_iconst (-1) dX9_shift_56 rfl ?_
        obtain ⟨v_11, h_12, hc_10, hf⟩ := zb2_some hf
        have hct := ctX9_tell (l := F.1) hL hc_10
        refine z_invVi svX9_166_7 hct (hL.t 0 rfl) ⟨Nat.le_trans (by decide) hD, by decide⟩ rfl rfl (Nat.le_of_ble_eq_true rfl) dX9_shift_57 ?_
        have hL := hL.ext mOk hct.1
        cases hf
        exact z_iret dX9_shift_60 rfl hM
      · refine z_iload_n 2 dX9_shift_38 rfl rfl ?_
        refine z_iload 4 dX9_shift_39 rfl ?_
        refine z_icmp_eq 55 dX9_shift_41 rfl hf (fun _ hf => ?_) (fun _ hf => ?_)
        · refine z_aload_n 0 dX9_shift_55 rfl rfl ?_
          refine z_iconst (-1) dX9_shift_56 rfl ?_
          obtain ⟨v_14, h_15, hc_13, hf⟩ := zb2_some hf
          have hct := ctX9_tell (l := F.1) hL hc_13
          refine z_invVi svX9_166_7 hct (hL.t 0 rfl) ⟨Nat.le_trans (by decide) hD, by decide⟩ rfl rfl (Nat.le_of_ble_eq_true rfl) dX9_shift_57 ?_
          have hL := hL.ext mOk hct.1
          cases hf
          exact z_iret dX9_shift_60 rfl hM
        · refine z_iload_n 3 dX9_shift_44 rfl rfl ?_
          refine z_iconst 0 dX9_shift_45 rfl ?_
          refine z_sipush 255 dX9_shift_46 rfl ?_
          obtain ⟨v_17, hc_16, hf⟩ := zb1_some hf
          refine z_invSi ssX9_156 (ctX9_in hc_16) ⟨Nat.le_trans (by decide) hD, by decide⟩ rfl rfl (Nat.le_of_ble_eq_true rfl) dX9_shift_49 ?_
          refine z_if_ne 61 dX9_shift_52 rfl hf (fun _ hf => ?_) (fun _ hf => ?_)
          · refine z_aload_n 0 dX9_shift_61 rfl rfl ?_
            refine z_iload_n 1 dX9_shift_62 rfl rfl ?_
            refine z_iload_n 2 dX9_shift_63 rfl rfl ?_
            refine z_iload_n 3 dX9_shift_64 rfl rfl ?_
            obtain ⟨v_19, hc_18, hf⟩ := zb1_some hf
            refine z_invVi svX9_194_7 (ctX9_shiftOf hL hc_18) (hL.t 0 rfl) ⟨Nat.le_trans (by decide) hD, by decide⟩ rfl rfl (Nat.le_of_ble_eq_true rfl) dX9_shift_65 ?_
            refine z_if_lt 78 dX9_shift_68 rfl hf (fun _ hf => ?_) (fun _ hf => ?_)
            · refine z_aload_n 0 dX9_shift_78 rfl rfl ?_
              refine z_getr fdX9_20_7 (Or.inr ⟨_, rfl⟩) (hL.t 0 rfl) (hL.p 3 rfl) dX9_shift_79 ?_
              refine z_iload_n 1 dX9_shift_82 rfl rfl ?_
              obtain ⟨hi_20, hf⟩ := zck_some hf
              refine z_iald (hL.t 4 rfl) hi_20 dX9_shift_83 ?_
              refine z_bipush 10 dX9_shift_84 rfl ?_
              refine z_icmp_ne 96 dX9_shift_86 rfl hf (fun _ hf => ?_) (fun _ hf => ?_)
              · refine z_bipush 10 dX9_shift_96 rfl ?_
                refine z_iload_n 1 dX9_shift_98 rfl rfl ?_
                refine z_imul dX9_shift_99 ?_
                refine z_aload_n 0 dX9_shift_100 rfl rfl ?_
                refine z_getr fdX9_20_7 (Or.inr ⟨_, rfl⟩) (hL.t 0 rfl) (hL.p 3 rfl) dX9_shift_101 ?_
                refine z_iload_n 1 dX9_shift_104 rfl rfl ?_
                obtain ⟨hi_21, hf⟩ := zck_some hf
                refine z_iald (hL.t 4 rfl) hi_21 dX9_shift_105 ?_
                refine z_iadd dX9_shift_106 ?_
                refine z_istore dX9_shift_107 (by decide) (lc' := [(0, .ref a), (1, .int x1), (2, .int x2), (3, .int x3), (4, .int x4), (5, .int x5), (6, .int v_2), (7, .int (((10 : Int32) * x1) + (zI h (a + 4) x1.toNatClampNeg)))]) rfl ?_
                refine z_aload_n 0 dX9_shift_109 rfl rfl ?_
                refine z_getr fdX9_38_7 (Or.inr ⟨_, rfl⟩) (hL.t 0 rfl) (hL.p 9 rfl) dX9_shift_110 ?_
                refine z_iload 7 dX9_shift_113 rfl ?_
                refine z_iload_n 2 dX9_shift_115 rfl rfl ?_
                obtain ⟨hi_22, hf⟩ := zck_some hf
                obtain ⟨h_23, he, hf⟩ := zlet_some hf
                refine z_iast (hL.t 10 rfl) (hL.nz 10) hi_22 he dX9_shift_116 ?_
                have hL := hL.I he
                refine z_aload_n 0 dX9_shift_117 rfl rfl ?_
                refine z_getr fdX9_41_7 (Or.inr ⟨_, rfl⟩) (hL.t 0 rfl) (hL.p 10 rfl) dX9_shift_118 ?_
                refine z_iload 7 dX9_shift_121 rfl ?_
                refine z_iload_n 3 dX9_shift_123 rfl rfl ?_
                obtain ⟨hi_24, hf⟩ := zck_some hf
                obtain ⟨h_25, he, hf⟩ := zlet_some hf
                refine z_iast (hL.t 11 rfl) (hL.nz 11) hi_24 he dX9_shift_124 ?_
                have hL := hL.I he
                refine z_aload_n 0 dX9_shift_125 rfl rfl ?_
                refine z_getr fdX9_44_7 (Or.inr ⟨_, rfl⟩) (hL.t 0 rfl) (hL.p 11 rfl) dX9_shift_126 ?_
                refine z_iload 7 dX9_shift_129 rfl ?_
                refine z_iload 4 dX9_shift_131 rfl ?_
                obtain ⟨hi_26, hf⟩ := zck_some hf
                obtain ⟨h_27, he, hf⟩ := zlet_some hf
                refine z_iast (hL.t 12 rfl) (hL.nz 12) hi_26 he dX9_shift_133 ?_
                have hL := hL.I he
                refine z_aload_n 0 dX9_shift_134 rfl rfl ?_
                refine z_getr fdX9_47_7 (Or.inr ⟨_, rfl⟩) (hL.t 0 rfl) (hL.p 12 rfl) dX9_shift_135 ?_
                refine z_iload 7 dX9_shift_138 rfl ?_
                refine z_iload 5 dX9_shift_140 rfl ?_
                obtain ⟨hi_28, hf⟩ := zck_some hf
                obtain ⟨hz_30, hf⟩ := zck_some hf
                obtain ⟨h_29, he, hf⟩ := zlet_some hf
                refine z_zast hz_30 (hL.t 13 rfl) (hL.nz 13) hi_28 he dX9_shift_142 ?_
                have hL := hL.I he
                refine z_aload_n 0 dX9_shift_143 rfl rfl ?_
                refine z_getr fdX9_20_7 (Or.inr ⟨_, rfl⟩) (hL.t 0 rfl) (hL.p 3 rfl) dX9_shift_144 ?_
                refine z_iload_n 1 dX9_shift_147 rfl rfl ?_
                refine z_dup2 dX9_shift_148 rfl rfl ?_
                obtain ⟨hi_31, hf⟩ := zck_some hf
                refine z_iald (hL.t 4 rfl) hi_31 dX9_shift_149 ?_
                refine z_iconst 1 dX9_shift_150 rfl ?_
                refine z_iadd dX9_shift_151 ?_
                obtain ⟨hi_32, hf⟩ := zck_some hf
                obtain ⟨h_33, he, hf⟩ := zlet_some hf
                refine z_iast (hL.t 4 rfl) (hL.nz 4) hi_32 he dX9_shift_152 ?_
                have hL := hL.I he
                refine z_iconst 0 dX9_shift_153 rfl ?_
                cases hf
                exact z_iret dX9_shift_154 rfl hM
              · refine z_aload_n 0 dX9_shift_89 rfl rfl ?_
                refine z_bipush (-6) dX9_shift_90 rfl ?_
                obtain ⟨v_35, h_36, hc_34, hf⟩ := zb2_some hf
                have hct := ctX9_tell (l := F.1) hL hc_34
                refine z_invVi svX9_166_7 hct (hL.t 0 rfl) ⟨Nat.le_trans (by decide) hD, by decide⟩ rfl rfl (Nat.le_of_ble_eq_true rfl) dX9_shift_92 ?_
                have hL := hL.ext mOk hct.1
                cases hf
                exact z_iret dX9_shift_95 rfl hM
            · refine z_aload_n 0 dX9_shift_71 rfl rfl ?_
              refine z_bipush (-7) dX9_shift_72 rfl ?_
              obtain ⟨v_38, h_39, hc_37, hf⟩ := zb2_some hf
              have hct := ctX9_tell (l := F.1) hL hc_37
              refine z_invVi svX9_166_7 hct (hL.t 0 rfl) ⟨Nat.le_trans (by decide) hD, by decide⟩ rfl rfl (Nat.le_of_ble_eq_true rfl) dX9_shift_74 ?_
              have hL := hL.ext mOk hct.1
              cases hf
              exact z_iret dX9_shift_77 rfl hM
          · refine z_aload_n 0 dX9_shift_55 rfl rfl ?_
            refine z_iconst (-1) dX9_shift_56 rfl ?_
            obtain ⟨v_41, h_42, hc_40, hf⟩ := zb2_some hf
            have hct := ctX9_tell (l := F.1) hL hc_40
            refine z_invVi svX9_166_7 hct (hL.t 0 rfl) ⟨Nat.le_trans (by decide) hD, by decide⟩ rfl rfl (Nat.le_of_ble_eq_true rfl) dX9_shift_57 ?_
            have hL := hL.ext mOk hct.1
            cases hf
            exact z_iret dX9_shift_60 rfl hM
  · refine z_aload_n 0 dX9_shift_12 rfl rfl ?_
    refine z_iload 6 dX9_shift_13 rfl ?_
    obtain ⟨v_44, h_45, hc_43, hf⟩ := zb2_some hf
    have hct := ctX9_tell (l := F.1) hL hc_43
    refine z_invVi svX9_166_7 hct (hL.t 0 rfl) ⟨Nat.le_trans (by decide) hD, by decide⟩ rfl rfl (Nat.le_of_ble_eq_true rfl) dX9_shift_15 ?_
    have hL := hL.ext mOk hct.1
    cases hf
    exact z_iret dX9_shift_18 rfl hM
theorem ctX9_shift {l : Launch} {h : zH} {a : Nat} {x1 : Int32} {x2 : Int32} {x3 : Int32} {x4 : Int32} {x5 : Int32} {v : Int32} {h' : zH} (hL : zBlk mB mP h a) (hf : fX9_shift h a x1 x2 x3 x4 x5 = some (v, h')) : zC l yX9_shift (ws_ yX9_shift cX9_shift 8 (some .int)) 4 [.ref a, .int x1, .int x2, .int x3, .int x4, .int x5] h (.inl (some (.int v)), h') :=
  z_start (by decide) (Nat.le_of_ble_eq_true rfl) (zX9_shift (F := (l, 4, h, (.inl (some (.int v)), h'))) (Nat.le_refl _) hL hf rfl)
noncomputable def fX9_drop_L136 (h : zH) (a : Nat) (x1 : Int32) (x6 : Int32) : Option ((zH × Int32) ⊕ ((Int32 × zH))) := zck (vp_in x1 11) (if (((10 : Int32) * x1) + (zI h (a + 4) x1.toNatClampNeg)) ≤ x6 then (some (.inr ((1, h)))) else (zb1 (fX9_copyShift h a (x6 + 1) x6) (fun h_13 => some (.inl ((h_13, x6 + 1))))))
theorem zX9_drop_L136 {F : zF} {h : zH} {a : Nat} {x1 : Int32} {x6 : Int32} {y : (zH × Int32) ⊕ ((Int32 × zH))} (hD : 4 ≤ F.2.1) (hL : zBlk mB mP h a) (hf : fX9_drop_L136 h a x1 x6 = some y) (hM : ((∀ s' : zH × Int32, y = .inl s' → (zBlk mB mP s'.1 a → Z F 7 cX9_drop RX9 "drop" (some .int) [] s'.1 136 [(0, .ref a), (1, .int x1), (6, .int s'.2)] [])) ∧ ∀ r : (Int32 × zH), y = .inr r → ((.inl (some (.int r.1)), r.2) : zX) = zEnd F)) : Z F 7 cX9_drop RX9 "drop" (some .int) [] h 136 [(0, .ref a), (1, .int x1), (6, .int x6)] [] := by
  unfold fX9_drop_L136 at hf
  refine z_iload 2 dX9_drop_136 rfl ?_
  refine z_bipush 10 dX9_drop_138 rfl ?_
  refine z_iload_n 1 dX9_drop_140 rfl rfl ?_
  refine z_imul dX9_drop_141 ?_
  refine z_aload_n 0 dX9_drop_142 rfl rfl ?_
  refine z_getr fdX9_20_7 (Or.inr ⟨_, rfl⟩) (hL.t 0 rfl) (hL.p 3 rfl) dX9_drop_143 ?_
  refine z_iload_n 1 dX9_drop_146 rfl rfl ?_
  obtain ⟨hi_10, hf⟩ := zck_some hf
  refine z_iald (hL.t 4 rfl) hi_10 dX9_drop_147 ?_
  refine z_iadd dX9_drop_148 ?_
  refine z_icmp_ge 168 dX9_drop_149 rfl hf (fun _ hf => ?_) (fun _ hf => ?_)
  · refine z_iconst 1 dX9_drop_168 rfl ?_
    cases hf
    exact z_iret dX9_drop_169 rfl (hM.2 _ rfl)
  · refine z_aload_n 0 dX9_drop_152 rfl rfl ?_
    refine z_iload 2 dX9_drop_153 rfl ?_
    refine z_iconst 1 dX9_drop_155 rfl ?_
    refine z_iadd dX9_drop_156 ?_
    refine z_iload 2 dX9_drop_157 rfl ?_
    obtain ⟨h_13, hc_11, hf⟩ := zb1_some hf
    have hct := ctX9_copyShift (l := F.1) hL hc_11
    refine z_invVv svX9_178_7 hct (hL.t 0 rfl) ⟨Nat.le_trans (by decide) hD, by decide⟩ rfl rfl (Nat.le_of_ble_eq_true rfl) dX9_drop_159 ?_
    have hL := hL.ext mOk hct.1
    refine z_iinc 2 (x6 + 1) dX9_drop_162 rfl rfl (by decide) (lc' := [(0, .ref a), (1, .int x1), (6, .int (x6 + 1))]) rfl ?_
    refine z_goto 136 dX9_drop_165 rfl ?_
    cases hf
    exact (hM.1 _ rfl) hL
noncomputable def fX9_drop_J112 (h : zH) (a : Nat) (x1 : Int32) (k0 : Int32) : Option (Int32 × zH) := if 0 ≤ k0 then (zck (vp_in x1 11) (zck (vp_in x1 11) (zlet (zsI h (a + 4) x1.toNatClampNeg ((zI h (a + 4) x1.toNatClampNeg) - 1)) (fun h_9 => zlp (fun s => fX9_drop_L136 s.1 a x1 s.2) (h_9, k0))))) else (zb2 (fX9_tell h a ((-2))) (fun v_15 h_16 => some ((v_15, h_16))))
theorem zX9_drop_J112 {F : zF} {h : zH} {a : Nat} {x1 : Int32} {k0 : Int32} {y : Int32 × zH} (hD : 4 ≤ F.2.1) (hL : zBlk mB mP h a) (hf : fX9_drop_J112 h a x1 k0 = some y) (hM : ((.inl (some (.int y.1)), y.2) : zX) = zEnd F) : Z F 7 cX9_drop RX9 "drop" (some .int) [] h 112 [(0, .ref a), (1, .int x1)] [.int k0] := by
  unfold fX9_drop_J112 at hf
  refine z_istore dX9_drop_112 (by decide) (lc' := [(0, .ref a), (1, .int x1), (6, .int k0)]) rfl ?_
  refine z_iload 2 dX9_drop_114 rfl ?_
  refine z_if_ge 126 dX9_drop_116 rfl hf (fun _ hf => ?_) (fun _ hf => ?_)
  · refine z_aload_n 0 dX9_drop_126 rfl rfl ?_
    refine z_getr fdX9_20_7 (Or.inr ⟨_, rfl⟩) (hL.t 0 rfl) (hL.p 3 rfl) dX9_drop_127 ?_
    refine z_iload_n 1 dX9_drop_130 rfl rfl ?_
    refine z_dup2 dX9_drop_131 rfl rfl ?_
    obtain ⟨hi_7, hf⟩ := zck_some hf
    refine z_iald (hL.t 4 rfl) hi_7 dX9_drop_132 ?_
    refine z_iconst 1 dX9_drop_133 rfl ?_
    refine z_isub dX9_drop_134 ?_
    obtain ⟨hi_8, hf⟩ := zck_some hf
    obtain ⟨h_9, he, hf⟩ := zlet_some hf
    refine z_iast (hL.t 4 rfl) (hL.nz 4) hi_8 he dX9_drop_135 ?_
    have hL := hL.I he
    exact z_loop (fun (s : zH × Int32) => (zBlk mB mP s.1 a → Z F 7 cX9_drop RX9 "drop" (some .int) [] s.1 136 [(0, .ref a), (1, .int x1), (6, .int s.2)] [])) (fun (r : (Int32 × zH)) => ((.inl (some (.int r.1)), r.2) : zX) = zEnd F) (fun s y hb hs hr hL => zX9_drop_L136 hD hL hb ⟨hs, hr⟩) hf hM hL
  · refine z_aload_n 0 dX9_drop_119 rfl rfl ?_
    refine z_bipush (-2) dX9_drop_120 rfl ?_
    obtain ⟨v_15, h_16, hc_14, hf⟩ := zb2_some hf
    have hct := ctX9_tell (l := F.1) hL hc_14
    refine z_invVi svX9_166_7 hct (hL.t 0 rfl) ⟨Nat.le_trans (by decide) hD, by decide⟩ rfl rfl (Nat.le_of_ble_eq_true rfl) dX9_drop_122 ?_
    have hL := hL.ext mOk hct.1
    cases hf
    exact z_iret dX9_drop_125 rfl hM
noncomputable def fX9_drop_L61 (h : zH) (a : Nat) (x1 : Int32) (x6 : Int32) : Option ((zH × Int32) ⊕ ((Int32 × zH))) := zck (vp_in x1 11) (if (((100 : Int32) * x1) + (zI h (a + 3) x1.toNatClampNeg)) ≤ x6 then (some (.inr ((0, h)))) else (zb1 (fX9_copyEntry h a (x6 + 1) x6) (fun h_25 => some (.inl ((h_25, x6 + 1))))))
theorem zX9_drop_L61 {F : zF} {h : zH} {a : Nat} {x1 : Int32} {x6 : Int32} {y : (zH × Int32) ⊕ ((Int32 × zH))} (hD : 4 ≤ F.2.1) (hL : zBlk mB mP h a) (hf : fX9_drop_L61 h a x1 x6 = some y) (hM : ((∀ s' : zH × Int32, y = .inl s' → (zBlk mB mP s'.1 a → Z F 7 cX9_drop RX9 "drop" (some .int) [] s'.1 61 [(0, .ref a), (1, .int x1), (6, .int s'.2)] [])) ∧ ∀ r : (Int32 × zH), y = .inr r → ((.inl (some (.int r.1)), r.2) : zX) = zEnd F)) : Z F 7 cX9_drop RX9 "drop" (some .int) [] h 61 [(0, .ref a), (1, .int x1), (6, .int x6)] [] := by
  unfold fX9_drop_L61 at hf
  refine z_iload 2 dX9_drop_61 rfl ?_
  refine z_bipush 100 dX9_drop_63 rfl ?_
  refine z_iload_n 1 dX9_drop_65 rfl rfl ?_
  refine z_imul dX9_drop_66 ?_
  refine z_aload_n 0 dX9_drop_67 rfl rfl ?_
  refine z_getr fdX9_17_7 (Or.inr ⟨_, rfl⟩) (hL.t 0 rfl) (hL.p 2 rfl) dX9_drop_68 ?_
  refine z_iload_n 1 dX9_drop_71 rfl rfl ?_
  obtain ⟨hi_22, hf⟩ := zck_some hf
  refine z_iald (hL.t 3 rfl) hi_22 dX9_drop_72 ?_
  refine z_iadd dX9_drop_73 ?_
  refine z_icmp_ge 93 dX9_drop_74 rfl hf (fun _ hf => ?_) (fun _ hf => ?_)
  · refine z_iconst 0 dX9_drop_93 rfl ?_
    cases hf
    exact z_iret dX9_drop_94 rfl (hM.2 _ rfl)
  · refine z_aload_n 0 dX9_drop_77 rfl rfl ?_
    refine z_iload 2 dX9_drop_78 rfl ?_
    refine z_iconst 1 dX9_drop_80 rfl ?_
    refine z_iadd dX9_drop_81 ?_
    refine z_iload 2 dX9_drop_82 rfl ?_
    obtain ⟨h_25, hc_23, hf⟩ := zb1_some hf
    have hct := ctX9_copyEntry (l := F.1) hL hc_23
    refine z_invVv svX9_174_7 hct (hL.t 0 rfl) ⟨Nat.le_trans (by decide) hD, by decide⟩ rfl rfl (Nat.le_of_ble_eq_true rfl) dX9_drop_84 ?_
    have hL := hL.ext mOk hct.1
    refine z_iinc 2 (x6 + 1) dX9_drop_87 rfl rfl (by decide) (lc' := [(0, .ref a), (1, .int x1), (6, .int (x6 + 1))]) rfl ?_
    refine z_goto 61 dX9_drop_90 rfl ?_
    cases hf
    exact (hM.1 _ rfl) hL
noncomputable def fX9_drop (h : zH) (a : Nat) (x1 : Int32) (x2 : Int32) (x3 : Int32) (x4 : Int32) : Option (Int32 × zH) := zb1 (fX9_fixed h a x1) (fun v_2 => if v_2 = 0 then (zb1 (fX9_isText x2 x3 x4) (fun v_4 => if v_4 = 0 then (zb2 (fX9_tell h a ((-1))) (fun v_27 h_28 => some ((v_27, h_28)))) else (zb1 (fX9_entryOf h a x1 x2 x3 x4) (fun v_6 => if v_6 < 0 then (if x4 = 1 then (zb1 (fX9_shiftOf h a x1 x2 x3) (fun v_18 => fX9_drop_J112 h a x1 v_18)) else (fX9_drop_J112 h a x1 ((-1)))) else (zck (vp_in x1 11) (zck (vp_in x1 11) (zlet (zsI h (a + 3) x1.toNatClampNeg ((zI h (a + 3) x1.toNatClampNeg) - 1)) (fun h_21 => zlp (fun s => fX9_drop_L61 s.1 a x1 s.2) (h_21, v_6))))))))) else (zb2 (fX9_tell h a v_2) (fun v_30 h_31 => some ((v_30, h_31)))))
theorem zX9_drop {F : zF} {h : zH} {a : Nat} {x1 : Int32} {x2 : Int32} {x3 : Int32} {x4 : Int32} {y : Int32 × zH} (hD : 4 ≤ F.2.1) (hL : zBlk mB mP h a) (hf : fX9_drop h a x1 x2 x3 x4 = some y) (hM : ((.inl (some (.int y.1)), y.2) : zX) = zEnd F) : Z F 7 cX9_drop RX9 "drop" (some .int) [] h 0 [(0, .ref a), (1, .int x1), (2, .int x2), (3, .int x3), (4, .int x4)] [] := by
  unfold fX9_drop at hf
  refine z_aload_n 0 dX9_drop_0 rfl rfl ?_
  refine z_iload_n 1 dX9_drop_1 rfl rfl ?_
  obtain ⟨v_2, hc_1, hf⟩ := zb1_some hf
  refine z_invVi svX9_181_7 (ctX9_fixed hL hc_1) (hL.t 0 rfl) ⟨Nat.le_trans (by decide) hD, by decide⟩ rfl rfl (Nat.le_of_ble_eq_true rfl) dX9_drop_2 ?_
  refine z_istore dX9_drop_5 (by decide) (lc' := [(0, .ref a), (1, .int x1), (2, .int x2), (3, .int x3), (4, .int x4), (5, .int v_2)]) rfl ?_
  refine z_iload 5 dX9_drop_7 rfl ?_
  refine z_if_eq 19 dX9_drop_9 rfl hf (fun _ hf => ?_) (fun _ hf => ?_)
  · refine z_iload_n 2 dX9_drop_19 rfl rfl ?_
    refine z_iload_n 3 dX9_drop_20 rfl rfl ?_
    refine z_iload 4 dX9_drop_21 rfl ?_
    obtain ⟨v_4, hc_3, hf⟩ := zb1_some hf
    refine z_invSi ssX9_184 (ctX9_isText hc_3) ⟨Nat.le_trans (by decide) hD, by decide⟩ rfl rfl (Nat.le_of_ble_eq_true rfl) dX9_drop_23 ?_
    refine z_if_ne 35 dX9_drop_26 rfl hf (fun _ hf => ?_) (fun _ hf => ?_)
    · refine z_aload_n 0 dX9_drop_35 rfl rfl ?_
      refine z_iload_n 1 dX9_drop_36 rfl rfl ?_
      refine z_iload_n 2 dX9_drop_37 rfl rfl ?_
      refine z_iload_n 3 dX9_drop_38 rfl rfl ?_
      refine z_iload 4 dX9_drop_39 rfl ?_
      obtain ⟨v_6, hc_5, hf⟩ := zb1_some hf
      refine z_invVi svX9_190_7 (ctX9_entryOf hL hc_5) (hL.t 0 rfl) ⟨Nat.le_trans (by decide) hD, by decide⟩ rfl rfl (Nat.le_of_ble_eq_true rfl) dX9_drop_41 ?_
      refine z_istore dX9_drop_44 (by decide) (lc' := [(0, .ref a), (1, .int x1), (2, .int x2), (3, .int x3), (4, .int x4), (5, .int v_2), (6, .int v_6)]) rfl ?_
      refine z_iload 6 dX9_drop_46 rfl ?_
      refine z_if_lt 95 dX9_drop_48 rfl hf (fun _ hf => ?_) (fun _ hf => ?_)
      · refine z_iload 4 dX9_drop_95 rfl ?_
        refine z_iconst 1 dX9_drop_97 rfl ?_
        refine z_icmp_ne 111 dX9_drop_98 rfl hf (fun _ hf => ?_) (fun _ hf => ?_)
        · refine z_iconst (-1) dX9_drop_111 rfl ?_
          refine z_sub [0, 1] rfl ?_
          exact zX9_drop_J112 hD hL hf hM
        · refine z_aload_n 0 dX9_drop_101 rfl rfl ?_
          refine z_iload_n 1 dX9_drop_102 rfl rfl ?_
          refine z_iload_n 2 dX9_drop_103 rfl rfl ?_
          refine z_iload_n 3 dX9_drop_104 rfl rfl ?_
          obtain ⟨v_18, hc_17, hf⟩ := zb1_some hf
          refine z_invVi svX9_194_7 (ctX9_shiftOf hL hc_17) (hL.t 0 rfl) ⟨Nat.le_trans (by decide) hD, by decide⟩ rfl rfl (Nat.le_of_ble_eq_true rfl) dX9_drop_105 ?_
          refine z_goto 112 dX9_drop_108 rfl ?_
          refine z_sub [0, 1] rfl ?_
          exact zX9_drop_J112 hD hL hf hM
      · refine z_aload_n 0 dX9_drop_51 rfl rfl ?_
        refine z_getr fdX9_17_7 (Or.inr ⟨_, rfl⟩) (hL.t 0 rfl) (hL.p 2 rfl) dX9_drop_52 ?_
        refine z_iload_n 1 dX9_drop_55 rfl rfl ?_
        refine z_dup2 dX9_drop_56 rfl rfl ?_
        obtain ⟨hi_19, hf⟩ := zck_some hf
        refine z_iald (hL.t 3 rfl) hi_19 dX9_drop_57 ?_
        refine z_iconst 1 dX9_drop_58 rfl ?_
        refine z_isub dX9_drop_59 ?_
        obtain ⟨hi_20, hf⟩ := zck_some hf
        obtain ⟨h_21, he, hf⟩ := zlet_some hf
        refine z_iast (hL.t 3 rfl) (hL.nz 3) hi_20 he dX9_drop_60 ?_
        have hL := hL.I he
        refine z_sub [0, 1, 6] rfl ?_
        exact z_loop (fun (s : zH × Int32) => (zBlk mB mP s.1 a → Z F 7 cX9_drop RX9 "drop" (some .int) [] s.1 61 [(0, .ref a), (1, .int x1), (6, .int s.2)] [])) (fun (r : (Int32 × zH)) => ((.inl (some (.int r.1)), r.2) : zX) = zEnd F) (fun s y hb hs hr hL => zX9_drop_L61 hD hL hb ⟨hs, hr⟩) hf hM hL
    · refine z_aload_n 0 dX9_drop_29 rfl rfl ?_
      refine z_iconst (-1) dX9_drop_30 rfl ?_
      obtain ⟨v_27, h_28, hc_26, hf⟩ := zb2_some hf
      have hct := ctX9_tell (l := F.1) hL hc_26
      refine z_invVi svX9_166_7 hct (hL.t 0 rfl) ⟨Nat.le_trans (by decide) hD, by decide⟩ rfl rfl (Nat.le_of_ble_eq_true rfl) dX9_drop_31 ?_
      have hL := hL.ext mOk hct.1
      cases hf
      exact z_iret dX9_drop_34 rfl hM
  · refine z_aload_n 0 dX9_drop_12 rfl rfl ?_
    refine z_iload 5 dX9_drop_13 rfl ?_
    obtain ⟨v_30, h_31, hc_29, hf⟩ := zb2_some hf
    have hct := ctX9_tell (l := F.1) hL hc_29
    refine z_invVi svX9_166_7 hct (hL.t 0 rfl) ⟨Nat.le_trans (by decide) hD, by decide⟩ rfl rfl (Nat.le_of_ble_eq_true rfl) dX9_drop_15 ?_
    have hL := hL.ext mOk hct.1
    cases hf
    exact z_iret dX9_drop_18 rfl hM
theorem ctX9_drop {l : Launch} {h : zH} {a : Nat} {x1 : Int32} {x2 : Int32} {x3 : Int32} {x4 : Int32} {v : Int32} {h' : zH} (hL : zBlk mB mP h a) (hf : fX9_drop h a x1 x2 x3 x4 = some (v, h')) : zC l yX9_drop (ws_ yX9_drop cX9_drop 7 (some .int)) 4 [.ref a, .int x1, .int x2, .int x3, .int x4] h (.inl (some (.int v)), h') :=
  z_start (by decide) (Nat.le_of_ble_eq_true rfl) (zX9_drop (F := (l, 4, h, (.inl (some (.int v)), h'))) (Nat.le_refl _) hL hf rfl)
noncomputable def fX9_stateOf (h : zH) (a : Nat) (x1 : Int32) (x2 : Int32) : Option (Int32) := zck (vp_in x1 11) (if (zI h (a + 3) x1.toNatClampNeg) ≤ x2 then (zck (vp_in x1 11) (zck (vp_in ((((10 : Int32) * x1) + x2) - (zI h (a + 3) x1.toNatClampNeg)) 110) (some (zI h (a + 10) ((((10 : Int32) * x1) + x2) - (zI h (a + 3) x1.toNatClampNeg)).toNatClampNeg)))) else (zck (vp_in (((100 : Int32) * x1) + x2) 1100) (some (zI h (a + 5) (((100 : Int32) * x1) + x2).toNatClampNeg))))
theorem zX9_stateOf {F : zF} {h : zH} {a : Nat} {x1 : Int32} {x2 : Int32} {y : Int32} (hD : 1 ≤ F.2.1) (hL : zBlk mB mP h a) (hf : fX9_stateOf h a x1 x2 = some y) (hM : ((.inl (some (.int y)), h) : zX) = zEnd F) : Z F 3 cX9_stateOf RX9 "stateOf" (some .int) [] h 0 [(0, .ref a), (1, .int x1), (2, .int x2)] [] := by
  unfold fX9_stateOf at hf
  refine z_iload_n 2 dX9_stateOf_0 rfl rfl ?_
  refine z_aload_n 0 dX9_stateOf_1 rfl rfl ?_
  refine z_getr fdX9_17_7 (Or.inr ⟨_, rfl⟩) (hL.t 0 rfl) (hL.p 2 rfl) dX9_stateOf_2 ?_
  refine z_iload_n 1 dX9_stateOf_5 rfl rfl ?_
  obtain ⟨hi_1, hf⟩ := zck_some hf
  refine z_iald (hL.t 3 rfl) hi_1 dX9_stateOf_6 ?_
  refine z_icmp_ge 24 dX9_stateOf_7 rfl hf (fun _ hf => ?_) (fun _ hf => ?_)
  · refine z_aload_n 0 dX9_stateOf_24 rfl rfl ?_
    refine z_getr fdX9_38_7 (Or.inr ⟨_, rfl⟩) (hL.t 0 rfl) (hL.p 9 rfl) dX9_stateOf_25 ?_
    refine z_bipush 10 dX9_stateOf_28 rfl ?_
    refine z_iload_n 1 dX9_stateOf_30 rfl rfl ?_
    refine z_imul dX9_stateOf_31 ?_
    refine z_iload_n 2 dX9_stateOf_32 rfl rfl ?_
    refine z_iadd dX9_stateOf_33 ?_
    refine z_aload_n 0 dX9_stateOf_34 rfl rfl ?_
    refine z_getr fdX9_17_7 (Or.inr ⟨_, rfl⟩) (hL.t 0 rfl) (hL.p 2 rfl) dX9_stateOf_35 ?_
    refine z_iload_n 1 dX9_stateOf_38 rfl rfl ?_
    obtain ⟨hi_2, hf⟩ := zck_some hf
    refine z_iald (hL.t 3 rfl) hi_2 dX9_stateOf_39 ?_
    refine z_isub dX9_stateOf_40 ?_
    obtain ⟨hi_3, hf⟩ := zck_some hf
    refine z_iald (hL.t 10 rfl) hi_3 dX9_stateOf_41 ?_
    cases hf
    exact z_iret dX9_stateOf_42 rfl hM
  · refine z_aload_n 0 dX9_stateOf_10 rfl rfl ?_
    refine z_getr fdX9_23_7 (Or.inr ⟨_, rfl⟩) (hL.t 0 rfl) (hL.p 4 rfl) dX9_stateOf_11 ?_
    refine z_bipush 100 dX9_stateOf_14 rfl ?_
    refine z_iload_n 1 dX9_stateOf_16 rfl rfl ?_
    refine z_imul dX9_stateOf_17 ?_
    refine z_iload_n 2 dX9_stateOf_18 rfl rfl ?_
    refine z_iadd dX9_stateOf_19 ?_
    obtain ⟨hi_4, hf⟩ := zck_some hf
    refine z_iald (hL.t 5 rfl) hi_4 dX9_stateOf_20 ?_
    refine z_goto 42 dX9_stateOf_21 rfl ?_
    cases hf
    exact z_iret dX9_stateOf_42 rfl hM
theorem ctX9_stateOf {l : Launch} {h : zH} {a : Nat} {x1 : Int32} {x2 : Int32} {v : Int32} (hL : zBlk mB mP h a) (hf : fX9_stateOf h a x1 x2 = some v) : zC l yX9_stateOf (ws_ yX9_stateOf cX9_stateOf 3 (some .int)) 1 [.ref a, .int x1, .int x2] h (.inl (some (.int v)), h) :=
  z_start (by decide) (Nat.le_of_ble_eq_true rfl) (zX9_stateOf (F := (l, 1, h, (.inl (some (.int v)), h))) (Nat.le_refl _) hL hf rfl)
noncomputable def fX9_manyOf (h : zH) (a : Nat) (x1 : Int32) (x2 : Int32) : Option (Int32) := zck (vp_in x1 11) (if (zI h (a + 3) x1.toNatClampNeg) ≤ x2 then (some 1) else (zck (vp_in (((100 : Int32) * x1) + x2) 1100) (some (zI h (a + 6) (((100 : Int32) * x1) + x2).toNatClampNeg))))
theorem zX9_manyOf {F : zF} {h : zH} {a : Nat} {x1 : Int32} {x2 : Int32} {y : Int32} (hD : 1 ≤ F.2.1) (hL : zBlk mB mP h a) (hf : fX9_manyOf h a x1 x2 = some y) (hM : ((.inl (some (.int y)), h) : zX) = zEnd F) : Z F 3 cX9_manyOf RX9 "manyOf" (some .int) [] h 0 [(0, .ref a), (1, .int x1), (2, .int x2)] [] := by
  unfold fX9_manyOf at hf
  refine z_iload_n 2 dX9_manyOf_0 rfl rfl ?_
  refine z_aload_n 0 dX9_manyOf_1 rfl rfl ?_
  refine z_getr fdX9_17_7 (Or.inr ⟨_, rfl⟩) (hL.t 0 rfl) (hL.p 2 rfl) dX9_manyOf_2 ?_
  refine z_iload_n 1 dX9_manyOf_5 rfl rfl ?_
  obtain ⟨hi_1, hf⟩ := zck_some hf
  refine z_iald (hL.t 3 rfl) hi_1 dX9_manyOf_6 ?_
  refine z_icmp_ge 24 dX9_manyOf_7 rfl hf (fun _ hf => ?_) (fun _ hf => ?_)
  · refine z_iconst 1 dX9_manyOf_24 rfl ?_
    cases hf
    exact z_iret dX9_manyOf_25 rfl hM
  · refine z_aload_n 0 dX9_manyOf_10 rfl rfl ?_
    refine z_getr fdX9_26_7 (Or.inr ⟨_, rfl⟩) (hL.t 0 rfl) (hL.p 5 rfl) dX9_manyOf_11 ?_
    refine z_bipush 100 dX9_manyOf_14 rfl ?_
    refine z_iload_n 1 dX9_manyOf_16 rfl rfl ?_
    refine z_imul dX9_manyOf_17 ?_
    refine z_iload_n 2 dX9_manyOf_18 rfl rfl ?_
    refine z_iadd dX9_manyOf_19 ?_
    obtain ⟨hi_2, hf⟩ := zck_some hf
    refine z_iald (hL.t 6 rfl) hi_2 dX9_manyOf_20 ?_
    refine z_goto 25 dX9_manyOf_21 rfl ?_
    cases hf
    exact z_iret dX9_manyOf_25 rfl hM
theorem ctX9_manyOf {l : Launch} {h : zH} {a : Nat} {x1 : Int32} {x2 : Int32} {v : Int32} (hL : zBlk mB mP h a) (hf : fX9_manyOf h a x1 x2 = some v) : zC l yX9_manyOf (ws_ yX9_manyOf cX9_manyOf 3 (some .int)) 1 [.ref a, .int x1, .int x2] h (.inl (some (.int v)), h) :=
  z_start (by decide) (Nat.le_of_ble_eq_true rfl) (zX9_manyOf (F := (l, 1, h, (.inl (some (.int v)), h))) (Nat.le_refl _) hL hf rfl)
noncomputable def fX9_bytesOf (h : zH) (a : Nat) (x1 : Int32) (x2 : Int32) : Option (Int32) := zck (vp_in x1 11) (if (zI h (a + 3) x1.toNatClampNeg) ≤ x2 then (zck (vp_in x1 11) (zck (vp_in ((((10 : Int32) * x1) + x2) - (zI h (a + 3) x1.toNatClampNeg)) 110) (some (zI h (a + 11) ((((10 : Int32) * x1) + x2) - (zI h (a + 3) x1.toNatClampNeg)).toNatClampNeg)))) else (zck (vp_in (((100 : Int32) * x1) + x2) 1100) (some (zI h (a + 7) (((100 : Int32) * x1) + x2).toNatClampNeg))))
theorem zX9_bytesOf {F : zF} {h : zH} {a : Nat} {x1 : Int32} {x2 : Int32} {y : Int32} (hD : 1 ≤ F.2.1) (hL : zBlk mB mP h a) (hf : fX9_bytesOf h a x1 x2 = some y) (hM : ((.inl (some (.int y)), h) : zX) = zEnd F) : Z F 3 cX9_bytesOf RX9 "bytesOf" (some .int) [] h 0 [(0, .ref a), (1, .int x1), (2, .int x2)] [] := by
  unfold fX9_bytesOf at hf
  refine z_iload_n 2 dX9_bytesOf_0 rfl rfl ?_
  refine z_aload_n 0 dX9_bytesOf_1 rfl rfl ?_
  refine z_getr fdX9_17_7 (Or.inr ⟨_, rfl⟩) (hL.t 0 rfl) (hL.p 2 rfl) dX9_bytesOf_2 ?_
  refine z_iload_n 1 dX9_bytesOf_5 rfl rfl ?_
  obtain ⟨hi_1, hf⟩ := zck_some hf
  refine z_iald (hL.t 3 rfl) hi_1 dX9_bytesOf_6 ?_
  refine z_icmp_ge 24 dX9_bytesOf_7 rfl hf (fun _ hf => ?_) (fun _ hf => ?_)
  · refine z_aload_n 0 dX9_bytesOf_24 rfl rfl ?_
    refine z_getr fdX9_41_7 (Or.inr ⟨_, rfl⟩) (hL.t 0 rfl) (hL.p 10 rfl) dX9_bytesOf_25 ?_
    refine z_bipush 10 dX9_bytesOf_28 rfl ?_
    refine z_iload_n 1 dX9_bytesOf_30 rfl rfl ?_
    refine z_imul dX9_bytesOf_31 ?_
    refine z_iload_n 2 dX9_bytesOf_32 rfl rfl ?_
    refine z_iadd dX9_bytesOf_33 ?_
    refine z_aload_n 0 dX9_bytesOf_34 rfl rfl ?_
    refine z_getr fdX9_17_7 (Or.inr ⟨_, rfl⟩) (hL.t 0 rfl) (hL.p 2 rfl) dX9_bytesOf_35 ?_
    refine z_iload_n 1 dX9_bytesOf_38 rfl rfl ?_
    obtain ⟨hi_2, hf⟩ := zck_some hf
    refine z_iald (hL.t 3 rfl) hi_2 dX9_bytesOf_39 ?_
    refine z_isub dX9_bytesOf_40 ?_
    obtain ⟨hi_3, hf⟩ := zck_some hf
    refine z_iald (hL.t 11 rfl) hi_3 dX9_bytesOf_41 ?_
    cases hf
    exact z_iret dX9_bytesOf_42 rfl hM
  · refine z_aload_n 0 dX9_bytesOf_10 rfl rfl ?_
    refine z_getr fdX9_29_7 (Or.inr ⟨_, rfl⟩) (hL.t 0 rfl) (hL.p 6 rfl) dX9_bytesOf_11 ?_
    refine z_bipush 100 dX9_bytesOf_14 rfl ?_
    refine z_iload_n 1 dX9_bytesOf_16 rfl rfl ?_
    refine z_imul dX9_bytesOf_17 ?_
    refine z_iload_n 2 dX9_bytesOf_18 rfl rfl ?_
    refine z_iadd dX9_bytesOf_19 ?_
    obtain ⟨hi_4, hf⟩ := zck_some hf
    refine z_iald (hL.t 7 rfl) hi_4 dX9_bytesOf_20 ?_
    refine z_goto 42 dX9_bytesOf_21 rfl ?_
    cases hf
    exact z_iret dX9_bytesOf_42 rfl hM
theorem ctX9_bytesOf {l : Launch} {h : zH} {a : Nat} {x1 : Int32} {x2 : Int32} {v : Int32} (hL : zBlk mB mP h a) (hf : fX9_bytesOf h a x1 x2 = some v) : zC l yX9_bytesOf (ws_ yX9_bytesOf cX9_bytesOf 3 (some .int)) 1 [.ref a, .int x1, .int x2] h (.inl (some (.int v)), h) :=
  z_start (by decide) (Nat.le_of_ble_eq_true rfl) (zX9_bytesOf (F := (l, 1, h, (.inl (some (.int v)), h))) (Nat.le_refl _) hL hf rfl)
theorem svX9_198_7 : zIv RX9 198 yX9_manyOf (ws_ yX9_manyOf cX9_manyOf 3 (some .int)) 3 7 2 := ⟨zGood_c q1679 q109, ⟨_, _, rfl, rfl, qs56⟩, Or.inl q1676, q1678, ⟨by decide, by decide⟩, by decide +kernel⟩
theorem svX9_202_7 : zIv RX9 202 yX9_bytesOf (ws_ yX9_bytesOf cX9_bytesOf 3 (some .int)) 3 7 2 := ⟨zGood_c q1683 q109, ⟨_, _, rfl, rfl, qs57⟩, Or.inl q1680, q1682, ⟨by decide, by decide⟩, by decide +kernel⟩
noncomputable def fX9_begins (h : zH) (a : Nat) (x1 : Int32) (x2 : Int32) (x3 : Int32) : Option (Int32) := zb1 (fX9_manyOf h a x1 x2) (fun v_2 => zb1 (fX9_manyOf h a x1 x3) (fun v_4 => if v_4 < v_2 then (some 0) else (zb1 (fX9_bytesOf h a x1 x2) (fun v_6 => zb1 (fX9_bytesOf h a x1 x3) (fun v_8 => if v_6 = (v_8 >>> (((8 : Int32) * (v_4 - v_2)) &&& 31)) then (some 1) else (some 0))))))
theorem zX9_begins {F : zF} {h : zH} {a : Nat} {x1 : Int32} {x2 : Int32} {x3 : Int32} {y : Int32} (hD : 2 ≤ F.2.1) (hL : zBlk mB mP h a) (hf : fX9_begins h a x1 x2 x3 = some y) (hM : ((.inl (some (.int y)), h) : zX) = zEnd F) : Z F 6 cX9_begins RX9 "begins" (some .boolean) [] h 0 [(0, .ref a), (1, .int x1), (2, .int x2), (3, .int x3)] [] := by
  unfold fX9_begins at hf
  refine z_aload_n 0 dX9_begins_0 rfl rfl ?_
  refine z_iload_n 1 dX9_begins_1 rfl rfl ?_
  refine z_iload_n 2 dX9_begins_2 rfl rfl ?_
  obtain ⟨v_2, hc_1, hf⟩ := zb1_some hf
  refine z_invVi svX9_198_7 (ctX9_manyOf hL hc_1) (hL.t 0 rfl) ⟨Nat.le_trans (by decide) hD, by decide⟩ rfl rfl (Nat.le_of_ble_eq_true rfl) dX9_begins_3 ?_
  refine z_istore dX9_begins_6 (by decide) (lc' := [(0, .ref a), (1, .int x1), (2, .int x2), (3, .int x3), (4, .int v_2)]) rfl ?_
  refine z_aload_n 0 dX9_begins_8 rfl rfl ?_
  refine z_iload_n 1 dX9_begins_9 rfl rfl ?_
  refine z_iload_n 3 dX9_begins_10 rfl rfl ?_
  obtain ⟨v_4, hc_3, hf⟩ := zb1_some hf
  refine z_invVi svX9_198_7 (ctX9_manyOf hL hc_3) (hL.t 0 rfl) ⟨Nat.le_trans (by decide) hD, by decide⟩ rfl rfl (Nat.le_of_ble_eq_true rfl) dX9_begins_11 ?_
  refine z_istore dX9_begins_14 (by decide) (lc' := [(0, .ref a), (1, .int x1), (2, .int x2), (3, .int x3), (4, .int v_2), (5, .int v_4)]) rfl ?_
  refine z_iload 4 dX9_begins_16 rfl ?_
  refine z_iload 5 dX9_begins_18 rfl ?_
  refine z_icmp_gt 51 dX9_begins_20 rfl hf (fun _ hf => ?_) (fun _ hf => ?_)
  · refine z_iconst 0 dX9_begins_51 rfl ?_
    cases hf
    exact z_zret dX9_begins_52 rfl (Or.inl rfl) hM
  · refine z_aload_n 0 dX9_begins_23 rfl rfl ?_
    refine z_iload_n 1 dX9_begins_24 rfl rfl ?_
    refine z_iload_n 2 dX9_begins_25 rfl rfl ?_
    obtain ⟨v_6, hc_5, hf⟩ := zb1_some hf
    refine z_invVi svX9_202_7 (ctX9_bytesOf hL hc_5) (hL.t 0 rfl) ⟨Nat.le_trans (by decide) hD, by decide⟩ rfl rfl (Nat.le_of_ble_eq_true rfl) dX9_begins_26 ?_
    refine z_aload_n 0 dX9_begins_29 rfl rfl ?_
    refine z_iload_n 1 dX9_begins_30 rfl rfl ?_
    refine z_iload_n 3 dX9_begins_31 rfl rfl ?_
    obtain ⟨v_8, hc_7, hf⟩ := zb1_some hf
    refine z_invVi svX9_202_7 (ctX9_bytesOf hL hc_7) (hL.t 0 rfl) ⟨Nat.le_trans (by decide) hD, by decide⟩ rfl rfl (Nat.le_of_ble_eq_true rfl) dX9_begins_32 ?_
    refine z_bipush 8 dX9_begins_35 rfl ?_
    refine z_iload 5 dX9_begins_37 rfl ?_
    refine z_iload 4 dX9_begins_39 rfl ?_
    refine z_isub dX9_begins_41 ?_
    refine z_imul dX9_begins_42 ?_
    refine z_ishr dX9_begins_43 ?_
    refine z_icmp_ne 51 dX9_begins_44 rfl hf (fun _ hf => ?_) (fun _ hf => ?_)
    · refine z_iconst 0 dX9_begins_51 rfl ?_
      cases hf
      exact z_zret dX9_begins_52 rfl (Or.inl rfl) hM
    · refine z_iconst 1 dX9_begins_47 rfl ?_
      refine z_goto 52 dX9_begins_48 rfl ?_
      cases hf
      exact z_zret dX9_begins_52 rfl (Or.inr rfl) hM
theorem ctX9_begins {l : Launch} {h : zH} {a : Nat} {x1 : Int32} {x2 : Int32} {x3 : Int32} {v : Int32} (hL : zBlk mB mP h a) (hf : fX9_begins h a x1 x2 x3 = some v) : zC l yX9_begins (ws_ yX9_begins cX9_begins 6 (some .boolean)) 2 [.ref a, .int x1, .int x2, .int x3] h (.inl (some (.int v)), h) :=
  z_start (by decide) (Nat.le_of_ble_eq_true rfl) (zX9_begins (F := (l, 2, h, (.inl (some (.int v)), h))) (Nat.le_refl _) hL hf rfl)
noncomputable def fX9_numberOf (h : zH) (a : Nat) (x1 : Int32) (x2 : Int32) : Option (Int32) := zck (vp_in x1 11) (if (zI h (a + 3) x1.toNatClampNeg) ≤ x2 then (zck (vp_in x1 11) (some (((100 : Int32) + x2) - (zI h (a + 3) x1.toNatClampNeg)))) else (some x2))
theorem zX9_numberOf {F : zF} {h : zH} {a : Nat} {x1 : Int32} {x2 : Int32} {y : Int32} (hD : 1 ≤ F.2.1) (hL : zBlk mB mP h a) (hf : fX9_numberOf h a x1 x2 = some y) (hM : ((.inl (some (.int y)), h) : zX) = zEnd F) : Z F 3 cX9_numberOf RX9 "numberOf" (some .int) [] h 0 [(0, .ref a), (1, .int x1), (2, .int x2)] [] := by
  unfold fX9_numberOf at hf
  refine z_iload_n 2 dX9_numberOf_0 rfl rfl ?_
  refine z_aload_n 0 dX9_numberOf_1 rfl rfl ?_
  refine z_getr fdX9_17_7 (Or.inr ⟨_, rfl⟩) (hL.t 0 rfl) (hL.p 2 rfl) dX9_numberOf_2 ?_
  refine z_iload_n 1 dX9_numberOf_5 rfl rfl ?_
  obtain ⟨hi_1, hf⟩ := zck_some hf
  refine z_iald (hL.t 3 rfl) hi_1 dX9_numberOf_6 ?_
  refine z_icmp_ge 14 dX9_numberOf_7 rfl hf (fun _ hf => ?_) (fun _ hf => ?_)
  · refine z_bipush 100 dX9_numberOf_14 rfl ?_
    refine z_iload_n 2 dX9_numberOf_16 rfl rfl ?_
    refine z_iadd dX9_numberOf_17 ?_
    refine z_aload_n 0 dX9_numberOf_18 rfl rfl ?_
    refine z_getr fdX9_17_7 (Or.inr ⟨_, rfl⟩) (hL.t 0 rfl) (hL.p 2 rfl) dX9_numberOf_19 ?_
    refine z_iload_n 1 dX9_numberOf_22 rfl rfl ?_
    obtain ⟨hi_2, hf⟩ := zck_some hf
    refine z_iald (hL.t 3 rfl) hi_2 dX9_numberOf_23 ?_
    refine z_isub dX9_numberOf_24 ?_
    cases hf
    exact z_iret dX9_numberOf_25 rfl hM
  · refine z_iload_n 2 dX9_numberOf_10 rfl rfl ?_
    refine z_goto 25 dX9_numberOf_11 rfl ?_
    cases hf
    exact z_iret dX9_numberOf_25 rfl hM
theorem ctX9_numberOf {l : Launch} {h : zH} {a : Nat} {x1 : Int32} {x2 : Int32} {v : Int32} (hL : zBlk mB mP h a) (hf : fX9_numberOf h a x1 x2 = some v) : zC l yX9_numberOf (ws_ yX9_numberOf cX9_numberOf 3 (some .int)) 1 [.ref a, .int x1, .int x2] h (.inl (some (.int v)), h) :=
  z_start (by decide) (Nat.le_of_ble_eq_true rfl) (zX9_numberOf (F := (l, 1, h, (.inl (some (.int v)), h))) (Nat.le_refl _) hL hf rfl)
theorem fdX9_78_7 : zFd RX9 78 7 30 (.array .int) true := ⟨_, _, _, rfl, rfl, by decide, rfl, rfl, Or.inl q1422, Or.inl rfl⟩
noncomputable def fX9_breaks (h : zH) (a : Nat) (x1 : Int32) (x2 : Int32) (x3 : Int32) : Option (Int32 × zH) := zck (vp_in 0 3) (zlet (zsI h (a + 23) (0 : Int32).toNatClampNeg x1) (fun h_2 => zck (vp_in 1 3) (zlet (zsI h_2 (a + 23) (1 : Int32).toNatClampNeg x2) (fun h_4 => zck (vp_in 2 3) (zlet (zsI h_4 (a + 23) (2 : Int32).toNatClampNeg x3) (fun h_6 => some ((0, h_6))))))))
theorem zX9_breaks {F : zF} {h : zH} {a : Nat} {x1 : Int32} {x2 : Int32} {x3 : Int32} {y : Int32 × zH} (hD : 1 ≤ F.2.1) (hL : zBlk mB mP h a) (hf : fX9_breaks h a x1 x2 x3 = some y) (hM : ((.inl (some (.int y.1)), y.2) : zX) = zEnd F) : Z F 4 cX9_breaks RX9 "breaks" (some .boolean) [] h 0 [(0, .ref a), (1, .int x1), (2, .int x2), (3, .int x3)] [] := by
  unfold fX9_breaks at hf
  refine z_aload_n 0 dX9_breaks_0 rfl rfl ?_
  refine z_getr fdX9_78_7 (Or.inr ⟨_, rfl⟩) (hL.t 0 rfl) (hL.p 22 rfl) dX9_breaks_1 ?_
  refine z_iconst 0 dX9_breaks_4 rfl ?_
  refine z_iload_n 1 dX9_breaks_5 rfl rfl ?_
  obtain ⟨hi_1, hf⟩ := zck_some hf
  obtain ⟨h_2, he, hf⟩ := zlet_some hf
  refine z_iast (hL.t 23 rfl) (hL.nz 23) hi_1 he dX9_breaks_6 ?_
  have hL := hL.I he
  refine z_aload_n 0 dX9_breaks_7 rfl rfl ?_
  refine z_getr fdX9_78_7 (Or.inr ⟨_, rfl⟩) (hL.t 0 rfl) (hL.p 22 rfl) dX9_breaks_8 ?_
  refine z_iconst 1 dX9_breaks_11 rfl ?_
  refine z_iload_n 2 dX9_breaks_12 rfl rfl ?_
  obtain ⟨hi_3, hf⟩ := zck_some hf
  obtain ⟨h_4, he, hf⟩ := zlet_some hf
  refine z_iast (hL.t 23 rfl) (hL.nz 23) hi_3 he dX9_breaks_13 ?_
  have hL := hL.I he
  refine z_aload_n 0 dX9_breaks_14 rfl rfl ?_
  refine z_getr fdX9_78_7 (Or.inr ⟨_, rfl⟩) (hL.t 0 rfl) (hL.p 22 rfl) dX9_breaks_15 ?_
  refine z_iconst 2 dX9_breaks_18 rfl ?_
  refine z_iload_n 3 dX9_breaks_19 rfl rfl ?_
  obtain ⟨hi_5, hf⟩ := zck_some hf
  obtain ⟨h_6, he, hf⟩ := zlet_some hf
  refine z_iast (hL.t 23 rfl) (hL.nz 23) hi_5 he dX9_breaks_20 ?_
  have hL := hL.I he
  refine z_iconst 0 dX9_breaks_21 rfl ?_
  cases hf
  exact z_zret dX9_breaks_22 rfl (Or.inl rfl) hM
theorem ctX9_breaks {l : Launch} {h : zH} {a : Nat} {x1 : Int32} {x2 : Int32} {x3 : Int32} {v : Int32} {h' : zH} (hL : zBlk mB mP h a) (hf : fX9_breaks h a x1 x2 x3 = some (v, h')) : zC l yX9_breaks (ws_ yX9_breaks cX9_breaks 4 (some .boolean)) 1 [.ref a, .int x1, .int x2, .int x3] h (.inl (some (.int v)), h') :=
  z_start (by decide) (Nat.le_of_ble_eq_true rfl) (zX9_breaks (F := (l, 1, h, (.inl (some (.int v)), h'))) (Nat.le_refl _) hL hf rfl)
theorem fdX9_75_7 : zFd RX9 75 7 29 (.array .boolean) true := ⟨_, _, _, rfl, rfl, by decide, rfl, rfl, Or.inl q1421, Or.inl rfl⟩
noncomputable def fX9_reach_L2 (h : zH) (a : Nat) (x1 : Int32) (x2 : Int32) : Option ((zH × Int32) ⊕ (zH)) := if 4 ≤ x2 then (some (.inr h)) else (if x2 = 0 then (zck (vp_in x2 4) (zlet (zsI h (a + 22) x2.toNatClampNeg 1) (fun h_4 => some (.inl ((h_4, x2 + 1)))))) else (zck (vp_in x2 4) (zlet (zsI h (a + 22) x2.toNatClampNeg 0) (fun h_2 => some (.inl ((h_2, x2 + 1)))))))
theorem zX9_reach_L2 {F : zF} {h : zH} {a : Nat} {x1 : Int32} {x2 : Int32} {y : (zH × Int32) ⊕ (zH)} (hD : 1 ≤ F.2.1) (hL : zBlk mB mP h a) (hf : fX9_reach_L2 h a x1 x2 = some y) (hM : ((∀ s' : zH × Int32, y = .inl s' → (zBlk mB mP s'.1 a → Z F 4 cX9_reach RX9 "reach" none [] s'.1 2 [(0, .ref a), (1, .int x1), (2, .int s'.2)] [])) ∧ ∀ r : zH, y = .inr r → (zBlk mB mP r a → Z F 4 cX9_reach RX9 "reach" none [] r 28 [(0, .ref a), (1, .int x1)] []))) : Z F 4 cX9_reach RX9 "reach" none [] h 2 [(0, .ref a), (1, .int x1), (2, .int x2)] [] := by
  unfold fX9_reach_L2 at hf
  refine z_iload_n 2 dX9_reach_2 rfl rfl ?_
  refine z_iconst 4 dX9_reach_3 rfl ?_
  refine z_icmp_ge 28 dX9_reach_4 rfl hf (fun _ hf => ?_) (fun _ hf => ?_)
  · cases hf
    refine z_sub [0, 1] rfl ?_
    exact (hM.2 _ rfl) hL
  · refine z_aload_n 0 dX9_reach_7 rfl rfl ?_
    refine z_getr fdX9_75_7 (Or.inr ⟨_, rfl⟩) (hL.t 0 rfl) (hL.p 21 rfl) dX9_reach_8 ?_
    refine z_iload_n 2 dX9_reach_11 rfl rfl ?_
    refine z_iload_n 2 dX9_reach_12 rfl rfl ?_
    refine z_if_ne 20 dX9_reach_13 rfl hf (fun _ hf => ?_) (fun _ hf => ?_)
    · refine z_iconst 0 dX9_reach_20 rfl ?_
      obtain ⟨hi_1, hf⟩ := zck_some hf
      obtain ⟨h_2, he, hf⟩ := zlet_some hf
      refine z_zast (Or.inl rfl) (hL.t 22 rfl) (hL.nz 22) hi_1 he dX9_reach_21 ?_
      have hL := hL.I he
      refine z_iinc 2 (x2 + 1) dX9_reach_22 rfl rfl (by decide) (lc' := [(0, .ref a), (1, .int x1), (2, .int (x2 + 1))]) rfl ?_
      refine z_goto 2 dX9_reach_25 rfl ?_
      cases hf
      exact (hM.1 _ rfl) hL
    · refine z_iconst 1 dX9_reach_16 rfl ?_
      refine z_goto 21 dX9_reach_17 rfl ?_
      obtain ⟨hi_3, hf⟩ := zck_some hf
      obtain ⟨h_4, he, hf⟩ := zlet_some hf
      refine z_zast (Or.inr rfl) (hL.t 22 rfl) (hL.nz 22) hi_3 he dX9_reach_21 ?_
      have hL := hL.I he
      refine z_iinc 2 (x2 + 1) dX9_reach_22 rfl rfl (by decide) (lc' := [(0, .ref a), (1, .int x1), (2, .int (x2 + 1))]) rfl ?_
      refine z_goto 2 dX9_reach_25 rfl ?_
      cases hf
      exact (hM.1 _ rfl) hL
noncomputable def fX9_reach_L40 (h : zH) (a : Nat) (x1 : Int32) (x2 : Int32) (x3 : Int32) : Option ((zH × Int32) ⊕ (zH)) := zck (vp_in x1 11) (if (((10 : Int32) * x1) + (zI h (a + 4) x1.toNatClampNeg)) ≤ x3 then (some (.inr h)) else (zck (vp_in x3 110) (if (zI h (a + 13) x3.toNatClampNeg) = 0 then (some (.inl ((h, x3 + 1)))) else (zck (vp_in x3 110) (zck (vp_in (zI h (a + 10) x3.toNatClampNeg) 4) (if (zI h (a + 22) (zI h (a + 10) x3.toNatClampNeg).toNatClampNeg) = 0 then (some (.inl ((h, x3 + 1)))) else (zck (vp_in x3 110) (zck (vp_in (zI h (a + 12) x3.toNatClampNeg) 4) (zlet (zsI h (a + 22) (zI h (a + 12) x3.toNatClampNeg).toNatClampNeg 1) (fun h_12 => some (.inl ((h_12, x3 + 1)))))))))))))
theorem zX9_reach_L40 {F : zF} {h : zH} {a : Nat} {x1 : Int32} {x2 : Int32} {x3 : Int32} {y : (zH × Int32) ⊕ (zH)} (hD : 1 ≤ F.2.1) (hL : zBlk mB mP h a) (hf : fX9_reach_L40 h a x1 x2 x3 = some y) (hM : ((∀ s' : zH × Int32, y = .inl s' → (zBlk mB mP s'.1 a → Z F 4 cX9_reach RX9 "reach" none [] s'.1 40 [(0, .ref a), (1, .int x1), (2, .int x2), (3, .int s'.2)] [])) ∧ ∀ r : zH, y = .inr r → (zBlk mB mP r a → Z F 4 cX9_reach RX9 "reach" none [] r 96 [(0, .ref a), (1, .int x1), (2, .int x2)] []))) : Z F 4 cX9_reach RX9 "reach" none [] h 40 [(0, .ref a), (1, .int x1), (2, .int x2), (3, .int x3)] [] := by
  unfold fX9_reach_L40 at hf
  refine z_iload_n 3 dX9_reach_40 rfl rfl ?_
  refine z_bipush 10 dX9_reach_41 rfl ?_
  refine z_iload_n 1 dX9_reach_43 rfl rfl ?_
  refine z_imul dX9_reach_44 ?_
  refine z_aload_n 0 dX9_reach_45 rfl rfl ?_
  refine z_getr fdX9_20_7 (Or.inr ⟨_, rfl⟩) (hL.t 0 rfl) (hL.p 3 rfl) dX9_reach_46 ?_
  refine z_iload_n 1 dX9_reach_49 rfl rfl ?_
  obtain ⟨hi_6, hf⟩ := zck_some hf
  refine z_iald (hL.t 4 rfl) hi_6 dX9_reach_50 ?_
  refine z_iadd dX9_reach_51 ?_
  refine z_icmp_ge 96 dX9_reach_52 rfl hf (fun _ hf => ?_) (fun _ hf => ?_)
  · cases hf
    refine z_sub [0, 1, 2] rfl ?_
    exact (hM.2 _ rfl) hL
  · refine z_aload_n 0 dX9_reach_55 rfl rfl ?_
    refine z_getr fdX9_47_7 (Or.inr ⟨_, rfl⟩) (hL.t 0 rfl) (hL.p 12 rfl) dX9_reach_56 ?_
    refine z_iload_n 3 dX9_reach_59 rfl rfl ?_
    obtain ⟨hi_7, hf⟩ := zck_some hf
    refine z_zald (hL.t 13 rfl) hi_7 dX9_reach_60 ?_
    refine z_if_eq 90 dX9_reach_61 rfl hf (fun _ hf => ?_) (fun _ hf => ?_)
    · refine z_iinc 3 (x3 + 1) dX9_reach_90 rfl rfl (by decide) (lc' := [(0, .ref a), (1, .int x1), (2, .int x2), (3, .int (x3 + 1))]) rfl ?_
      refine z_goto 40 dX9_reach_93 rfl ?_
      cases hf
      exact (hM.1 _ rfl) hL
    · refine z_aload_n 0 dX9_reach_64 rfl rfl ?_
      refine z_getr fdX9_75_7 (Or.inr ⟨_, rfl⟩) (hL.t 0 rfl) (hL.p 21 rfl) dX9_reach_65 ?_
      refine z_aload_n 0 dX9_reach_68 rfl rfl ?_
      refine z_getr fdX9_38_7 (Or.inr ⟨_, rfl⟩) (hL.t 0 rfl) (hL.p 9 rfl) dX9_reach_69 ?_
      refine z_iload_n 3 dX9_reach_72 rfl rfl ?_
      obtain ⟨hi_8, hf⟩ := zck_some hf
      refine z_iald (hL.t 10 rfl) hi_8 dX9_reach_73 ?_
      obtain ⟨hi_9, hf⟩ := zck_some hf
      refine z_zald (hL.t 22 rfl) hi_9 dX9_reach_74 ?_
      refine z_if_eq 90 dX9_reach_75 rfl hf (fun _ hf => ?_) (fun _ hf => ?_)
      · refine z_iinc 3 (x3 + 1) dX9_reach_90 rfl rfl (by decide) (lc' := [(0, .ref a), (1, .int x1), (2, .int x2), (3, .int (x3 + 1))]) rfl ?_
        refine z_goto 40 dX9_reach_93 rfl ?_
        cases hf
        exact (hM.1 _ rfl) hL
      · refine z_aload_n 0 dX9_reach_78 rfl rfl ?_
        refine z_getr fdX9_75_7 (Or.inr ⟨_, rfl⟩) (hL.t 0 rfl) (hL.p 21 rfl) dX9_reach_79 ?_
        refine z_aload_n 0 dX9_reach_82 rfl rfl ?_
        refine z_getr fdX9_44_7 (Or.inr ⟨_, rfl⟩) (hL.t 0 rfl) (hL.p 11 rfl) dX9_reach_83 ?_
        refine z_iload_n 3 dX9_reach_86 rfl rfl ?_
        obtain ⟨hi_10, hf⟩ := zck_some hf
        refine z_iald (hL.t 12 rfl) hi_10 dX9_reach_87 ?_
        refine z_iconst 1 dX9_reach_88 rfl ?_
        obtain ⟨hi_11, hf⟩ := zck_some hf
        obtain ⟨h_12, he, hf⟩ := zlet_some hf
        refine z_zast (Or.inr rfl) (hL.t 22 rfl) (hL.nz 22) hi_11 he dX9_reach_89 ?_
        have hL := hL.I he
        refine z_iinc 3 (x3 + 1) dX9_reach_90 rfl rfl (by decide) (lc' := [(0, .ref a), (1, .int x1), (2, .int x2), (3, .int (x3 + 1))]) rfl ?_
        refine z_goto 40 dX9_reach_93 rfl ?_
        cases hf
        exact (hM.1 _ rfl) hL
noncomputable def fX9_reach_L30 (h : zH) (a : Nat) (x1 : Int32) (x2 : Int32) : Option ((zH × Int32) ⊕ (zH)) := if 4 ≤ x2 then (some (.inr h)) else (zb1 (zlp (fun s => fX9_reach_L40 s.1 a x1 x2 s.2) (h, (10 : Int32) * x1)) (fun t_13 => some (.inl ((t_13, x2 + 1)))))
theorem zX9_reach_L30 {F : zF} {h : zH} {a : Nat} {x1 : Int32} {x2 : Int32} {y : (zH × Int32) ⊕ (zH)} (hD : 1 ≤ F.2.1) (hL : zBlk mB mP h a) (hf : fX9_reach_L30 h a x1 x2 = some y) (hM : ((∀ s' : zH × Int32, y = .inl s' → (zBlk mB mP s'.1 a → Z F 4 cX9_reach RX9 "reach" none [] s'.1 30 [(0, .ref a), (1, .int x1), (2, .int s'.2)] [])) ∧ ∀ r : zH, y = .inr r → ((.inl none, r) : zX) = zEnd F)) : Z F 4 cX9_reach RX9 "reach" none [] h 30 [(0, .ref a), (1, .int x1), (2, .int x2)] [] := by
  unfold fX9_reach_L30 at hf
  refine z_iload_n 2 dX9_reach_30 rfl rfl ?_
  refine z_iconst 4 dX9_reach_31 rfl ?_
  refine z_icmp_ge 102 dX9_reach_32 rfl hf (fun _ hf => ?_) (fun _ hf => ?_)
  · cases hf
    exact z_vret dX9_reach_102 rfl (hM.2 _ rfl)
  · refine z_bipush 10 dX9_reach_35 rfl ?_
    refine z_iload_n 1 dX9_reach_37 rfl rfl ?_
    refine z_imul dX9_reach_38 ?_
    refine z_istore_n dX9_reach_39 rfl (by decide) (lc' := [(0, .ref a), (1, .int x1), (2, .int x2), (3, .int ((10 : Int32) * x1))]) rfl ?_
    obtain ⟨t_13, hl, hf⟩ := zb1_some hf
    refine z_loop (fun (s : zH × Int32) => (zBlk mB mP s.1 a → Z F 4 cX9_reach RX9 "reach" none [] s.1 40 [(0, .ref a), (1, .int x1), (2, .int x2), (3, .int s.2)] [])) (fun (r : zH) => (zBlk mB mP r a → Z F 4 cX9_reach RX9 "reach" none [] r 96 [(0, .ref a), (1, .int x1), (2, .int x2)] [])) (fun s y hb hs hr hL => zX9_reach_L40 hD hL hb ⟨hs, hr⟩) hl ?_ hL
    intro hL
    show Z F 4 cX9_reach RX9 "reach" none [] t_13 96 [(0, .ref a), (1, .int x1), (2, .int x2)] []
    refine z_iinc 2 (x2 + 1) dX9_reach_96 rfl rfl (by decide) (lc' := [(0, .ref a), (1, .int x1), (2, .int (x2 + 1))]) rfl ?_
    refine z_goto 30 dX9_reach_99 rfl ?_
    cases hf
    exact (hM.1 _ rfl) hL
noncomputable def fX9_reach (h : zH) (a : Nat) (x1 : Int32) : Option (zH) := zb1 (zlp (fun s => fX9_reach_L2 s.1 a x1 s.2) (h, 0)) (fun t_5 => zlp (fun s => fX9_reach_L30 s.1 a x1 s.2) (t_5, 0))
theorem zX9_reach {F : zF} {h : zH} {a : Nat} {x1 : Int32} {y : zH} (hD : 1 ≤ F.2.1) (hL : zBlk mB mP h a) (hf : fX9_reach h a x1 = some y) (hM : ((.inl none, y) : zX) = zEnd F) : Z F 4 cX9_reach RX9 "reach" none [] h 0 [(0, .ref a), (1, .int x1)] [] := by
  unfold fX9_reach at hf
  refine z_iconst 0 dX9_reach_0 rfl ?_
  refine z_istore_n dX9_reach_1 rfl (by decide) (lc' := [(0, .ref a), (1, .int x1), (2, .int 0)]) rfl ?_
  obtain ⟨t_5, hl, hf⟩ := zb1_some hf
  refine z_loop (fun (s : zH × Int32) => (zBlk mB mP s.1 a → Z F 4 cX9_reach RX9 "reach" none [] s.1 2 [(0, .ref a), (1, .int x1), (2, .int s.2)] [])) (fun (r : zH) => (zBlk mB mP r a → Z F 4 cX9_reach RX9 "reach" none [] r 28 [(0, .ref a), (1, .int x1)] [])) (fun s y hb hs hr hL => zX9_reach_L2 hD hL hb ⟨hs, hr⟩) hl ?_ hL
  intro hL
  show Z F 4 cX9_reach RX9 "reach" none [] t_5 28 [(0, .ref a), (1, .int x1)] []
  refine z_iconst 0 dX9_reach_28 rfl ?_
  refine z_istore_n dX9_reach_29 rfl (by decide) (lc' := [(0, .ref a), (1, .int x1), (2, .int 0)]) rfl ?_
  exact z_loop (fun (s : zH × Int32) => (zBlk mB mP s.1 a → Z F 4 cX9_reach RX9 "reach" none [] s.1 30 [(0, .ref a), (1, .int x1), (2, .int s.2)] [])) (fun (r : zH) => ((.inl none, r) : zX) = zEnd F) (fun s y hb hs hr hL => zX9_reach_L30 hD hL hb ⟨hs, hr⟩) hf hM hL
theorem ctX9_reach {l : Launch} {h : zH} {a : Nat} {x1 : Int32} {h' : zH} (hL : zBlk mB mP h a) (hf : fX9_reach h a x1 = some h') : zC l yX9_reach (ws_ yX9_reach cX9_reach 4 none) 1 [.ref a, .int x1] h (.inl none, h') :=
  z_start (by decide) (Nat.le_of_ble_eq_true rfl) (zX9_reach (F := (l, 1, h, (.inl none, h'))) (Nat.le_refl _) hL hf rfl)
noncomputable def fX9_comesHome_L19 (h : zH) (a : Nat) (x1 : Int32) (x3 : Int32) (x4 : Int32) (x5 : Int32) : Option ((Int32 × Int32) ⊕ (Int32)) := zck (vp_in x1 11) (if (((10 : Int32) * x1) + (zI h (a + 4) x1.toNatClampNeg)) ≤ x5 then (some (.inr x3)) else (zck (vp_in x5 110) (if (zI h (a + 13) x5.toNatClampNeg) = 0 then (some (.inl ((x3, x5 + 1)))) else (zck (vp_in x5 110) (if ((x3 >>> ((zI h (a + 10) x5.toNatClampNeg) &&& 31)) &&& 1) = 1 then (zck (vp_in x5 110) (some (.inl ((x3 ||| ((1 : Int32) <<< ((zI h (a + 12) x5.toNatClampNeg) &&& 31)), x5 + 1))))) else (some (.inl ((x3, x5 + 1)))))))))
theorem zX9_comesHome_L19 {F : zF} {h : zH} {a : Nat} {x1 : Int32} {x3 : Int32} {x4 : Int32} {x5 : Int32} {y : (Int32 × Int32) ⊕ (Int32)} (hD : 1 ≤ F.2.1) (hL : zBlk mB mP h a) (hf : fX9_comesHome_L19 h a x1 x3 x4 x5 = some y) (hM : ((∀ s' : Int32 × Int32, y = .inl s' → Z F 6 cX9_comesHome RX9 "comesHome" (some .boolean) [] h 19 [(0, .ref a), (1, .int x1), (3, .int s'.1), (4, .int x4), (5, .int s'.2)] []) ∧ ∀ r : Int32, y = .inr r → Z F 6 cX9_comesHome RX9 "comesHome" (some .boolean) [] h 78 [(0, .ref a), (1, .int x1), (3, .int r), (4, .int x4)] [])) : Z F 6 cX9_comesHome RX9 "comesHome" (some .boolean) [] h 19 [(0, .ref a), (1, .int x1), (3, .int x3), (4, .int x4), (5, .int x5)] [] := by
  unfold fX9_comesHome_L19 at hf
  refine z_iload 4 dX9_comesHome_19 rfl ?_
  refine z_bipush 10 dX9_comesHome_21 rfl ?_
  refine z_iload_n 1 dX9_comesHome_23 rfl rfl ?_
  refine z_imul dX9_comesHome_24 ?_
  refine z_aload_n 0 dX9_comesHome_25 rfl rfl ?_
  refine z_getr fdX9_20_7 (Or.inr ⟨_, rfl⟩) (hL.t 0 rfl) (hL.p 3 rfl) dX9_comesHome_26 ?_
  refine z_iload_n 1 dX9_comesHome_29 rfl rfl ?_
  obtain ⟨hi_1, hf⟩ := zck_some hf
  refine z_iald (hL.t 4 rfl) hi_1 dX9_comesHome_30 ?_
  refine z_iadd dX9_comesHome_31 ?_
  refine z_icmp_ge 78 dX9_comesHome_32 rfl hf (fun _ hf => ?_) (fun _ hf => ?_)
  · cases hf
    refine z_sub [0, 1, 2, 3] rfl ?_
    exact (hM.2 _ rfl)
  · refine z_aload_n 0 dX9_comesHome_35 rfl rfl ?_
    refine z_getr fdX9_47_7 (Or.inr ⟨_, rfl⟩) (hL.t 0 rfl) (hL.p 12 rfl) dX9_comesHome_36 ?_
    refine z_iload 4 dX9_comesHome_39 rfl ?_
    obtain ⟨hi_2, hf⟩ := zck_some hf
    refine z_zald (hL.t 13 rfl) hi_2 dX9_comesHome_41 ?_
    refine z_if_eq 72 dX9_comesHome_42 rfl hf (fun _ hf => ?_) (fun _ hf => ?_)
    · refine z_iinc 4 (x5 + 1) dX9_comesHome_72 rfl rfl (by decide) (lc' := [(0, .ref a), (1, .int x1), (3, .int x3), (4, .int x4), (5, .int (x5 + 1))]) rfl ?_
      refine z_goto 19 dX9_comesHome_75 rfl ?_
      cases hf
      exact (hM.1 _ rfl)
    · refine z_iload_n 2 dX9_comesHome_45 rfl rfl ?_
      refine z_aload_n 0 dX9_comesHome_46 rfl rfl ?_
      refine z_getr fdX9_38_7 (Or.inr ⟨_, rfl⟩) (hL.t 0 rfl) (hL.p 9 rfl) dX9_comesHome_47 ?_
      refine z_iload 4 dX9_comesHome_50 rfl ?_
      obtain ⟨hi_3, hf⟩ := zck_some hf
      refine z_iald (hL.t 10 rfl) hi_3 dX9_comesHome_52 ?_
      refine z_ishr dX9_comesHome_53 ?_
      refine z_iconst 1 dX9_comesHome_54 rfl ?_
      refine z_iand dX9_comesHome_55 ?_
      refine z_iconst 1 dX9_comesHome_56 rfl ?_
      refine z_icmp_ne 72 dX9_comesHome_57 rfl hf (fun _ hf => ?_) (fun _ hf => ?_)
      · refine z_iinc 4 (x5 + 1) dX9_comesHome_72 rfl rfl (by decide) (lc' := [(0, .ref a), (1, .int x1), (3, .int x3), (4, .int x4), (5, .int (x5 + 1))]) rfl ?_
        refine z_goto 19 dX9_comesHome_75 rfl ?_
        cases hf
        exact (hM.1 _ rfl)
      · refine z_iload_n 2 dX9_comesHome_60 rfl rfl ?_
        refine z_iconst 1 dX9_comesHome_61 rfl ?_
        refine z_aload_n 0 dX9_comesHome_62 rfl rfl ?_
        refine z_getr fdX9_44_7 (Or.inr ⟨_, rfl⟩) (hL.t 0 rfl) (hL.p 11 rfl) dX9_comesHome_63 ?_
        refine z_iload 4 dX9_comesHome_66 rfl ?_
        obtain ⟨hi_4, hf⟩ := zck_some hf
        refine z_iald (hL.t 12 rfl) hi_4 dX9_comesHome_68 ?_
        refine z_ishl dX9_comesHome_69 ?_
        refine z_ior dX9_comesHome_70 ?_
        refine z_istore_n dX9_comesHome_71 rfl (by decide) (lc' := [(0, .ref a), (1, .int x1), (3, .int (x3 ||| ((1 : Int32) <<< ((zI h (a + 12) x5.toNatClampNeg) &&& 31)))), (4, .int x4), (5, .int x5)]) rfl ?_
        refine z_iinc 4 (x5 + 1) dX9_comesHome_72 rfl rfl (by decide) (lc' := [(0, .ref a), (1, .int x1), (3, .int (x3 ||| ((1 : Int32) <<< ((zI h (a + 12) x5.toNatClampNeg) &&& 31)))), (4, .int x4), (5, .int (x5 + 1))]) rfl ?_
        refine z_goto 19 dX9_comesHome_75 rfl ?_
        cases hf
        exact (hM.1 _ rfl)
noncomputable def fX9_comesHome_L7 (h : zH) (a : Nat) (x1 : Int32) (x3 : Int32) (x4 : Int32) : Option ((Int32 × Int32) ⊕ (Int32)) := if 4 ≤ x4 then (if (x3 &&& 1) = 1 then (some (.inr 1)) else (some (.inr 0))) else (zb1 (zlp (fun s => fX9_comesHome_L19 h a x1 s.1 x4 s.2) (x3, (10 : Int32) * x1)) (fun t_5 => some (.inl ((t_5, x4 + 1)))))
theorem zX9_comesHome_L7 {F : zF} {h : zH} {a : Nat} {x1 : Int32} {x3 : Int32} {x4 : Int32} {y : (Int32 × Int32) ⊕ (Int32)} (hD : 1 ≤ F.2.1) (hL : zBlk mB mP h a) (hf : fX9_comesHome_L7 h a x1 x3 x4 = some y) (hM : ((∀ s' : Int32 × Int32, y = .inl s' → Z F 6 cX9_comesHome RX9 "comesHome" (some .boolean) [] h 7 [(0, .ref a), (1, .int x1), (3, .int s'.1), (4, .int s'.2)] []) ∧ ∀ r : Int32, y = .inr r → ((.inl (some (.int r)), h) : zX) = zEnd F)) : Z F 6 cX9_comesHome RX9 "comesHome" (some .boolean) [] h 7 [(0, .ref a), (1, .int x1), (3, .int x3), (4, .int x4)] [] := by
  unfold fX9_comesHome_L7 at hf
  refine z_iload 3 dX9_comesHome_7 rfl ?_
  refine z_iconst 4 dX9_comesHome_9 rfl ?_
  refine z_icmp_ge 84 dX9_comesHome_10 rfl hf (fun _ hf => ?_) (fun _ hf => ?_)
  · refine z_iload_n 2 dX9_comesHome_84 rfl rfl ?_
    refine z_iconst 1 dX9_comesHome_85 rfl ?_
    refine z_iand dX9_comesHome_86 ?_
    refine z_iconst 1 dX9_comesHome_87 rfl ?_
    refine z_icmp_ne 95 dX9_comesHome_88 rfl hf (fun _ hf => ?_) (fun _ hf => ?_)
    · refine z_iconst 0 dX9_comesHome_95 rfl ?_
      cases hf
      exact z_zret dX9_comesHome_96 rfl (Or.inl rfl) (hM.2 _ rfl)
    · refine z_iconst 1 dX9_comesHome_91 rfl ?_
      refine z_goto 96 dX9_comesHome_92 rfl ?_
      cases hf
      exact z_zret dX9_comesHome_96 rfl (Or.inr rfl) (hM.2 _ rfl)
  · refine z_bipush 10 dX9_comesHome_13 rfl ?_
    refine z_iload_n 1 dX9_comesHome_15 rfl rfl ?_
    refine z_imul dX9_comesHome_16 ?_
    refine z_istore dX9_comesHome_17 (by decide) (lc' := [(0, .ref a), (1, .int x1), (3, .int x3), (4, .int x4), (5, .int ((10 : Int32) * x1))]) rfl ?_
    obtain ⟨t_5, hl, hf⟩ := zb1_some hf
    refine z_loop (fun (s : Int32 × Int32) => Z F 6 cX9_comesHome RX9 "comesHome" (some .boolean) [] h 19 [(0, .ref a), (1, .int x1), (3, .int s.1), (4, .int x4), (5, .int s.2)] []) (fun (r : Int32) => Z F 6 cX9_comesHome RX9 "comesHome" (some .boolean) [] h 78 [(0, .ref a), (1, .int x1), (3, .int r), (4, .int x4)] []) (fun s y hb hs hr => zX9_comesHome_L19 hD hL hb ⟨hs, hr⟩) hl ?_
    show Z F 6 cX9_comesHome RX9 "comesHome" (some .boolean) [] h 78 [(0, .ref a), (1, .int x1), (3, .int t_5), (4, .int x4)] []
    refine z_iinc 3 (x4 + 1) dX9_comesHome_78 rfl rfl (by decide) (lc' := [(0, .ref a), (1, .int x1), (3, .int t_5), (4, .int (x4 + 1))]) rfl ?_
    refine z_goto 7 dX9_comesHome_81 rfl ?_
    cases hf
    exact (hM.1 _ rfl)
noncomputable def fX9_comesHome (h : zH) (a : Nat) (x1 : Int32) (x2 : Int32) : Option (Int32) := zlp (fun s => fX9_comesHome_L7 h a x1 s.1 s.2) ((1 : Int32) <<< (x2 &&& 31), 0)
theorem zX9_comesHome {F : zF} {h : zH} {a : Nat} {x1 : Int32} {x2 : Int32} {y : Int32} (hD : 1 ≤ F.2.1) (hL : zBlk mB mP h a) (hf : fX9_comesHome h a x1 x2 = some y) (hM : ((.inl (some (.int y)), h) : zX) = zEnd F) : Z F 6 cX9_comesHome RX9 "comesHome" (some .boolean) [] h 0 [(0, .ref a), (1, .int x1), (2, .int x2)] [] := by
  unfold fX9_comesHome at hf
  refine z_iconst 1 dX9_comesHome_0 rfl ?_
  refine z_iload_n 2 dX9_comesHome_1 rfl rfl ?_
  refine z_ishl dX9_comesHome_2 ?_
  refine z_istore_n dX9_comesHome_3 rfl (by decide) (lc' := [(0, .ref a), (1, .int x1), (2, .int x2), (3, .int ((1 : Int32) <<< (x2 &&& 31)))]) rfl ?_
  refine z_iconst 0 dX9_comesHome_4 rfl ?_
  refine z_istore dX9_comesHome_5 (by decide) (lc' := [(0, .ref a), (1, .int x1), (2, .int x2), (3, .int ((1 : Int32) <<< (x2 &&& 31))), (4, .int 0)]) rfl ?_
  refine z_sub [0, 1, 3, 4] rfl ?_
  exact z_loop (fun (s : Int32 × Int32) => Z F 6 cX9_comesHome RX9 "comesHome" (some .boolean) [] h 7 [(0, .ref a), (1, .int x1), (3, .int s.1), (4, .int s.2)] []) (fun (r : Int32) => ((.inl (some (.int r)), h) : zX) = zEnd F) (fun s y hb hs hr => zX9_comesHome_L7 hD hL hb ⟨hs, hr⟩) hf hM
theorem ctX9_comesHome {l : Launch} {h : zH} {a : Nat} {x1 : Int32} {x2 : Int32} {v : Int32} (hL : zBlk mB mP h a) (hf : fX9_comesHome h a x1 x2 = some v) : zC l yX9_comesHome (ws_ yX9_comesHome cX9_comesHome 6 (some .boolean)) 1 [.ref a, .int x1, .int x2] h (.inl (some (.int v)), h) :=
  z_start (by decide) (Nat.le_of_ble_eq_true rfl) (zX9_comesHome (F := (l, 1, h, (.inl (some (.int v)), h))) (Nat.le_refl _) hL hf rfl)
theorem svX9_205_7 : zIv RX9 205 yX9_stateOf (ws_ yX9_stateOf cX9_stateOf 3 (some .int)) 3 7 2 := ⟨zGood_c q1671 q109, ⟨_, _, rfl, rfl, qs54⟩, Or.inl q1668, q1670, ⟨by decide, by decide⟩, by decide +kernel⟩
theorem svX9_208_7 : zIv RX9 208 yX9_begins (ws_ yX9_begins cX9_begins 6 (some .boolean)) 6 7 3 := ⟨zGood_c q1675 q109, ⟨_, _, rfl, rfl, qs55⟩, Or.inl q1672, q1674, ⟨by decide, by decide⟩, by decide +kernel⟩
theorem svX9_211_7 : zIv RX9 211 yX9_numberOf (ws_ yX9_numberOf cX9_numberOf 3 (some .int)) 3 7 2 := ⟨zGood_c q1687 q109, ⟨_, _, rfl, rfl, qs58⟩, Or.inl q1684, q1686, ⟨by decide, by decide⟩, by decide +kernel⟩
theorem svX9_214_7 : zIv RX9 214 yX9_breaks (ws_ yX9_breaks cX9_breaks 4 (some .boolean)) 4 7 3 := ⟨zGood_c q1691 q109, ⟨_, _, rfl, rfl, qs59⟩, Or.inl q1688, q1690, ⟨by decide, by decide⟩, by decide +kernel⟩
noncomputable def fX9_isGood_J70 (h : zH) (a : Nat) (x1 : Int32) (x3 : Int32) (x4 : Int32) : Option ((Int32) ⊕ ((Unit) ⊕ ((Int32) ⊕ ((Unit) ⊕ (Int32 × zH))))) := zb1 (fX9_numberOf h a x1 x3) (fun v_10 => zb1 (fX9_numberOf h a x1 x4) (fun v_12 => zb2 (fX9_breaks h a 1 v_10 v_12) (fun v_14 h_15 => zck (zB v_14) (some (.inr (.inr (.inr (.inr ((v_14, h_15))))))))))
theorem zX9_isGood_J70 {F : zF} {h : zH} {a : Nat} {x1 : Int32} {x3 : Int32} {x4 : Int32} {x2 : Int32} {y : (Int32) ⊕ ((Unit) ⊕ ((Int32) ⊕ ((Unit) ⊕ (Int32 × zH))))} (hD : 3 ≤ F.2.1) (hL : zBlk mB mP h a) (hf : fX9_isGood_J70 h a x1 x3 x4 = some y) (hM : ((∀ s' : Int32, y = .inl s' → Z F 8 cX9_isGood RX9 "isGood" (some .boolean) [] h 26 [(0, .ref a), (1, .int x1), (2, .int x2), (3, .int x3), (4, .int s')] []) ∧ ∀ r : (Unit) ⊕ ((Int32) ⊕ ((Unit) ⊕ (Int32 × zH))), y = .inr r → (match r with | .inl t => Z F 8 cX9_isGood RX9 "isGood" (some .boolean) [] h 95 [(0, .ref a), (1, .int x1), (2, .int x2), (3, .int x3)] [] | .inr z => ((∀ s' : Int32, z = .inl s' → Z F 8 cX9_isGood RX9 "isGood" (some .boolean) [] h 16 [(0, .ref a), (1, .int x1), (2, .int x2), (3, .int s')] []) ∧ ∀ r : (Unit) ⊕ (Int32 × zH), z = .inr r → (match r with | .inl t => Z F 8 cX9_isGood RX9 "isGood" (some .boolean) [] h 101 [(0, .ref a), (1, .int x1)] [] | .inr z => ((.inl (some (.int z.1)), z.2) : zX) = zEnd F))))) : Z F 8 cX9_isGood RX9 "isGood" (some .boolean) [] h 70 [(0, .ref a), (1, .int x1), (3, .int x3), (4, .int x4)] [] := by
  unfold fX9_isGood_J70 at hf
  refine z_aload_n 0 dX9_isGood_70 rfl rfl ?_
  refine z_iconst 1 dX9_isGood_71 rfl ?_
  refine z_aload_n 0 dX9_isGood_72 rfl rfl ?_
  refine z_iload_n 1 dX9_isGood_73 rfl rfl ?_
  refine z_iload_n 2 dX9_isGood_74 rfl rfl ?_
  obtain ⟨v_10, hc_9, hf⟩ := zb1_some hf
  refine z_invVi svX9_211_7 (ctX9_numberOf hL hc_9) (hL.t 0 rfl) ⟨Nat.le_trans (by decide) hD, by decide⟩ rfl rfl (Nat.le_of_ble_eq_true rfl) dX9_isGood_75 ?_
  refine z_aload_n 0 dX9_isGood_78 rfl rfl ?_
  refine z_iload_n 1 dX9_isGood_79 rfl rfl ?_
  refine z_iload 3 dX9_isGood_80 rfl ?_
  obtain ⟨v_12, hc_11, hf⟩ := zb1_some hf
  refine z_invVi svX9_211_7 (ctX9_numberOf hL hc_11) (hL.t 0 rfl) ⟨Nat.le_trans (by decide) hD, by decide⟩ rfl rfl (Nat.le_of_ble_eq_true rfl) dX9_isGood_82 ?_
  obtain ⟨v_14, h_15, hc_13, hf⟩ := zb2_some hf
  have hct := ctX9_breaks (l := F.1) hL hc_13
  refine z_invVi svX9_214_7 hct (hL.t 0 rfl) ⟨Nat.le_trans (by decide) hD, by decide⟩ rfl rfl (Nat.le_of_ble_eq_true rfl) dX9_isGood_85 ?_
  have hL := hL.ext mOk hct.1
  obtain ⟨hz_16, hf⟩ := zck_some hf
  cases hf
  exact z_zret dX9_isGood_88 rfl hz_16 ((hM.2 _ rfl).2 _ rfl)
noncomputable def fX9_isGood_L26 (h : zH) (a : Nat) (x1 : Int32) (x2 : Int32) (x3 : Int32) (x4 : Int32) : Option ((Int32) ⊕ ((Unit) ⊕ ((Int32) ⊕ ((Unit) ⊕ (Int32 × zH))))) := if x2 ≤ x4 then (some (.inr (.inl (())))) else (zb1 (fX9_stateOf h a x1 x3) (fun v_4 => zb1 (fX9_stateOf h a x1 x4) (fun v_6 => if v_4 = v_6 then (zb1 (fX9_begins h a x1 x3 x4) (fun v_8 => if v_8 = 0 then (zb1 (fX9_begins h a x1 x4 x3) (fun v_18 => if v_18 = 0 then (some (.inl (x4 + 1))) else (fX9_isGood_J70 h a x1 x3 x4))) else (fX9_isGood_J70 h a x1 x3 x4))) else (some (.inl (x4 + 1))))))
theorem zX9_isGood_L26 {F : zF} {h : zH} {a : Nat} {x1 : Int32} {x2 : Int32} {x3 : Int32} {x4 : Int32} {y : (Int32) ⊕ ((Unit) ⊕ ((Int32) ⊕ ((Unit) ⊕ (Int32 × zH))))} (hD : 3 ≤ F.2.1) (hL : zBlk mB mP h a) (hf : fX9_isGood_L26 h a x1 x2 x3 x4 = some y) (hM : ((∀ s' : Int32, y = .inl s' → Z F 8 cX9_isGood RX9 "isGood" (some .boolean) [] h 26 [(0, .ref a), (1, .int x1), (2, .int x2), (3, .int x3), (4, .int s')] []) ∧ ∀ r : (Unit) ⊕ ((Int32) ⊕ ((Unit) ⊕ (Int32 × zH))), y = .inr r → (match r with | .inl t => Z F 8 cX9_isGood RX9 "isGood" (some .boolean) [] h 95 [(0, .ref a), (1, .int x1), (2, .int x2), (3, .int x3)] [] | .inr z => ((∀ s' : Int32, z = .inl s' → Z F 8 cX9_isGood RX9 "isGood" (some .boolean) [] h 16 [(0, .ref a), (1, .int x1), (2, .int x2), (3, .int s')] []) ∧ ∀ r : (Unit) ⊕ (Int32 × zH), z = .inr r → (match r with | .inl t => Z F 8 cX9_isGood RX9 "isGood" (some .boolean) [] h 101 [(0, .ref a), (1, .int x1)] [] | .inr z => ((.inl (some (.int z.1)), z.2) : zX) = zEnd F))))) : Z F 8 cX9_isGood RX9 "isGood" (some .boolean) [] h 26 [(0, .ref a), (1, .int x1), (2, .int x2), (3, .int x3), (4, .int x4)] [] := by
  unfold fX9_isGood_L26 at hf
  refine z_iload 4 dX9_isGood_26 rfl ?_
  refine z_iload_n 2 dX9_isGood_28 rfl rfl ?_
  refine z_icmp_ge 95 dX9_isGood_29 rfl hf (fun _ hf => ?_) (fun _ hf => ?_)
  · cases hf
    refine z_sub [0, 1, 2, 3] rfl ?_
    exact (hM.2 _ rfl)
  · refine z_aload_n 0 dX9_isGood_32 rfl rfl ?_
    refine z_iload_n 1 dX9_isGood_33 rfl rfl ?_
    refine z_iload_n 3 dX9_isGood_34 rfl rfl ?_
    obtain ⟨v_4, hc_3, hf⟩ := zb1_some hf
    refine z_invVi svX9_205_7 (ctX9_stateOf hL hc_3) (hL.t 0 rfl) ⟨Nat.le_trans (by decide) hD, by decide⟩ rfl rfl (Nat.le_of_ble_eq_true rfl) dX9_isGood_35 ?_
    refine z_aload_n 0 dX9_isGood_38 rfl rfl ?_
    refine z_iload_n 1 dX9_isGood_39 rfl rfl ?_
    refine z_iload 4 dX9_isGood_40 rfl ?_
    obtain ⟨v_6, hc_5, hf⟩ := zb1_some hf
    refine z_invVi svX9_205_7 (ctX9_stateOf hL hc_5) (hL.t 0 rfl) ⟨Nat.le_trans (by decide) hD, by decide⟩ rfl rfl (Nat.le_of_ble_eq_true rfl) dX9_isGood_42 ?_
    refine z_icmp_ne 89 dX9_isGood_45 rfl hf (fun _ hf => ?_) (fun _ hf => ?_)
    · refine z_iinc 4 (x4 + 1) dX9_isGood_89 rfl rfl (by decide) (lc' := [(0, .ref a), (1, .int x1), (2, .int x2), (3, .int x3), (4, .int (x4 + 1))]) rfl ?_
      refine z_goto 26 dX9_isGood_92 rfl ?_
      cases hf
      exact (hM.1 _ rfl)
    · refine z_aload_n 0 dX9_isGood_48 rfl rfl ?_
      refine z_iload_n 1 dX9_isGood_49 rfl rfl ?_
      refine z_iload_n 3 dX9_isGood_50 rfl rfl ?_
      refine z_iload 4 dX9_isGood_51 rfl ?_
      obtain ⟨v_8, hc_7, hf⟩ := zb1_some hf
      refine z_invVi svX9_208_7 (ctX9_begins hL hc_7) (hL.t 0 rfl) ⟨Nat.le_trans (by decide) hD, by decide⟩ rfl rfl (Nat.le_of_ble_eq_true rfl) dX9_isGood_53 ?_
      refine z_if_ne 70 dX9_isGood_56 rfl hf (fun _ hf => ?_) (fun _ hf => ?_)
      · refine z_sub [0, 1, 3, 4] rfl ?_
        exact zX9_isGood_J70 hD hL hf hM
      · refine z_aload_n 0 dX9_isGood_59 rfl rfl ?_
        refine z_iload_n 1 dX9_isGood_60 rfl rfl ?_
        refine z_iload 4 dX9_isGood_61 rfl ?_
        refine z_iload_n 3 dX9_isGood_63 rfl rfl ?_
        obtain ⟨v_18, hc_17, hf⟩ := zb1_some hf
        refine z_invVi svX9_208_7 (ctX9_begins hL hc_17) (hL.t 0 rfl) ⟨Nat.le_trans (by decide) hD, by decide⟩ rfl rfl (Nat.le_of_ble_eq_true rfl) dX9_isGood_64 ?_
        refine z_if_eq 89 dX9_isGood_67 rfl hf (fun _ hf => ?_) (fun _ hf => ?_)
        · refine z_iinc 4 (x4 + 1) dX9_isGood_89 rfl rfl (by decide) (lc' := [(0, .ref a), (1, .int x1), (2, .int x2), (3, .int x3), (4, .int (x4 + 1))]) rfl ?_
          refine z_goto 26 dX9_isGood_92 rfl ?_
          cases hf
          exact (hM.1 _ rfl)
        · refine z_sub [0, 1, 3, 4] rfl ?_
          exact zX9_isGood_J70 hD hL hf hM
noncomputable def fX9_isGood_L16 (h : zH) (a : Nat) (x1 : Int32) (x2 : Int32) (x3 : Int32) : Option ((Int32) ⊕ ((Unit) ⊕ (Int32 × zH))) := if x2 ≤ x3 then (some (.inr (.inl (())))) else (zlx (zlp (fun s => fX9_isGood_L26 h a x1 x2 x3 s) (x3 + 1)) (fun t_19 => some (.inl (x3 + 1))))
theorem zX9_isGood_L16 {F : zF} {h : zH} {a : Nat} {x1 : Int32} {x2 : Int32} {x3 : Int32} {y : (Int32) ⊕ ((Unit) ⊕ (Int32 × zH))} (hD : 3 ≤ F.2.1) (hL : zBlk mB mP h a) (hf : fX9_isGood_L16 h a x1 x2 x3 = some y) (hM : ((∀ s' : Int32, y = .inl s' → Z F 8 cX9_isGood RX9 "isGood" (some .boolean) [] h 16 [(0, .ref a), (1, .int x1), (2, .int x2), (3, .int s')] []) ∧ ∀ r : (Unit) ⊕ (Int32 × zH), y = .inr r → (match r with | .inl t => Z F 8 cX9_isGood RX9 "isGood" (some .boolean) [] h 101 [(0, .ref a), (1, .int x1)] [] | .inr z => ((.inl (some (.int z.1)), z.2) : zX) = zEnd F))) : Z F 8 cX9_isGood RX9 "isGood" (some .boolean) [] h 16 [(0, .ref a), (1, .int x1), (2, .int x2), (3, .int x3)] [] := by
  unfold fX9_isGood_L16 at hf
  refine z_iload_n 3 dX9_isGood_16 rfl rfl ?_
  refine z_iload_n 2 dX9_isGood_17 rfl rfl ?_
  refine z_icmp_ge 101 dX9_isGood_18 rfl hf (fun _ hf => ?_) (fun _ hf => ?_)
  · cases hf
    refine z_sub [0, 1] rfl ?_
    exact (hM.2 _ rfl)
  · refine z_iload_n 3 dX9_isGood_21 rfl rfl ?_
    refine z_iconst 1 dX9_isGood_22 rfl ?_
    refine z_iadd dX9_isGood_23 ?_
    refine z_istore dX9_isGood_24 (by decide) (lc' := [(0, .ref a), (1, .int x1), (2, .int x2), (3, .int x3), (4, .int (x3 + 1))]) rfl ?_
    obtain ⟨rr, hl, hf⟩ := zlx_some hf
    refine z_loop (fun (s : Int32) => Z F 8 cX9_isGood RX9 "isGood" (some .boolean) [] h 26 [(0, .ref a), (1, .int x1), (2, .int x2), (3, .int x3), (4, .int s)] []) (fun (r : (Unit) ⊕ ((Int32) ⊕ ((Unit) ⊕ (Int32 × zH)))) => (match r with | .inl t => Z F 8 cX9_isGood RX9 "isGood" (some .boolean) [] h 95 [(0, .ref a), (1, .int x1), (2, .int x2), (3, .int x3)] [] | .inr z => ((∀ s' : Int32, z = .inl s' → Z F 8 cX9_isGood RX9 "isGood" (some .boolean) [] h 16 [(0, .ref a), (1, .int x1), (2, .int x2), (3, .int s')] []) ∧ ∀ r : (Unit) ⊕ (Int32 × zH), z = .inr r → (match r with | .inl t => Z F 8 cX9_isGood RX9 "isGood" (some .boolean) [] h 101 [(0, .ref a), (1, .int x1)] [] | .inr z => ((.inl (some (.int z.1)), z.2) : zX) = zEnd F)))) (fun s y hb hs hr => zX9_isGood_L26 hD hL hb ⟨hs, hr⟩) hl ?_
    rcases hf with ⟨t_19, rfl, hf⟩ | rfl
    · show Z F 8 cX9_isGood RX9 "isGood" (some .boolean) [] h 95 [(0, .ref a), (1, .int x1), (2, .int x2), (3, .int x3)] []
      refine z_iinc 3 (x3 + 1) dX9_isGood_95 rfl rfl (by decide) (lc' := [(0, .ref a), (1, .int x1), (2, .int x2), (3, .int (x3 + 1))]) rfl ?_
      refine z_goto 16 dX9_isGood_98 rfl ?_
      cases hf
      exact (hM.1 _ rfl)
    · exact hM
noncomputable def fX9_isGood_L137 (h : zH) (a : Nat) (x1 : Int32) (x3 : Int32) (x4 : Int32) (x5 : Int32) (x6 : Int32) (x7 : Int32) : Option ((Int32 × Int32) ⊕ (Int32)) := zck (vp_in x1 11) (if (zI h (a + 3) x1.toNatClampNeg) ≤ x7 then (some (.inr x6)) else (zck (vp_in (((100 : Int32) * x1) + x7) 1100) (if (zI h (a + 8) (((100 : Int32) * x1) + x7).toNatClampNeg) = x5 then (zck (vp_in (((100 : Int32) * x1) + x7) 1100) (if (zI h (a + 9) (((100 : Int32) * x1) + x7).toNatClampNeg) = 0 then (some (.inl ((x6 + 0, x7 + 1)))) else (some (.inl ((x6 + 1, x7 + 1)))))) else (some (.inl ((x6 + 0, x7 + 1)))))))
theorem zX9_isGood_L137 {F : zF} {h : zH} {a : Nat} {x1 : Int32} {x3 : Int32} {x4 : Int32} {x5 : Int32} {x6 : Int32} {x7 : Int32} {y : (Int32 × Int32) ⊕ (Int32)} (hD : 3 ≤ F.2.1) (hL : zBlk mB mP h a) (hf : fX9_isGood_L137 h a x1 x3 x4 x5 x6 x7 = some y) (hM : ((∀ s' : Int32 × Int32, y = .inl s' → Z F 8 cX9_isGood RX9 "isGood" (some .boolean) [] h 137 [(0, .ref a), (1, .int x1), (3, .int x3), (4, .int x4), (5, .int x5), (6, .int s'.1), (7, .int s'.2)] []) ∧ ∀ r : Int32, y = .inr r → Z F 8 cX9_isGood RX9 "isGood" (some .boolean) [] h 196 [(0, .ref a), (1, .int x1), (3, .int x3), (4, .int x4), (5, .int x5), (6, .int r)] [])) : Z F 8 cX9_isGood RX9 "isGood" (some .boolean) [] h 137 [(0, .ref a), (1, .int x1), (3, .int x3), (4, .int x4), (5, .int x5), (6, .int x6), (7, .int x7)] [] := by
  unfold fX9_isGood_L137 at hf
  refine z_iload 6 dX9_isGood_137 rfl ?_
  refine z_aload_n 0 dX9_isGood_139 rfl rfl ?_
  refine z_getr fdX9_17_7 (Or.inr ⟨_, rfl⟩) (hL.t 0 rfl) (hL.p 2 rfl) dX9_isGood_140 ?_
  refine z_iload_n 1 dX9_isGood_143 rfl rfl ?_
  obtain ⟨hi_23, hf⟩ := zck_some hf
  refine z_iald (hL.t 3 rfl) hi_23 dX9_isGood_144 ?_
  refine z_icmp_ge 196 dX9_isGood_145 rfl hf (fun _ hf => ?_) (fun _ hf => ?_)
  · cases hf
    refine z_sub [0, 1, 2, 3, 4, 5] rfl ?_
    exact (hM.2 _ rfl)
  · refine z_iload 5 dX9_isGood_148 rfl ?_
    refine z_aload_n 0 dX9_isGood_150 rfl rfl ?_
    refine z_getr fdX9_32_7 (Or.inr ⟨_, rfl⟩) (hL.t 0 rfl) (hL.p 7 rfl) dX9_isGood_151 ?_
    refine z_bipush 100 dX9_isGood_154 rfl ?_
    refine z_iload_n 1 dX9_isGood_156 rfl rfl ?_
    refine z_imul dX9_isGood_157 ?_
    refine z_iload 6 dX9_isGood_158 rfl ?_
    refine z_iadd dX9_isGood_160 ?_
    obtain ⟨hi_24, hf⟩ := zck_some hf
    refine z_iald (hL.t 8 rfl) hi_24 dX9_isGood_161 ?_
    refine z_iload 4 dX9_isGood_162 rfl ?_
    refine z_icmp_ne 186 dX9_isGood_164 rfl hf (fun _ hf => ?_) (fun _ hf => ?_)
    · refine z_iconst 0 dX9_isGood_186 rfl ?_
      refine z_iadd dX9_isGood_187 ?_
      refine z_istore dX9_isGood_188 (by decide) (lc' := [(0, .ref a), (1, .int x1), (3, .int x3), (4, .int x4), (5, .int x5), (6, .int (x6 + 0)), (7, .int x7)]) rfl ?_
      refine z_iinc 6 (x7 + 1) dX9_isGood_190 rfl rfl (by decide) (lc' := [(0, .ref a), (1, .int x1), (3, .int x3), (4, .int x4), (5, .int x5), (6, .int (x6 + 0)), (7, .int (x7 + 1))]) rfl ?_
      refine z_goto 137 dX9_isGood_193 rfl ?_
      cases hf
      exact (hM.1 _ rfl)
    · refine z_aload_n 0 dX9_isGood_167 rfl rfl ?_
      refine z_getr fdX9_35_7 (Or.inr ⟨_, rfl⟩) (hL.t 0 rfl) (hL.p 8 rfl) dX9_isGood_168 ?_
      refine z_bipush 100 dX9_isGood_171 rfl ?_
      refine z_iload_n 1 dX9_isGood_173 rfl rfl ?_
      refine z_imul dX9_isGood_174 ?_
      refine z_iload 6 dX9_isGood_175 rfl ?_
      refine z_iadd dX9_isGood_177 ?_
      obtain ⟨hi_25, hf⟩ := zck_some hf
      refine z_zald (hL.t 9 rfl) hi_25 dX9_isGood_178 ?_
      refine z_if_eq 186 dX9_isGood_179 rfl hf (fun _ hf => ?_) (fun _ hf => ?_)
      · refine z_iconst 0 dX9_isGood_186 rfl ?_
        refine z_iadd dX9_isGood_187 ?_
        refine z_istore dX9_isGood_188 (by decide) (lc' := [(0, .ref a), (1, .int x1), (3, .int x3), (4, .int x4), (5, .int x5), (6, .int (x6 + 0)), (7, .int x7)]) rfl ?_
        refine z_iinc 6 (x7 + 1) dX9_isGood_190 rfl rfl (by decide) (lc' := [(0, .ref a), (1, .int x1), (3, .int x3), (4, .int x4), (5, .int x5), (6, .int (x6 + 0)), (7, .int (x7 + 1))]) rfl ?_
        refine z_goto 137 dX9_isGood_193 rfl ?_
        cases hf
        exact (hM.1 _ rfl)
      · refine z_iconst 1 dX9_isGood_182 rfl ?_
        refine z_goto 187 dX9_isGood_183 rfl ?_
        refine z_iadd dX9_isGood_187 ?_
        refine z_istore dX9_isGood_188 (by decide) (lc' := [(0, .ref a), (1, .int x1), (3, .int x3), (4, .int x4), (5, .int x5), (6, .int (x6 + 1)), (7, .int x7)]) rfl ?_
        refine z_iinc 6 (x7 + 1) dX9_isGood_190 rfl rfl (by decide) (lc' := [(0, .ref a), (1, .int x1), (3, .int x3), (4, .int x4), (5, .int x5), (6, .int (x6 + 1)), (7, .int (x7 + 1))]) rfl ?_
        refine z_goto 137 dX9_isGood_193 rfl ?_
        cases hf
        exact (hM.1 _ rfl)
noncomputable def fX9_isGood_L106 (h : zH) (a : Nat) (x1 : Int32) (x3 : Int32) (x4 : Int32) : Option ((Int32 × Int32) ⊕ (Int32)) := zck (vp_in x1 11) (if (zI h (a + 3) x1.toNatClampNeg) ≤ x4 then (some (.inr x3)) else (zck (vp_in (((100 : Int32) * x1) + x4) 1100) (zb1 (zlp (fun s => fX9_isGood_L137 h a x1 x3 x4 (zI h (a + 8) (((100 : Int32) * x1) + x4).toNatClampNeg) s.1 s.2) (0, 0)) (fun t_26 => if t_26 = 1 then (some (.inl ((x3, x4 + 1)))) else (if x3 < 0 then (some (.inl ((zI h (a + 8) (((100 : Int32) * x1) + x4).toNatClampNeg, x4 + 1)))) else (if x3 ≤ (zI h (a + 8) (((100 : Int32) * x1) + x4).toNatClampNeg) then (some (.inl ((x3, x4 + 1)))) else (some (.inl ((zI h (a + 8) (((100 : Int32) * x1) + x4).toNatClampNeg, x4 + 1))))))))))
theorem zX9_isGood_L106 {F : zF} {h : zH} {a : Nat} {x1 : Int32} {x3 : Int32} {x4 : Int32} {y : (Int32 × Int32) ⊕ (Int32)} (hD : 3 ≤ F.2.1) (hL : zBlk mB mP h a) (hf : fX9_isGood_L106 h a x1 x3 x4 = some y) (hM : ((∀ s' : Int32 × Int32, y = .inl s' → Z F 8 cX9_isGood RX9 "isGood" (some .boolean) [] h 106 [(0, .ref a), (1, .int x1), (3, .int s'.1), (4, .int s'.2)] []) ∧ ∀ r : Int32, y = .inr r → Z F 8 cX9_isGood RX9 "isGood" (some .boolean) [] h 221 [(0, .ref a), (1, .int x1), (3, .int r)] [])) : Z F 8 cX9_isGood RX9 "isGood" (some .boolean) [] h 106 [(0, .ref a), (1, .int x1), (3, .int x3), (4, .int x4)] [] := by
  unfold fX9_isGood_L106 at hf
  refine z_iload 3 dX9_isGood_106 rfl ?_
  refine z_aload_n 0 dX9_isGood_108 rfl rfl ?_
  refine z_getr fdX9_17_7 (Or.inr ⟨_, rfl⟩) (hL.t 0 rfl) (hL.p 2 rfl) dX9_isGood_109 ?_
  refine z_iload_n 1 dX9_isGood_112 rfl rfl ?_
  obtain ⟨hi_21, hf⟩ := zck_some hf
  refine z_iald (hL.t 3 rfl) hi_21 dX9_isGood_113 ?_
  refine z_icmp_ge 221 dX9_isGood_114 rfl hf (fun _ hf => ?_) (fun _ hf => ?_)
  · cases hf
    refine z_sub [0, 1, 2] rfl ?_
    exact (hM.2 _ rfl)
  · refine z_aload_n 0 dX9_isGood_117 rfl rfl ?_
    refine z_getr fdX9_32_7 (Or.inr ⟨_, rfl⟩) (hL.t 0 rfl) (hL.p 7 rfl) dX9_isGood_118 ?_
    refine z_bipush 100 dX9_isGood_121 rfl ?_
    refine z_iload_n 1 dX9_isGood_123 rfl rfl ?_
    refine z_imul dX9_isGood_124 ?_
    refine z_iload 3 dX9_isGood_125 rfl ?_
    refine z_iadd dX9_isGood_127 ?_
    obtain ⟨hi_22, hf⟩ := zck_some hf
    refine z_iald (hL.t 8 rfl) hi_22 dX9_isGood_128 ?_
    refine z_istore dX9_isGood_129 (by decide) (lc' := [(0, .ref a), (1, .int x1), (3, .int x3), (4, .int x4), (5, .int (zI h (a + 8) (((100 : Int32) * x1) + x4).toNatClampNeg))]) rfl ?_
    refine z_iconst 0 dX9_isGood_131 rfl ?_
    refine z_istore dX9_isGood_132 (by decide) (lc' := [(0, .ref a), (1, .int x1), (3, .int x3), (4, .int x4), (5, .int (zI h (a + 8) (((100 : Int32) * x1) + x4).toNatClampNeg)), (6, .int 0)]) rfl ?_
    refine z_iconst 0 dX9_isGood_134 rfl ?_
    refine z_istore dX9_isGood_135 (by decide) (lc' := [(0, .ref a), (1, .int x1), (3, .int x3), (4, .int x4), (5, .int (zI h (a + 8) (((100 : Int32) * x1) + x4).toNatClampNeg)), (6, .int 0), (7, .int 0)]) rfl ?_
    obtain ⟨t_26, hl, hf⟩ := zb1_some hf
    refine z_loop (fun (s : Int32 × Int32) => Z F 8 cX9_isGood RX9 "isGood" (some .boolean) [] h 137 [(0, .ref a), (1, .int x1), (3, .int x3), (4, .int x4), (5, .int (zI h (a + 8) (((100 : Int32) * x1) + x4).toNatClampNeg)), (6, .int s.1), (7, .int s.2)] []) (fun (r : Int32) => Z F 8 cX9_isGood RX9 "isGood" (some .boolean) [] h 196 [(0, .ref a), (1, .int x1), (3, .int x3), (4, .int x4), (5, .int (zI h (a + 8) (((100 : Int32) * x1) + x4).toNatClampNeg)), (6, .int r)] []) (fun s y hb hs hr => zX9_isGood_L137 hD hL hb ⟨hs, hr⟩) hl ?_
    show Z F 8 cX9_isGood RX9 "isGood" (some .boolean) [] h 196 [(0, .ref a), (1, .int x1), (3, .int x3), (4, .int x4), (5, .int (zI h (a + 8) (((100 : Int32) * x1) + x4).toNatClampNeg)), (6, .int t_26)] []
    refine z_iload 5 dX9_isGood_196 rfl ?_
    refine z_iconst 1 dX9_isGood_198 rfl ?_
    refine z_icmp_eq 215 dX9_isGood_199 rfl hf (fun _ hf => ?_) (fun _ hf => ?_)
    · refine z_iinc 3 (x4 + 1) dX9_isGood_215 rfl rfl (by decide) (lc' := [(0, .ref a), (1, .int x1), (3, .int x3), (4, .int (x4 + 1)), (5, .int (zI h (a + 8) (((100 : Int32) * x1) + x4).toNatClampNeg)), (6, .int t_26)]) rfl ?_
      refine z_goto 106 dX9_isGood_218 rfl ?_
      cases hf
      refine z_sub [0, 1, 2, 3] rfl ?_
      exact (hM.1 _ rfl)
    · refine z_iload_n 2 dX9_isGood_202 rfl rfl ?_
      refine z_if_lt 212 dX9_isGood_203 rfl hf (fun _ hf => ?_) (fun _ hf => ?_)
      · refine z_iload 4 dX9_isGood_212 rfl ?_
        refine z_istore_n dX9_isGood_214 rfl (by decide) (lc' := [(0, .ref a), (1, .int x1), (3, .int (zI h (a + 8) (((100 : Int32) * x1) + x4).toNatClampNeg)), (4, .int x4), (5, .int (zI h (a + 8) (((100 : Int32) * x1) + x4).toNatClampNeg)), (6, .int t_26)]) rfl ?_
        refine z_iinc 3 (x4 + 1) dX9_isGood_215 rfl rfl (by decide) (lc' := [(0, .ref a), (1, .int x1), (3, .int (zI h (a + 8) (((100 : Int32) * x1) + x4).toNatClampNeg)), (4, .int (x4 + 1)), (5, .int (zI h (a + 8) (((100 : Int32) * x1) + x4).toNatClampNeg)), (6, .int t_26)]) rfl ?_
        refine z_goto 106 dX9_isGood_218 rfl ?_
        cases hf
        refine z_sub [0, 1, 2, 3] rfl ?_
        exact (hM.1 _ rfl)
      · refine z_iload 4 dX9_isGood_206 rfl ?_
        refine z_iload_n 2 dX9_isGood_208 rfl rfl ?_
        refine z_icmp_ge 215 dX9_isGood_209 rfl hf (fun _ hf => ?_) (fun _ hf => ?_)
        · refine z_iinc 3 (x4 + 1) dX9_isGood_215 rfl rfl (by decide) (lc' := [(0, .ref a), (1, .int x1), (3, .int x3), (4, .int (x4 + 1)), (5, .int (zI h (a + 8) (((100 : Int32) * x1) + x4).toNatClampNeg)), (6, .int t_26)]) rfl ?_
          refine z_goto 106 dX9_isGood_218 rfl ?_
          cases hf
          refine z_sub [0, 1, 2, 3] rfl ?_
          exact (hM.1 _ rfl)
        · refine z_iload 4 dX9_isGood_212 rfl ?_
          refine z_istore_n dX9_isGood_214 rfl (by decide) (lc' := [(0, .ref a), (1, .int x1), (3, .int (zI h (a + 8) (((100 : Int32) * x1) + x4).toNatClampNeg)), (4, .int x4), (5, .int (zI h (a + 8) (((100 : Int32) * x1) + x4).toNatClampNeg)), (6, .int t_26)]) rfl ?_
          refine z_iinc 3 (x4 + 1) dX9_isGood_215 rfl rfl (by decide) (lc' := [(0, .ref a), (1, .int x1), (3, .int (zI h (a + 8) (((100 : Int32) * x1) + x4).toNatClampNeg)), (4, .int (x4 + 1)), (5, .int (zI h (a + 8) (((100 : Int32) * x1) + x4).toNatClampNeg)), (6, .int t_26)]) rfl ?_
          refine z_goto 106 dX9_isGood_218 rfl ?_
          cases hf
          refine z_sub [0, 1, 2, 3] rfl ?_
          exact (hM.1 _ rfl)
theorem svX9_217_7 : zIv RX9 217 yX9_reach (ws_ yX9_reach cX9_reach 4 none) 4 7 1 := ⟨zGood_c q1695 q109, ⟨_, _, rfl, rfl, qs60⟩, Or.inl q1692, q1694, ⟨by decide, by decide⟩, by decide +kernel⟩
theorem svX9_221_7 : zIv RX9 221 yX9_comesHome (ws_ yX9_comesHome cX9_comesHome 6 (some .boolean)) 6 7 2 := ⟨zGood_c q1699 q109, ⟨_, _, rfl, rfl, qs61⟩, Or.inl q1696, q1698, ⟨by decide, by decide⟩, by decide +kernel⟩
noncomputable def fX9_isGood_L241 (h : zH) (a : Nat) (x1 : Int32) (x4 : Int32) : Option ((Int32) ⊕ ((Unit) ⊕ (Int32 × zH))) := if 4 ≤ x4 then (some (.inr (.inl (())))) else (zck (vp_in x4 4) (if (zI h (a + 22) x4.toNatClampNeg) = 0 then (some (.inl (x4 + 1))) else (zb1 (fX9_comesHome h a x1 x4) (fun v_33 => if v_33 = 0 then (zb2 (fX9_breaks h a 3 x4 0) (fun v_35 h_36 => zck (zB v_35) (some (.inr (.inr ((v_35, h_36))))))) else (some (.inl (x4 + 1)))))))
theorem zX9_isGood_L241 {F : zF} {h : zH} {a : Nat} {x1 : Int32} {x4 : Int32} {y : (Int32) ⊕ ((Unit) ⊕ (Int32 × zH))} (hD : 3 ≤ F.2.1) (hL : zBlk mB mP h a) (hf : fX9_isGood_L241 h a x1 x4 = some y) (hM : ((∀ s' : Int32, y = .inl s' → Z F 8 cX9_isGood RX9 "isGood" (some .boolean) [] h 241 [(0, .ref a), (1, .int x1), (4, .int s')] []) ∧ ∀ r : (Unit) ⊕ (Int32 × zH), y = .inr r → (match r with | .inl t => Z F 8 cX9_isGood RX9 "isGood" (some .boolean) [] h 282 [(0, .ref a), (1, .int x1)] [] | .inr z => ((.inl (some (.int z.1)), z.2) : zX) = zEnd F))) : Z F 8 cX9_isGood RX9 "isGood" (some .boolean) [] h 241 [(0, .ref a), (1, .int x1), (4, .int x4)] [] := by
  unfold fX9_isGood_L241 at hf
  refine z_iload 2 dX9_isGood_241 rfl ?_
  refine z_iconst 4 dX9_isGood_243 rfl ?_
  refine z_icmp_ge 282 dX9_isGood_244 rfl hf (fun _ hf => ?_) (fun _ hf => ?_)
  · cases hf
    refine z_sub [0, 1] rfl ?_
    exact (hM.2 _ rfl)
  · refine z_aload_n 0 dX9_isGood_247 rfl rfl ?_
    refine z_getr fdX9_75_7 (Or.inr ⟨_, rfl⟩) (hL.t 0 rfl) (hL.p 21 rfl) dX9_isGood_248 ?_
    refine z_iload 2 dX9_isGood_251 rfl ?_
    obtain ⟨hi_31, hf⟩ := zck_some hf
    refine z_zald (hL.t 22 rfl) hi_31 dX9_isGood_253 ?_
    refine z_if_eq 276 dX9_isGood_254 rfl hf (fun _ hf => ?_) (fun _ hf => ?_)
    · refine z_iinc 2 (x4 + 1) dX9_isGood_276 rfl rfl (by decide) (lc' := [(0, .ref a), (1, .int x1), (4, .int (x4 + 1))]) rfl ?_
      refine z_goto 241 dX9_isGood_279 rfl ?_
      cases hf
      exact (hM.1 _ rfl)
    · refine z_aload_n 0 dX9_isGood_257 rfl rfl ?_
      refine z_iload_n 1 dX9_isGood_258 rfl rfl ?_
      refine z_iload 2 dX9_isGood_259 rfl ?_
      obtain ⟨v_33, hc_32, hf⟩ := zb1_some hf
      refine z_invVi svX9_221_7 (ctX9_comesHome hL hc_32) (hL.t 0 rfl) ⟨Nat.le_trans (by decide) hD, by decide⟩ rfl rfl (Nat.le_of_ble_eq_true rfl) dX9_isGood_261 ?_
      refine z_if_ne 276 dX9_isGood_264 rfl hf (fun _ hf => ?_) (fun _ hf => ?_)
      · refine z_iinc 2 (x4 + 1) dX9_isGood_276 rfl rfl (by decide) (lc' := [(0, .ref a), (1, .int x1), (4, .int (x4 + 1))]) rfl ?_
        refine z_goto 241 dX9_isGood_279 rfl ?_
        cases hf
        exact (hM.1 _ rfl)
      · refine z_aload_n 0 dX9_isGood_267 rfl rfl ?_
        refine z_iconst 3 dX9_isGood_268 rfl ?_
        refine z_iload 2 dX9_isGood_269 rfl ?_
        refine z_iconst 0 dX9_isGood_271 rfl ?_
        obtain ⟨v_35, h_36, hc_34, hf⟩ := zb2_some hf
        have hct := ctX9_breaks (l := F.1) hL hc_34
        refine z_invVi svX9_214_7 hct (hL.t 0 rfl) ⟨Nat.le_trans (by decide) hD, by decide⟩ rfl rfl (Nat.le_of_ble_eq_true rfl) dX9_isGood_272 ?_
        have hL := hL.ext mOk hct.1
        obtain ⟨hz_37, hf⟩ := zck_some hf
        cases hf
        exact z_zret dX9_isGood_275 rfl hz_37 (hM.2 _ rfl)
noncomputable def fX9_isGood_L342 (h : zH) (a : Nat) (x1 : Int32) (x4 : Int32) (x5 : Int32) (x6 : Int32) (x7 : Int32) : Option ((Int32 × Int32) ⊕ (Int32)) := zck (vp_in x1 11) (if (((10 : Int32) * x1) + (zI h (a + 4) x1.toNatClampNeg)) ≤ x7 then (some (.inr x6)) else (if x6 = 0 then (zck (vp_in x7 110) (if (zI h (a + 13) x7.toNatClampNeg) = 0 then (zck (vp_in x7 110) (zck (vp_in (zI h (a + 10) x7.toNatClampNeg) 4) (if (zI h (a + 22) (zI h (a + 10) x7.toNatClampNeg).toNatClampNeg) = 0 then (some (.inl ((0, x7 + 1)))) else (zck (vp_in x7 110) (zck (vp_in x5 1100) (if (zI h (a + 12) x7.toNatClampNeg) = (zI h (a + 5) x5.toNatClampNeg) then (some (.inl ((1, x7 + 1)))) else (some (.inl ((0, x7 + 1)))))))))) else (some (.inl ((0, x7 + 1)))))) else (some (.inl ((1, x7 + 1))))))
theorem zX9_isGood_L342 {F : zF} {h : zH} {a : Nat} {x1 : Int32} {x4 : Int32} {x5 : Int32} {x6 : Int32} {x7 : Int32} {y : (Int32 × Int32) ⊕ (Int32)} (hD : 3 ≤ F.2.1) (hL : zBlk mB mP h a) (hf : fX9_isGood_L342 h a x1 x4 x5 x6 x7 = some y) (hM : ((∀ s' : Int32 × Int32, y = .inl s' → Z F 8 cX9_isGood RX9 "isGood" (some .boolean) [] h 342 [(0, .ref a), (1, .int x1), (4, .int x4), (5, .int x5), (6, .int s'.1), (7, .int s'.2)] []) ∧ ∀ r : Int32, y = .inr r → Z F 8 cX9_isGood RX9 "isGood" (some .boolean) [] h 418 [(0, .ref a), (1, .int x1), (4, .int x4), (6, .int r)] [])) : Z F 8 cX9_isGood RX9 "isGood" (some .boolean) [] h 342 [(0, .ref a), (1, .int x1), (4, .int x4), (5, .int x5), (6, .int x6), (7, .int x7)] [] := by
  unfold fX9_isGood_L342 at hf
  refine z_iload 5 dX9_isGood_342 rfl ?_
  refine z_bipush 10 dX9_isGood_344 rfl ?_
  refine z_iload_n 1 dX9_isGood_346 rfl rfl ?_
  refine z_imul dX9_isGood_347 ?_
  refine z_aload_n 0 dX9_isGood_348 rfl rfl ?_
  refine z_getr fdX9_20_7 (Or.inr ⟨_, rfl⟩) (hL.t 0 rfl) (hL.p 3 rfl) dX9_isGood_349 ?_
  refine z_iload_n 1 dX9_isGood_352 rfl rfl ?_
  obtain ⟨hi_43, hf⟩ := zck_some hf
  refine z_iald (hL.t 4 rfl) hi_43 dX9_isGood_353 ?_
  refine z_iadd dX9_isGood_354 ?_
  refine z_icmp_ge 418 dX9_isGood_355 rfl hf (fun _ hf => ?_) (fun _ hf => ?_)
  · cases hf
    refine z_sub [0, 1, 2, 4] rfl ?_
    exact (hM.2 _ rfl)
  · refine z_iload 4 dX9_isGood_358 rfl ?_
    refine z_if_ne 405 dX9_isGood_360 rfl hf (fun _ hf => ?_) (fun _ hf => ?_)
    · refine z_iconst 1 dX9_isGood_405 rfl ?_
      refine z_goto 410 dX9_isGood_406 rfl ?_
      refine z_istore dX9_isGood_410 (by decide) (lc' := [(0, .ref a), (1, .int x1), (4, .int x4), (5, .int x5), (6, .int 1), (7, .int x7)]) rfl ?_
      refine z_iinc 5 (x7 + 1) dX9_isGood_412 rfl rfl (by decide) (lc' := [(0, .ref a), (1, .int x1), (4, .int x4), (5, .int x5), (6, .int 1), (7, .int (x7 + 1))]) rfl ?_
      refine z_goto 342 dX9_isGood_415 rfl ?_
      cases hf
      exact (hM.1 _ rfl)
    · refine z_aload_n 0 dX9_isGood_363 rfl rfl ?_
      refine z_getr fdX9_47_7 (Or.inr ⟨_, rfl⟩) (hL.t 0 rfl) (hL.p 12 rfl) dX9_isGood_364 ?_
      refine z_iload 5 dX9_isGood_367 rfl ?_
      obtain ⟨hi_44, hf⟩ := zck_some hf
      refine z_zald (hL.t 13 rfl) hi_44 dX9_isGood_369 ?_
      refine z_if_ne 409 dX9_isGood_370 rfl hf (fun _ hf => ?_) (fun _ hf => ?_)
      · refine z_iconst 0 dX9_isGood_409 rfl ?_
        refine z_istore dX9_isGood_410 (by decide) (lc' := [(0, .ref a), (1, .int x1), (4, .int x4), (5, .int x5), (6, .int 0), (7, .int x7)]) rfl ?_
        refine z_iinc 5 (x7 + 1) dX9_isGood_412 rfl rfl (by decide) (lc' := [(0, .ref a), (1, .int x1), (4, .int x4), (5, .int x5), (6, .int 0), (7, .int (x7 + 1))]) rfl ?_
        refine z_goto 342 dX9_isGood_415 rfl ?_
        cases hf
        exact (hM.1 _ rfl)
      · refine z_aload_n 0 dX9_isGood_373 rfl rfl ?_
        refine z_getr fdX9_75_7 (Or.inr ⟨_, rfl⟩) (hL.t 0 rfl) (hL.p 21 rfl) dX9_isGood_374 ?_
        refine z_aload_n 0 dX9_isGood_377 rfl rfl ?_
        refine z_getr fdX9_38_7 (Or.inr ⟨_, rfl⟩) (hL.t 0 rfl) (hL.p 9 rfl) dX9_isGood_378 ?_
        refine z_iload 5 dX9_isGood_381 rfl ?_
        obtain ⟨hi_45, hf⟩ := zck_some hf
        refine z_iald (hL.t 10 rfl) hi_45 dX9_isGood_383 ?_
        obtain ⟨hi_46, hf⟩ := zck_some hf
        refine z_zald (hL.t 22 rfl) hi_46 dX9_isGood_384 ?_
        refine z_if_eq 409 dX9_isGood_385 rfl hf (fun _ hf => ?_) (fun _ hf => ?_)
        · refine z_iconst 0 dX9_isGood_409 rfl ?_
          refine z_istore dX9_isGood_410 (by decide) (lc' := [(0, .ref a), (1, .int x1), (4, .int x4), (5, .int x5), (6, .int 0), (7, .int x7)]) rfl ?_
          refine z_iinc 5 (x7 + 1) dX9_isGood_412 rfl rfl (by decide) (lc' := [(0, .ref a), (1, .int x1), (4, .int x4), (5, .int x5), (6, .int 0), (7, .int (x7 + 1))]) rfl ?_
          refine z_goto 342 dX9_isGood_415 rfl ?_
          cases hf
          exact (hM.1 _ rfl)
        · refine z_aload_n 0 dX9_isGood_388 rfl rfl ?_
          refine z_getr fdX9_44_7 (Or.inr ⟨_, rfl⟩) (hL.t 0 rfl) (hL.p 11 rfl) dX9_isGood_389 ?_
          refine z_iload 5 dX9_isGood_392 rfl ?_
          obtain ⟨hi_47, hf⟩ := zck_some hf
          refine z_iald (hL.t 12 rfl) hi_47 dX9_isGood_394 ?_
          refine z_aload_n 0 dX9_isGood_395 rfl rfl ?_
          refine z_getr fdX9_23_7 (Or.inr ⟨_, rfl⟩) (hL.t 0 rfl) (hL.p 4 rfl) dX9_isGood_396 ?_
          refine z_iload 3 dX9_isGood_399 rfl ?_
          obtain ⟨hi_48, hf⟩ := zck_some hf
          refine z_iald (hL.t 5 rfl) hi_48 dX9_isGood_401 ?_
          refine z_icmp_ne 409 dX9_isGood_402 rfl hf (fun _ hf => ?_) (fun _ hf => ?_)
          · refine z_iconst 0 dX9_isGood_409 rfl ?_
            refine z_istore dX9_isGood_410 (by decide) (lc' := [(0, .ref a), (1, .int x1), (4, .int x4), (5, .int x5), (6, .int 0), (7, .int x7)]) rfl ?_
            refine z_iinc 5 (x7 + 1) dX9_isGood_412 rfl rfl (by decide) (lc' := [(0, .ref a), (1, .int x1), (4, .int x4), (5, .int x5), (6, .int 0), (7, .int (x7 + 1))]) rfl ?_
            refine z_goto 342 dX9_isGood_415 rfl ?_
            cases hf
            exact (hM.1 _ rfl)
          · refine z_iconst 1 dX9_isGood_405 rfl ?_
            refine z_goto 410 dX9_isGood_406 rfl ?_
            refine z_istore dX9_isGood_410 (by decide) (lc' := [(0, .ref a), (1, .int x1), (4, .int x4), (5, .int x5), (6, .int 1), (7, .int x7)]) rfl ?_
            refine z_iinc 5 (x7 + 1) dX9_isGood_412 rfl rfl (by decide) (lc' := [(0, .ref a), (1, .int x1), (4, .int x4), (5, .int x5), (6, .int 1), (7, .int (x7 + 1))]) rfl ?_
            refine z_goto 342 dX9_isGood_415 rfl ?_
            cases hf
            exact (hM.1 _ rfl)
noncomputable def fX9_isGood_L285 (h : zH) (a : Nat) (x1 : Int32) (x4 : Int32) : Option ((Int32) ⊕ ((Int32 × zH))) := zck (vp_in x1 11) (if (zI h (a + 3) x1.toNatClampNeg) ≤ x4 then (some (.inr ((1, h)))) else (zck (vp_in (((100 : Int32) * x1) + x4) 1100) (if (zI h (a + 9) (((100 : Int32) * x1) + x4).toNatClampNeg) = 0 then (some (.inl (x4 + 1))) else (zck (vp_in (((100 : Int32) * x1) + x4) 1100) (zck (vp_in (zI h (a + 5) (((100 : Int32) * x1) + x4).toNatClampNeg) 4) (if (zI h (a + 22) (zI h (a + 5) (((100 : Int32) * x1) + x4).toNatClampNeg).toNatClampNeg) = 0 then (zb1 (zlp (fun s => fX9_isGood_L342 h a x1 x4 (((100 : Int32) * x1) + x4) s.1 s.2) (0, (10 : Int32) * x1)) (fun t_49 => if t_49 = 0 then (zb2 (fX9_breaks h a 4 x4 0) (fun v_51 h_52 => zck (zB v_51) (some (.inr ((v_51, h_52)))))) else (some (.inl (x4 + 1))))) else (some (.inl (x4 + 1)))))))))
theorem zX9_isGood_L285 {F : zF} {h : zH} {a : Nat} {x1 : Int32} {x4 : Int32} {y : (Int32) ⊕ ((Int32 × zH))} (hD : 3 ≤ F.2.1) (hL : zBlk mB mP h a) (hf : fX9_isGood_L285 h a x1 x4 = some y) (hM : ((∀ s' : Int32, y = .inl s' → Z F 8 cX9_isGood RX9 "isGood" (some .boolean) [] h 285 [(0, .ref a), (1, .int x1), (4, .int s')] []) ∧ ∀ r : (Int32 × zH), y = .inr r → ((.inl (some (.int r.1)), r.2) : zX) = zEnd F)) : Z F 8 cX9_isGood RX9 "isGood" (some .boolean) [] h 285 [(0, .ref a), (1, .int x1), (4, .int x4)] [] := by
  unfold fX9_isGood_L285 at hf
  refine z_iload 2 dX9_isGood_285 rfl ?_
  refine z_aload_n 0 dX9_isGood_287 rfl rfl ?_
  refine z_getr fdX9_17_7 (Or.inr ⟨_, rfl⟩) (hL.t 0 rfl) (hL.p 2 rfl) dX9_isGood_288 ?_
  refine z_iload_n 1 dX9_isGood_291 rfl rfl ?_
  obtain ⟨hi_39, hf⟩ := zck_some hf
  refine z_iald (hL.t 3 rfl) hi_39 dX9_isGood_292 ?_
  refine z_icmp_ge 438 dX9_isGood_293 rfl hf (fun _ hf => ?_) (fun _ hf => ?_)
  · refine z_iconst 1 dX9_isGood_438 rfl ?_
    cases hf
    exact z_zret dX9_isGood_439 rfl (Or.inr rfl) (hM.2 _ rfl)
  · refine z_bipush 100 dX9_isGood_296 rfl ?_
    refine z_iload_n 1 dX9_isGood_298 rfl rfl ?_
    refine z_imul dX9_isGood_299 ?_
    refine z_iload 2 dX9_isGood_300 rfl ?_
    refine z_iadd dX9_isGood_302 ?_
    refine z_istore dX9_isGood_303 (by decide) (lc' := [(0, .ref a), (1, .int x1), (4, .int x4), (5, .int (((100 : Int32) * x1) + x4))]) rfl ?_
    refine z_aload_n 0 dX9_isGood_305 rfl rfl ?_
    refine z_getr fdX9_35_7 (Or.inr ⟨_, rfl⟩) (hL.t 0 rfl) (hL.p 8 rfl) dX9_isGood_306 ?_
    refine z_iload 3 dX9_isGood_309 rfl ?_
    obtain ⟨hi_40, hf⟩ := zck_some hf
    refine z_zald (hL.t 9 rfl) hi_40 dX9_isGood_311 ?_
    refine z_if_eq 432 dX9_isGood_312 rfl hf (fun _ hf => ?_) (fun _ hf => ?_)
    · refine z_iinc 2 (x4 + 1) dX9_isGood_432 rfl rfl (by decide) (lc' := [(0, .ref a), (1, .int x1), (4, .int (x4 + 1)), (5, .int (((100 : Int32) * x1) + x4))]) rfl ?_
      refine z_goto 285 dX9_isGood_435 rfl ?_
      cases hf
      refine z_sub [0, 1, 2] rfl ?_
      exact (hM.1 _ rfl)
    · refine z_aload_n 0 dX9_isGood_315 rfl rfl ?_
      refine z_getr fdX9_75_7 (Or.inr ⟨_, rfl⟩) (hL.t 0 rfl) (hL.p 21 rfl) dX9_isGood_316 ?_
      refine z_aload_n 0 dX9_isGood_319 rfl rfl ?_
      refine z_getr fdX9_23_7 (Or.inr ⟨_, rfl⟩) (hL.t 0 rfl) (hL.p 4 rfl) dX9_isGood_320 ?_
      refine z_iload 3 dX9_isGood_323 rfl ?_
      obtain ⟨hi_41, hf⟩ := zck_some hf
      refine z_iald (hL.t 5 rfl) hi_41 dX9_isGood_325 ?_
      obtain ⟨hi_42, hf⟩ := zck_some hf
      refine z_zald (hL.t 22 rfl) hi_42 dX9_isGood_326 ?_
      refine z_if_eq 333 dX9_isGood_327 rfl hf (fun _ hf => ?_) (fun _ hf => ?_)
      · refine z_iconst 0 dX9_isGood_333 rfl ?_
        refine z_istore dX9_isGood_334 (by decide) (lc' := [(0, .ref a), (1, .int x1), (4, .int x4), (5, .int (((100 : Int32) * x1) + x4)), (6, .int 0)]) rfl ?_
        refine z_bipush 10 dX9_isGood_336 rfl ?_
        refine z_iload_n 1 dX9_isGood_338 rfl rfl ?_
        refine z_imul dX9_isGood_339 ?_
        refine z_istore dX9_isGood_340 (by decide) (lc' := [(0, .ref a), (1, .int x1), (4, .int x4), (5, .int (((100 : Int32) * x1) + x4)), (6, .int 0), (7, .int ((10 : Int32) * x1))]) rfl ?_
        obtain ⟨t_49, hl, hf⟩ := zb1_some hf
        refine z_loop (fun (s : Int32 × Int32) => Z F 8 cX9_isGood RX9 "isGood" (some .boolean) [] h 342 [(0, .ref a), (1, .int x1), (4, .int x4), (5, .int (((100 : Int32) * x1) + x4)), (6, .int s.1), (7, .int s.2)] []) (fun (r : Int32) => Z F 8 cX9_isGood RX9 "isGood" (some .boolean) [] h 418 [(0, .ref a), (1, .int x1), (4, .int x4), (6, .int r)] []) (fun s y hb hs hr => zX9_isGood_L342 hD hL hb ⟨hs, hr⟩) hl ?_
        show Z F 8 cX9_isGood RX9 "isGood" (some .boolean) [] h 418 [(0, .ref a), (1, .int x1), (4, .int x4), (6, .int t_49)] []
        refine z_iload 3 dX9_isGood_418 rfl ?_
        refine z_if_ne 432 dX9_isGood_420 rfl hf (fun _ hf => ?_) (fun _ hf => ?_)
        · refine z_iinc 2 (x4 + 1) dX9_isGood_432 rfl rfl (by decide) (lc' := [(0, .ref a), (1, .int x1), (4, .int (x4 + 1)), (6, .int t_49)]) rfl ?_
          refine z_goto 285 dX9_isGood_435 rfl ?_
          cases hf
          refine z_sub [0, 1, 2] rfl ?_
          exact (hM.1 _ rfl)
        · refine z_aload_n 0 dX9_isGood_423 rfl rfl ?_
          refine z_iconst 4 dX9_isGood_424 rfl ?_
          refine z_iload 2 dX9_isGood_425 rfl ?_
          refine z_iconst 0 dX9_isGood_427 rfl ?_
          obtain ⟨v_51, h_52, hc_50, hf⟩ := zb2_some hf
          have hct := ctX9_breaks (l := F.1) hL hc_50
          refine z_invVi svX9_214_7 hct (hL.t 0 rfl) ⟨Nat.le_trans (by decide) hD, by decide⟩ rfl rfl (Nat.le_of_ble_eq_true rfl) dX9_isGood_428 ?_
          have hL := hL.ext mOk hct.1
          obtain ⟨hz_53, hf⟩ := zck_some hf
          cases hf
          exact z_zret dX9_isGood_431 rfl hz_53 (hM.2 _ rfl)
      · refine z_goto 432 dX9_isGood_330 rfl ?_
        refine z_iinc 2 (x4 + 1) dX9_isGood_432 rfl rfl (by decide) (lc' := [(0, .ref a), (1, .int x1), (4, .int (x4 + 1)), (5, .int (((100 : Int32) * x1) + x4))]) rfl ?_
        refine z_goto 285 dX9_isGood_435 rfl ?_
        cases hf
        refine z_sub [0, 1, 2] rfl ?_
        exact (hM.1 _ rfl)
noncomputable def fX9_isGood (h : zH) (a : Nat) (x1 : Int32) : Option (Int32 × zH) := zck (vp_in x1 11) (zck (vp_in x1 11) (zlx (zlp (fun s => fX9_isGood_L16 h a x1 ((zI h (a + 3) x1.toNatClampNeg) + (zI h (a + 4) x1.toNatClampNeg)) s) 0) (fun t_20 => zb1 (zlp (fun s => fX9_isGood_L106 h a x1 s.1 s.2) ((-1), 0)) (fun t_27 => if t_27 < 0 then (zb1 (fX9_reach h a x1) (fun h_30 => zlx (zlp (fun s => fX9_isGood_L241 h_30 a x1 s) 0) (fun t_38 => zlp (fun s => fX9_isGood_L285 h_30 a x1 s) 0))) else (zb2 (fX9_breaks h a 2 t_27 0) (fun v_55 h_56 => zck (zB v_55) (some ((v_55, h_56)))))))))
theorem zX9_isGood {F : zF} {h : zH} {a : Nat} {x1 : Int32} {y : Int32 × zH} (hD : 3 ≤ F.2.1) (hL : zBlk mB mP h a) (hf : fX9_isGood h a x1 = some y) (hM : ((.inl (some (.int y.1)), y.2) : zX) = zEnd F) : Z F 8 cX9_isGood RX9 "isGood" (some .boolean) [] h 0 [(0, .ref a), (1, .int x1)] [] := by
  unfold fX9_isGood at hf
  refine z_aload_n 0 dX9_isGood_0 rfl rfl ?_
  refine z_getr fdX9_17_7 (Or.inr ⟨_, rfl⟩) (hL.t 0 rfl) (hL.p 2 rfl) dX9_isGood_1 ?_
  refine z_iload_n 1 dX9_isGood_4 rfl rfl ?_
  obtain ⟨hi_1, hf⟩ := zck_some hf
  refine z_iald (hL.t 3 rfl) hi_1 dX9_isGood_5 ?_
  refine z_aload_n 0 dX9_isGood_6 rfl rfl ?_
  refine z_getr fdX9_20_7 (Or.inr ⟨_, rfl⟩) (hL.t 0 rfl) (hL.p 3 rfl) dX9_isGood_7 ?_
  refine z_iload_n 1 dX9_isGood_10 rfl rfl ?_
  obtain ⟨hi_2, hf⟩ := zck_some hf
  refine z_iald (hL.t 4 rfl) hi_2 dX9_isGood_11 ?_
  refine z_iadd dX9_isGood_12 ?_
  refine z_istore_n dX9_isGood_13 rfl (by decide) (lc' := [(0, .ref a), (1, .int x1), (2, .int ((zI h (a + 3) x1.toNatClampNeg) + (zI h (a + 4) x1.toNatClampNeg)))]) rfl ?_
  refine z_iconst 0 dX9_isGood_14 rfl ?_
  refine z_istore_n dX9_isGood_15 rfl (by decide) (lc' := [(0, .ref a), (1, .int x1), (2, .int ((zI h (a + 3) x1.toNatClampNeg) + (zI h (a + 4) x1.toNatClampNeg))), (3, .int 0)]) rfl ?_
  obtain ⟨rr, hl, hf⟩ := zlx_some hf
  refine z_loop (fun (s : Int32) => Z F 8 cX9_isGood RX9 "isGood" (some .boolean) [] h 16 [(0, .ref a), (1, .int x1), (2, .int ((zI h (a + 3) x1.toNatClampNeg) + (zI h (a + 4) x1.toNatClampNeg))), (3, .int s)] []) (fun (r : (Unit) ⊕ (Int32 × zH)) => (match r with | .inl t => Z F 8 cX9_isGood RX9 "isGood" (some .boolean) [] h 101 [(0, .ref a), (1, .int x1)] [] | .inr z => ((.inl (some (.int z.1)), z.2) : zX) = zEnd F)) (fun s y hb hs hr => zX9_isGood_L16 hD hL hb ⟨hs, hr⟩) hl ?_
  rcases hf with ⟨t_20, rfl, hf⟩ | rfl
  · show Z F 8 cX9_isGood RX9 "isGood" (some .boolean) [] h 101 [(0, .ref a), (1, .int x1)] []
    refine z_iconst (-1) dX9_isGood_101 rfl ?_
    refine z_istore_n dX9_isGood_102 rfl (by decide) (lc' := [(0, .ref a), (1, .int x1), (3, .int ((-1)))]) rfl ?_
    refine z_iconst 0 dX9_isGood_103 rfl ?_
    refine z_istore dX9_isGood_104 (by decide) (lc' := [(0, .ref a), (1, .int x1), (3, .int ((-1))), (4, .int 0)]) rfl ?_
    obtain ⟨t_27, hl, hf⟩ := zb1_some hf
    refine z_loop (fun (s : Int32 × Int32) => Z F 8 cX9_isGood RX9 "isGood" (some .boolean) [] h 106 [(0, .ref a), (1, .int x1), (3, .int s.1), (4, .int s.2)] []) (fun (r : Int32) => Z F 8 cX9_isGood RX9 "isGood" (some .boolean) [] h 221 [(0, .ref a), (1, .int x1), (3, .int r)] []) (fun s y hb hs hr => zX9_isGood_L106 hD hL hb ⟨hs, hr⟩) hl ?_
    show Z F 8 cX9_isGood RX9 "isGood" (some .boolean) [] h 221 [(0, .ref a), (1, .int x1), (3, .int t_27)] []
    refine z_iload_n 2 dX9_isGood_221 rfl rfl ?_
    refine z_if_lt 233 dX9_isGood_222 rfl hf (fun _ hf => ?_) (fun _ hf => ?_)
    · refine z_aload_n 0 dX9_isGood_233 rfl rfl ?_
      refine z_iload_n 1 dX9_isGood_234 rfl rfl ?_
      obtain ⟨h_30, hc_28, hf⟩ := zb1_some hf
      have hct := ctX9_reach (l := F.1) hL hc_28
      refine z_invVv svX9_217_7 hct (hL.t 0 rfl) ⟨Nat.le_trans (by decide) hD, by decide⟩ rfl rfl (Nat.le_of_ble_eq_true rfl) dX9_isGood_235 ?_
      have hL := hL.ext mOk hct.1
      refine z_iconst 0 dX9_isGood_238 rfl ?_
      refine z_istore dX9_isGood_239 (by decide) (lc' := [(0, .ref a), (1, .int x1), (3, .int t_27), (4, .int 0)]) rfl ?_
      refine z_sub [0, 1, 3] rfl ?_
      obtain ⟨rr, hl, hf⟩ := zlx_some hf
      refine z_loop (fun (s : Int32) => Z F 8 cX9_isGood RX9 "isGood" (some .boolean) [] h_30 241 [(0, .ref a), (1, .int x1), (4, .int s)] []) (fun (r : (Unit) ⊕ (Int32 × zH)) => (match r with | .inl t => Z F 8 cX9_isGood RX9 "isGood" (some .boolean) [] h_30 282 [(0, .ref a), (1, .int x1)] [] | .inr z => ((.inl (some (.int z.1)), z.2) : zX) = zEnd F)) (fun s y hb hs hr => zX9_isGood_L241 hD hL hb ⟨hs, hr⟩) hl ?_
      rcases hf with ⟨t_38, rfl, hf⟩ | rfl
      · show Z F 8 cX9_isGood RX9 "isGood" (some .boolean) [] h_30 282 [(0, .ref a), (1, .int x1)] []
        refine z_iconst 0 dX9_isGood_282 rfl ?_
        refine z_istore dX9_isGood_283 (by decide) (lc' := [(0, .ref a), (1, .int x1), (4, .int 0)]) rfl ?_
        exact z_loop (fun (s : Int32) => Z F 8 cX9_isGood RX9 "isGood" (some .boolean) [] h_30 285 [(0, .ref a), (1, .int x1), (4, .int s)] []) (fun (r : (Int32 × zH)) => ((.inl (some (.int r.1)), r.2) : zX) = zEnd F) (fun s y hb hs hr => zX9_isGood_L285 hD hL hb ⟨hs, hr⟩) hf hM
      · exact hM
    · refine z_aload_n 0 dX9_isGood_225 rfl rfl ?_
      refine z_iconst 2 dX9_isGood_226 rfl ?_
      refine z_iload_n 2 dX9_isGood_227 rfl rfl ?_
      refine z_iconst 0 dX9_isGood_228 rfl ?_
      obtain ⟨v_55, h_56, hc_54, hf⟩ := zb2_some hf
      have hct := ctX9_breaks (l := F.1) hL hc_54
      refine z_invVi svX9_214_7 hct (hL.t 0 rfl) ⟨Nat.le_trans (by decide) hD, by decide⟩ rfl rfl (Nat.le_of_ble_eq_true rfl) dX9_isGood_229 ?_
      have hL := hL.ext mOk hct.1
      obtain ⟨hz_57, hf⟩ := zck_some hf
      cases hf
      exact z_zret dX9_isGood_232 rfl hz_57 hM
  · exact hM
theorem ctX9_isGood {l : Launch} {h : zH} {a : Nat} {x1 : Int32} {v : Int32} {h' : zH} (hL : zBlk mB mP h a) (hf : fX9_isGood h a x1 = some (v, h')) : zC l yX9_isGood (ws_ yX9_isGood cX9_isGood 8 (some .boolean)) 3 [.ref a, .int x1] h (.inl (some (.int v)), h') :=
  z_start (by decide) (Nat.le_of_ble_eq_true rfl) (zX9_isGood (F := (l, 3, h, (.inl (some (.int v)), h'))) (Nat.le_refl _) hL hf rfl)
theorem svX9_225_7 : zIv RX9 225 yX9_isGood (ws_ yX9_isGood cX9_isGood 8 (some .boolean)) 8 7 1 := ⟨zGood_c q1667 q109, ⟨_, _, rfl, rfl, qs53⟩, Or.inl q1664, q1666, ⟨by decide, by decide⟩, by decide +kernel⟩
theorem fdX9_63_7 : zFd RX9 63 7 23 (.array .int) true := ⟨_, _, _, rfl, rfl, by decide, rfl, rfl, Or.inl q1415, Or.inl rfl⟩
noncomputable def fX9_close_L35 (h : zH) (a : Nat) (x3 : Int32) : Option ((zH × Int32) ⊕ ((Int32 × zH))) := if 3 ≤ x3 then (zb2 (fX9_tell h a ((-8))) (fun v_7 h_8 => some (.inr ((v_7, h_8))))) else (zck (vp_in x3 3) (zck (vp_in x3 3) (zlet (zsI h (a + 18) x3.toNatClampNeg (zI h (a + 23) x3.toNatClampNeg)) (fun h_11 => some (.inl ((h_11, x3 + 1)))))))
theorem zX9_close_L35 {F : zF} {h : zH} {a : Nat} {x3 : Int32} {y : (zH × Int32) ⊕ ((Int32 × zH))} (hD : 4 ≤ F.2.1) (hL : zBlk mB mP h a) (hf : fX9_close_L35 h a x3 = some y) (hM : ((∀ s' : zH × Int32, y = .inl s' → (zBlk mB mP s'.1 a → Z F 4 cX9_close RX9 "close" (some .int) [] s'.1 35 [(0, .ref a), (3, .int s'.2)] [])) ∧ ∀ r : (Int32 × zH), y = .inr r → ((.inl (some (.int r.1)), r.2) : zX) = zEnd F)) : Z F 4 cX9_close RX9 "close" (some .int) [] h 35 [(0, .ref a), (3, .int x3)] [] := by
  unfold fX9_close_L35 at hf
  refine z_iload_n 1 dX9_close_35 rfl rfl ?_
  refine z_iconst 3 dX9_close_36 rfl ?_
  refine z_icmp_ge 58 dX9_close_37 rfl hf (fun _ hf => ?_) (fun _ hf => ?_)
  · refine z_aload_n 0 dX9_close_58 rfl rfl ?_
    refine z_bipush (-8) dX9_close_59 rfl ?_
    obtain ⟨v_7, h_8, hc_6, hf⟩ := zb2_some hf
    have hct := ctX9_tell (l := F.1) hL hc_6
    refine z_invVi svX9_166_7 hct (hL.t 0 rfl) ⟨Nat.le_trans (by decide) hD, by decide⟩ rfl rfl (Nat.le_of_ble_eq_true rfl) dX9_close_61 ?_
    have hL := hL.ext mOk hct.1
    cases hf
    exact z_iret dX9_close_64 rfl (hM.2 _ rfl)
  · refine z_aload_n 0 dX9_close_40 rfl rfl ?_
    refine z_getr fdX9_63_7 (Or.inr ⟨_, rfl⟩) (hL.t 0 rfl) (hL.p 17 rfl) dX9_close_41 ?_
    refine z_iload_n 1 dX9_close_44 rfl rfl ?_
    refine z_aload_n 0 dX9_close_45 rfl rfl ?_
    refine z_getr fdX9_78_7 (Or.inr ⟨_, rfl⟩) (hL.t 0 rfl) (hL.p 22 rfl) dX9_close_46 ?_
    refine z_iload_n 1 dX9_close_49 rfl rfl ?_
    obtain ⟨hi_9, hf⟩ := zck_some hf
    refine z_iald (hL.t 23 rfl) hi_9 dX9_close_50 ?_
    obtain ⟨hi_10, hf⟩ := zck_some hf
    obtain ⟨h_11, he, hf⟩ := zlet_some hf
    refine z_iast (hL.t 18 rfl) (hL.nz 18) hi_10 he dX9_close_51 ?_
    have hL := hL.I he
    refine z_iinc 1 (x3 + 1) dX9_close_52 rfl rfl (by decide) (lc' := [(0, .ref a), (3, .int (x3 + 1))]) rfl ?_
    refine z_goto 35 dX9_close_55 rfl ?_
    cases hf
    exact (hM.1 _ rfl) hL
noncomputable def fX9_close (h : zH) (a : Nat) (x1 : Int32) : Option (Int32 × zH) := zb1 (fX9_fixed h a x1) (fun v_2 => if v_2 = 0 then (zb2 (fX9_isGood h a x1) (fun v_4 h_5 => if v_4 = 0 then (zlp (fun s => fX9_close_L35 s.1 a s.2) (h_5, 0)) else (zck (vp_in x1 11) (zlet (zsI h_5 (a + 2) x1.toNatClampNeg 1) (fun h_13 => some ((0, h_13))))))) else (zb2 (fX9_tell h a v_2) (fun v_15 h_16 => some ((v_15, h_16)))))
theorem zX9_close {F : zF} {h : zH} {a : Nat} {x1 : Int32} {y : Int32 × zH} (hD : 4 ≤ F.2.1) (hL : zBlk mB mP h a) (hf : fX9_close h a x1 = some y) (hM : ((.inl (some (.int y.1)), y.2) : zX) = zEnd F) : Z F 4 cX9_close RX9 "close" (some .int) [] h 0 [(0, .ref a), (1, .int x1)] [] := by
  unfold fX9_close at hf
  refine z_aload_n 0 dX9_close_0 rfl rfl ?_
  refine z_iload_n 1 dX9_close_1 rfl rfl ?_
  obtain ⟨v_2, hc_1, hf⟩ := zb1_some hf
  refine z_invVi svX9_181_7 (ctX9_fixed hL hc_1) (hL.t 0 rfl) ⟨Nat.le_trans (by decide) hD, by decide⟩ rfl rfl (Nat.le_of_ble_eq_true rfl) dX9_close_2 ?_
  refine z_istore_n dX9_close_5 rfl (by decide) (lc' := [(0, .ref a), (1, .int x1), (2, .int v_2)]) rfl ?_
  refine z_iload_n 2 dX9_close_6 rfl rfl ?_
  refine z_if_eq 16 dX9_close_7 rfl hf (fun _ hf => ?_) (fun _ hf => ?_)
  · refine z_aload_n 0 dX9_close_16 rfl rfl ?_
    refine z_iload_n 1 dX9_close_17 rfl rfl ?_
    obtain ⟨v_4, h_5, hc_3, hf⟩ := zb2_some hf
    have hct := ctX9_isGood (l := F.1) hL hc_3
    refine z_invVi svX9_225_7 hct (hL.t 0 rfl) ⟨Nat.le_trans (by decide) hD, by decide⟩ rfl rfl (Nat.le_of_ble_eq_true rfl) dX9_close_18 ?_
    have hL := hL.ext mOk hct.1
    refine z_if_eq 33 dX9_close_21 rfl hf (fun _ hf => ?_) (fun _ hf => ?_)
    · refine z_iconst 0 dX9_close_33 rfl ?_
      refine z_istore_n dX9_close_34 rfl (by decide) (lc' := [(0, .ref a), (1, .int x1), (2, .int v_2), (3, .int 0)]) rfl ?_
      refine z_sub [0, 3] rfl ?_
      exact z_loop (fun (s : zH × Int32) => (zBlk mB mP s.1 a → Z F 4 cX9_close RX9 "close" (some .int) [] s.1 35 [(0, .ref a), (3, .int s.2)] [])) (fun (r : (Int32 × zH)) => ((.inl (some (.int r.1)), r.2) : zX) = zEnd F) (fun s y hb hs hr hL => zX9_close_L35 hD hL hb ⟨hs, hr⟩) hf hM hL
    · refine z_aload_n 0 dX9_close_24 rfl rfl ?_
      refine z_getr fdX9_13_7 (Or.inr ⟨_, rfl⟩) (hL.t 0 rfl) (hL.p 1 rfl) dX9_close_25 ?_
      refine z_iload_n 1 dX9_close_28 rfl rfl ?_
      refine z_iconst 1 dX9_close_29 rfl ?_
      obtain ⟨hi_12, hf⟩ := zck_some hf
      obtain ⟨h_13, he, hf⟩ := zlet_some hf
      refine z_zast (Or.inr rfl) (hL.t 2 rfl) (hL.nz 2) hi_12 he dX9_close_30 ?_
      have hL := hL.I he
      refine z_iconst 0 dX9_close_31 rfl ?_
      cases hf
      exact z_iret dX9_close_32 rfl hM
  · refine z_aload_n 0 dX9_close_10 rfl rfl ?_
    refine z_iload_n 2 dX9_close_11 rfl rfl ?_
    obtain ⟨v_15, h_16, hc_14, hf⟩ := zb2_some hf
    have hct := ctX9_tell (l := F.1) hL hc_14
    refine z_invVi svX9_166_7 hct (hL.t 0 rfl) ⟨Nat.le_trans (by decide) hD, by decide⟩ rfl rfl (Nat.le_of_ble_eq_true rfl) dX9_close_12 ?_
    have hL := hL.ext mOk hct.1
    cases hf
    exact z_iret dX9_close_15 rfl hM
theorem ctX9_close {l : Launch} {h : zH} {a : Nat} {x1 : Int32} {v : Int32} {h' : zH} (hL : zBlk mB mP h a) (hf : fX9_close h a x1 = some (v, h')) : zC l yX9_close (ws_ yX9_close cX9_close 4 (some .int)) 4 [.ref a, .int x1] h (.inl (some (.int v)), h') :=
  z_start (by decide) (Nat.le_of_ble_eq_true rfl) (zX9_close (F := (l, 4, h, (.inl (some (.int v)), h'))) (Nat.le_refl _) hL hf rfl)
noncomputable def fX9_size (h : zH) (a : Nat) (x1 : Int32) (x2 : Int32) : Option (Int32 × zH) := zb1 (fX9_isPage h a x1) (fun v_2 => if v_2 = 0 then (zb2 (fX9_tell h a ((-1))) (fun v_4 h_5 => some ((v_4, h_5)))) else (zb1 (fX9_in x2 0 3) (fun v_7 => if v_7 = 0 then (zb2 (fX9_tell h a ((-1))) (fun v_13 h_14 => some ((v_13, h_14)))) else (if x2 = 0 then (zck (vp_in x1 11) (some ((zI h (a + 1) x1.toNatClampNeg, h)))) else (if x2 = 1 then (zck (vp_in x1 11) (if (zI h (a + 2) x1.toNatClampNeg) = 0 then (some ((0, h))) else (some ((1, h))))) else (if x2 = 2 then (zck (vp_in x1 11) (some ((zI h (a + 3) x1.toNatClampNeg, h)))) else (zck (vp_in x1 11) (some ((zI h (a + 4) x1.toNatClampNeg, h))))))))))
theorem zX9_size {F : zF} {h : zH} {a : Nat} {x1 : Int32} {x2 : Int32} {y : Int32 × zH} (hD : 3 ≤ F.2.1) (hL : zBlk mB mP h a) (hf : fX9_size h a x1 x2 = some y) (hM : ((.inl (some (.int y.1)), y.2) : zX) = zEnd F) : Z F 3 cX9_size RX9 "size" (some .int) [] h 0 [(0, .ref a), (1, .int x1), (2, .int x2)] [] := by
  unfold fX9_size at hf
  refine z_aload_n 0 dX9_size_0 rfl rfl ?_
  refine z_iload_n 1 dX9_size_1 rfl rfl ?_
  obtain ⟨v_2, hc_1, hf⟩ := zb1_some hf
  refine z_invVi svX9_170_7 (ctX9_isPage hL hc_1) (hL.t 0 rfl) ⟨Nat.le_trans (by decide) hD, by decide⟩ rfl rfl (Nat.le_of_ble_eq_true rfl) dX9_size_2 ?_
  refine z_if_eq 17 dX9_size_5 rfl hf (fun _ hf => ?_) (fun _ hf => ?_)
  · refine z_aload_n 0 dX9_size_17 rfl rfl ?_
    refine z_iconst (-1) dX9_size_18 rfl ?_
    obtain ⟨v_4, h_5, hc_3, hf⟩ := zb2_some hf
    have hct := ctX9_tell (l := F.1) hL hc_3
    refine z_invVi svX9_166_7 hct (hL.t 0 rfl) ⟨Nat.le_trans (by decide) hD, by decide⟩ rfl rfl (Nat.le_of_ble_eq_true rfl) dX9_size_19 ?_
    have hL := hL.ext mOk hct.1
    cases hf
    exact z_iret dX9_size_22 rfl hM
  · refine z_iload_n 2 dX9_size_8 rfl rfl ?_
    refine z_iconst 0 dX9_size_9 rfl ?_
    refine z_iconst 3 dX9_size_10 rfl ?_
    obtain ⟨v_7, hc_6, hf⟩ := zb1_some hf
    refine z_invSi ssX9_156 (ctX9_in hc_6) ⟨Nat.le_trans (by decide) hD, by decide⟩ rfl rfl (Nat.le_of_ble_eq_true rfl) dX9_size_11 ?_
    refine z_if_ne 23 dX9_size_14 rfl hf (fun _ hf => ?_) (fun _ hf => ?_)
    · refine z_iload_n 2 dX9_size_23 rfl rfl ?_
      refine z_if_ne 36 dX9_size_24 rfl hf (fun _ hf => ?_) (fun _ hf => ?_)
      · refine z_iload_n 2 dX9_size_36 rfl rfl ?_
        refine z_iconst 1 dX9_size_37 rfl ?_
        refine z_icmp_ne 58 dX9_size_38 rfl hf (fun _ hf => ?_) (fun _ hf => ?_)
        · refine z_iload_n 2 dX9_size_58 rfl rfl ?_
          refine z_iconst 2 dX9_size_59 rfl ?_
          refine z_icmp_ne 72 dX9_size_60 rfl hf (fun _ hf => ?_) (fun _ hf => ?_)
          · refine z_aload_n 0 dX9_size_72 rfl rfl ?_
            refine z_getr fdX9_20_7 (Or.inr ⟨_, rfl⟩) (hL.t 0 rfl) (hL.p 3 rfl) dX9_size_73 ?_
            refine z_iload_n 1 dX9_size_76 rfl rfl ?_
            obtain ⟨hi_8, hf⟩ := zck_some hf
            refine z_iald (hL.t 4 rfl) hi_8 dX9_size_77 ?_
            cases hf
            exact z_iret dX9_size_78 rfl hM
          · refine z_aload_n 0 dX9_size_63 rfl rfl ?_
            refine z_getr fdX9_17_7 (Or.inr ⟨_, rfl⟩) (hL.t 0 rfl) (hL.p 2 rfl) dX9_size_64 ?_
            refine z_iload_n 1 dX9_size_67 rfl rfl ?_
            obtain ⟨hi_9, hf⟩ := zck_some hf
            refine z_iald (hL.t 3 rfl) hi_9 dX9_size_68 ?_
            refine z_goto 78 dX9_size_69 rfl ?_
            cases hf
            exact z_iret dX9_size_78 rfl hM
        · refine z_aload_n 0 dX9_size_41 rfl rfl ?_
          refine z_getr fdX9_13_7 (Or.inr ⟨_, rfl⟩) (hL.t 0 rfl) (hL.p 1 rfl) dX9_size_42 ?_
          refine z_iload_n 1 dX9_size_45 rfl rfl ?_
          obtain ⟨hi_10, hf⟩ := zck_some hf
          refine z_zald (hL.t 2 rfl) hi_10 dX9_size_46 ?_
          refine z_if_eq 54 dX9_size_47 rfl hf (fun _ hf => ?_) (fun _ hf => ?_)
          · refine z_iconst 0 dX9_size_54 rfl ?_
            refine z_goto 78 dX9_size_55 rfl ?_
            cases hf
            exact z_iret dX9_size_78 rfl hM
          · refine z_iconst 1 dX9_size_50 rfl ?_
            refine z_goto 78 dX9_size_51 rfl ?_
            cases hf
            exact z_iret dX9_size_78 rfl hM
      · refine z_aload_n 0 dX9_size_27 rfl rfl ?_
        refine z_getr fdX9_9_7 (Or.inr ⟨_, rfl⟩) (hL.t 0 rfl) (hL.p 0 rfl) dX9_size_28 ?_
        refine z_iload_n 1 dX9_size_31 rfl rfl ?_
        obtain ⟨hi_11, hf⟩ := zck_some hf
        refine z_iald (hL.t 1 rfl) hi_11 dX9_size_32 ?_
        refine z_goto 78 dX9_size_33 rfl ?_
        cases hf
        exact z_iret dX9_size_78 rfl hM
    · refine z_aload_n 0 dX9_size_17 rfl rfl ?_
      refine z_iconst (-1) dX9_size_18 rfl ?_
      obtain ⟨v_13, h_14, hc_12, hf⟩ := zb2_some hf
      have hct := ctX9_tell (l := F.1) hL hc_12
      refine z_invVi svX9_166_7 hct (hL.t 0 rfl) ⟨Nat.le_trans (by decide) hD, by decide⟩ rfl rfl (Nat.le_of_ble_eq_true rfl) dX9_size_19 ?_
      have hL := hL.ext mOk hct.1
      cases hf
      exact z_iret dX9_size_22 rfl hM
theorem ctX9_size {l : Launch} {h : zH} {a : Nat} {x1 : Int32} {x2 : Int32} {v : Int32} {h' : zH} (hL : zBlk mB mP h a) (hf : fX9_size h a x1 x2 = some (v, h')) : zC l yX9_size (ws_ yX9_size cX9_size 3 (some .int)) 3 [.ref a, .int x1, .int x2] h (.inl (some (.int v)), h') :=
  z_start (by decide) (Nat.le_of_ble_eq_true rfl) (zX9_size (F := (l, 3, h, (.inl (some (.int v)), h'))) (Nat.le_refl _) hL hf rfl)
theorem fdX9_228_7 : zFd RX9 228 7 32 .int false := ⟨_, _, _, rfl, rfl, by decide, rfl, rfl, Or.inl q1424, Or.inl rfl⟩
theorem fdX9_81_7 : zFd RX9 81 7 33 (.array .int) true := ⟨_, _, _, rfl, rfl, by decide, rfl, rfl, Or.inl q1425, Or.inl rfl⟩
noncomputable def fX9_text_L8 (h : zH) (a : Nat) (x1 : Int32) (x2 : Int64) (x4 : Int32) : Option ((zH × Int32) ⊕ (zH)) := if x1 ≤ x4 then (some (.inr h)) else (zck (vp_in x4 4) (zlet (zsI h (a + 24) x4.toNatClampNeg (((x2 >>> (((8 : Int32) * ((x1 - 1) - x4)).toInt64 &&& 63)) &&& 255).toInt32)) (fun h_3 => some (.inl ((h_3, x4 + 1))))))
theorem zX9_text_L8 {F : zF} {h : zH} {a : Nat} {x1 : Int32} {x2 : Int64} {x4 : Int32} {y : (zH × Int32) ⊕ (zH)} (hD : 1 ≤ F.2.1) (hL : zBlk mB mP h a) (hf : fX9_text_L8 h a x1 x2 x4 = some y) (hM : ((∀ s' : zH × Int32, y = .inl s' → (zBlk mB mP s'.1 a → Z F 5 cX9_text RX9 "text" none [] s'.1 8 [(0, .ref a), (1, .int x1), (2, .long x2), (4, .int s'.2)] [])) ∧ ∀ r : zH, y = .inr r → ((.inl none, r) : zX) = zEnd F)) : Z F 5 cX9_text RX9 "text" none [] h 8 [(0, .ref a), (1, .int x1), (2, .long x2), (4, .int x4)] [] := by
  unfold fX9_text_L8 at hf
  refine z_iload 3 dX9_text_8 rfl ?_
  refine z_iload_n 1 dX9_text_10 rfl rfl ?_
  refine z_icmp_ge 43 dX9_text_11 rfl hf (fun _ hf => ?_) (fun _ hf => ?_)
  · cases hf
    exact z_vret dX9_text_43 rfl (hM.2 _ rfl)
  · refine z_aload_n 0 dX9_text_14 rfl rfl ?_
    refine z_getr fdX9_81_7 (Or.inr ⟨_, rfl⟩) (hL.t 0 rfl) (hL.p 23 rfl) dX9_text_15 ?_
    refine z_iload 3 dX9_text_18 rfl ?_
    refine z_lload_n 2 dX9_text_20 rfl rfl ?_
    refine z_bipush 8 dX9_text_21 rfl ?_
    refine z_iload_n 1 dX9_text_23 rfl rfl ?_
    refine z_iconst 1 dX9_text_24 rfl ?_
    refine z_isub dX9_text_25 ?_
    refine z_iload 3 dX9_text_26 rfl ?_
    refine z_isub dX9_text_28 ?_
    refine z_imul dX9_text_29 ?_
    refine z_lshr dX9_text_30 ?_
    refine z_ldc2 q1717 dX9_text_31 ?_
    refine z_land dX9_text_34 ?_
    refine z_l2i dX9_text_35 ?_
    obtain ⟨hi_2, hf⟩ := zck_some hf
    obtain ⟨h_3, he, hf⟩ := zlet_some hf
    refine z_iast (hL.t 24 rfl) (hL.nz 24) hi_2 he dX9_text_36 ?_
    have hL := hL.I he
    refine z_iinc 3 (x4 + 1) dX9_text_37 rfl rfl (by decide) (lc' := [(0, .ref a), (1, .int x1), (2, .long x2), (4, .int (x4 + 1))]) rfl ?_
    refine z_goto 8 dX9_text_40 rfl ?_
    cases hf
    exact (hM.1 _ rfl) hL
noncomputable def fX9_text (h : zH) (a : Nat) (x1 : Int32) (x2 : Int64) : Option (zH) := zlet (zsI h a 32 x1) (fun h_1 => zlp (fun s => fX9_text_L8 s.1 a x1 x2 s.2) (h_1, 0))
theorem zX9_text {F : zF} {h : zH} {a : Nat} {x1 : Int32} {x2 : Int64} {y : zH} (hD : 1 ≤ F.2.1) (hL : zBlk mB mP h a) (hf : fX9_text h a x1 x2 = some y) (hM : ((.inl none, y) : zX) = zEnd F) : Z F 5 cX9_text RX9 "text" none [] h 0 [(0, .ref a), (1, .int x1), (2, .long x2)] [] := by
  unfold fX9_text at hf
  refine z_aload_n 0 dX9_text_0 rfl rfl ?_
  refine z_iload_n 1 dX9_text_1 rfl rfl ?_
  obtain ⟨h_1, he, hf⟩ := zlet_some hf
  refine z_puti fdX9_228_7 (hL.t 0 rfl) (hL.nz 0) he dX9_text_2 ?_
  have hL := hL.I he
  refine z_iconst 0 dX9_text_5 rfl ?_
  refine z_istore dX9_text_6 (by decide) (lc' := [(0, .ref a), (1, .int x1), (2, .long x2), (4, .int 0)]) rfl ?_
  exact z_loop (fun (s : zH × Int32) => (zBlk mB mP s.1 a → Z F 5 cX9_text RX9 "text" none [] s.1 8 [(0, .ref a), (1, .int x1), (2, .long x2), (4, .int s.2)] [])) (fun (r : zH) => ((.inl none, r) : zX) = zEnd F) (fun s y hb hs hr hL => zX9_text_L8 hD hL hb ⟨hs, hr⟩) hf hM hL
theorem ctX9_text {l : Launch} {h : zH} {a : Nat} {x1 : Int32} {x2 : Int64} {h' : zH} (hL : zBlk mB mP h a) (hf : fX9_text h a x1 x2 = some h') : zC l yX9_text (ws_ yX9_text cX9_text 5 none) 1 [.ref a, .int x1, .long x2] h (.inl none, h') :=
  z_start (by decide) (Nat.le_of_ble_eq_true rfl) (zX9_text (F := (l, 1, h, (.inl none, h'))) (Nat.le_refl _) hL hf rfl)
noncomputable def fX9_first (x0 : Int32) : Option (Int32) := some ((55296 : Int32) + ((x0 - 65536) >>> (10 &&& 31)))
theorem zX9_first {F : zF} {h : zH} {x0 : Int32} {y : Int32} (hD : 1 ≤ F.2.1) (hf : fX9_first x0 = some y) (hM : ((.inl (some (.int y)), h) : zX) = zEnd F) : Z F 1 cX9_first RX9 "first" (some .int) [] h 0 [(0, .int x0)] [] := by
  unfold fX9_first at hf
  refine z_ldc q1642 dX9_first_0 ?_
  refine z_iload_n 0 dX9_first_2 rfl rfl ?_
  refine z_ldc q1712 dX9_first_3 ?_
  refine z_isub dX9_first_5 ?_
  refine z_bipush 10 dX9_first_6 rfl ?_
  refine z_ishr dX9_first_8 ?_
  refine z_iadd dX9_first_9 ?_
  cases hf
  exact z_iret dX9_first_10 rfl hM
theorem ctX9_first {l : Launch} {h : zH} {x0 : Int32} {v : Int32} (hf : fX9_first x0 = some v) : zC l yX9_first (ws_ yX9_first cX9_first 1 (some .int)) 1 [.int x0] h (.inl (some (.int v)), h) :=
  z_start (by decide) (Nat.le_of_ble_eq_true rfl) (zX9_first (F := (l, 1, h, (.inl (some (.int v)), h))) (Nat.le_refl _) hf rfl)
noncomputable def fX9_second (x0 : Int32) : Option (Int32) := some ((56320 : Int32) + ((x0 - 65536) &&& 1023))
theorem zX9_second {F : zF} {h : zH} {x0 : Int32} {y : Int32} (hD : 1 ≤ F.2.1) (hf : fX9_second x0 = some y) (hM : ((.inl (some (.int y)), h) : zX) = zEnd F) : Z F 1 cX9_second RX9 "second" (some .int) [] h 0 [(0, .int x0)] [] := by
  unfold fX9_second at hf
  refine z_ldc q1724 dX9_second_0 ?_
  refine z_iload_n 0 dX9_second_2 rfl rfl ?_
  refine z_ldc q1712 dX9_second_3 ?_
  refine z_isub dX9_second_5 ?_
  refine z_sipush 1023 dX9_second_6 rfl ?_
  refine z_iand dX9_second_9 ?_
  refine z_iadd dX9_second_10 ?_
  cases hf
  exact z_iret dX9_second_11 rfl hM
theorem ctX9_second {l : Launch} {h : zH} {x0 : Int32} {v : Int32} (hf : fX9_second x0 = some v) : zC l yX9_second (ws_ yX9_second cX9_second 1 (some .int)) 1 [.int x0] h (.inl (some (.int v)), h) :=
  z_start (by decide) (Nat.le_of_ble_eq_true rfl) (zX9_second (F := (l, 1, h, (.inl (some (.int v)), h))) (Nat.le_refl _) hf rfl)
noncomputable def fX9_turned (x0 : Int32) : Option (Int32) := some (((x0 &&& 255) <<< (8 &&& 31)) ||| (x0 >>> (8 &&& 31)))
theorem zX9_turned {F : zF} {h : zH} {x0 : Int32} {y : Int32} (hD : 1 ≤ F.2.1) (hf : fX9_turned x0 = some y) (hM : ((.inl (some (.int y)), h) : zX) = zEnd F) : Z F 1 cX9_turned RX9 "turned" (some .int) [] h 0 [(0, .int x0)] [] := by
  unfold fX9_turned at hf
  refine z_iload_n 0 dX9_turned_0 rfl rfl ?_
  refine z_sipush 255 dX9_turned_1 rfl ?_
  refine z_iand dX9_turned_4 ?_
  refine z_bipush 8 dX9_turned_5 rfl ?_
  refine z_ishl dX9_turned_7 ?_
  refine z_iload_n 0 dX9_turned_8 rfl rfl ?_
  refine z_bipush 8 dX9_turned_9 rfl ?_
  refine z_ishr dX9_turned_11 ?_
  refine z_ior dX9_turned_12 ?_
  cases hf
  exact z_iret dX9_turned_13 rfl hM
theorem ctX9_turned {l : Launch} {h : zH} {x0 : Int32} {v : Int32} (hf : fX9_turned x0 = some v) : zC l yX9_turned (ws_ yX9_turned cX9_turned 1 (some .int)) 1 [.int x0] h (.inl (some (.int v)), h) :=
  z_start (by decide) (Nat.le_of_ble_eq_true rfl) (zX9_turned (F := (l, 1, h, (.inl (some (.int v)), h))) (Nat.le_refl _) hf rfl)
noncomputable def fX9_few_L43 (h : zH) (a : Nat) (x1 : Int32) (x2 : Int32) (x3 : Int32) : Option ((zH × Int32) ⊕ (zH)) := if x3 ≤ 0 then (some (.inr h)) else (zck (vp_in x3 4) (zlet (zsI h (a + 24) x3.toNatClampNeg ((128 : Int32) ||| ((x1 >>> (((6 : Int32) * ((x2 - 1) - x3)) &&& 31)) &&& 63))) (fun h_3 => some (.inl ((h_3, x3 + (-1)))))))
theorem zX9_few_L43 {F : zF} {h : zH} {a : Nat} {x1 : Int32} {x2 : Int32} {x3 : Int32} {y : (zH × Int32) ⊕ (zH)} (hD : 1 ≤ F.2.1) (hL : zBlk mB mP h a) (hf : fX9_few_L43 h a x1 x2 x3 = some y) (hM : ((∀ s' : zH × Int32, y = .inl s' → (zBlk mB mP s'.1 a → Z F 4 cX9_few RX9 "few" none [] s'.1 43 [(0, .ref a), (1, .int x1), (2, .int x2), (3, .int s'.2)] [])) ∧ ∀ r : zH, y = .inr r → (zBlk mB mP r a → Z F 4 cX9_few RX9 "few" none [] r 76 [(0, .ref a), (1, .int x1), (2, .int x2)] []))) : Z F 4 cX9_few RX9 "few" none [] h 43 [(0, .ref a), (1, .int x1), (2, .int x2), (3, .int x3)] [] := by
  unfold fX9_few_L43 at hf
  refine z_iload_n 3 dX9_few_43 rfl rfl ?_
  refine z_if_le 76 dX9_few_44 rfl hf (fun _ hf => ?_) (fun _ hf => ?_)
  · cases hf
    refine z_sub [0, 1, 2] rfl ?_
    exact (hM.2 _ rfl) hL
  · refine z_aload_n 0 dX9_few_47 rfl rfl ?_
    refine z_getr fdX9_81_7 (Or.inr ⟨_, rfl⟩) (hL.t 0 rfl) (hL.p 23 rfl) dX9_few_48 ?_
    refine z_iload_n 3 dX9_few_51 rfl rfl ?_
    refine z_sipush 128 dX9_few_52 rfl ?_
    refine z_iload_n 1 dX9_few_55 rfl rfl ?_
    refine z_bipush 6 dX9_few_56 rfl ?_
    refine z_iload_n 2 dX9_few_58 rfl rfl ?_
    refine z_iconst 1 dX9_few_59 rfl ?_
    refine z_isub dX9_few_60 ?_
    refine z_iload_n 3 dX9_few_61 rfl rfl ?_
    refine z_isub dX9_few_62 ?_
    refine z_imul dX9_few_63 ?_
    refine z_ishr dX9_few_64 ?_
    refine z_bipush 63 dX9_few_65 rfl ?_
    refine z_iand dX9_few_67 ?_
    refine z_ior dX9_few_68 ?_
    obtain ⟨hi_2, hf⟩ := zck_some hf
    obtain ⟨h_3, he, hf⟩ := zlet_some hf
    refine z_iast (hL.t 24 rfl) (hL.nz 24) hi_2 he dX9_few_69 ?_
    have hL := hL.I he
    refine z_iinc 3 (x3 + (-1)) dX9_few_70 rfl rfl (by decide) (lc' := [(0, .ref a), (1, .int x1), (2, .int x2), (3, .int (x3 + (-1)))]) rfl ?_
    refine z_goto 43 dX9_few_73 rfl ?_
    cases hf
    exact (hM.1 _ rfl) hL
noncomputable def fX9_few_J33 (h : zH) (a : Nat) (x1 : Int32) (k0 : Int32) : Option (zH) := zlet (zsI h a 32 k0) (fun h_1 => zb1 (zlp (fun s => fX9_few_L43 s.1 a x1 k0 s.2) (h_1, k0 - 1)) (fun t_4 => if k0 = 1 then (zck (vp_in 0 4) (zlet (zsI t_4 (a + 24) (0 : Int32).toNatClampNeg ((0 : Int32) ||| (x1 >>> (((6 : Int32) * (k0 - 1)) &&& 31)))) (fun h_12 => some h_12))) else (if k0 = 2 then (zck (vp_in 0 4) (zlet (zsI t_4 (a + 24) (0 : Int32).toNatClampNeg ((192 : Int32) ||| (x1 >>> (((6 : Int32) * (k0 - 1)) &&& 31)))) (fun h_10 => some h_10))) else (if k0 = 3 then (zck (vp_in 0 4) (zlet (zsI t_4 (a + 24) (0 : Int32).toNatClampNeg ((224 : Int32) ||| (x1 >>> (((6 : Int32) * (k0 - 1)) &&& 31)))) (fun h_8 => some h_8))) else (zck (vp_in 0 4) (zlet (zsI t_4 (a + 24) (0 : Int32).toNatClampNeg ((240 : Int32) ||| (x1 >>> (((6 : Int32) * (k0 - 1)) &&& 31)))) (fun h_6 => some h_6)))))))
theorem zX9_few_J33 {F : zF} {h : zH} {a : Nat} {x1 : Int32} {k0 : Int32} {y : zH} (hD : 1 ≤ F.2.1) (hL : zBlk mB mP h a) (hf : fX9_few_J33 h a x1 k0 = some y) (hM : ((.inl none, y) : zX) = zEnd F) : Z F 4 cX9_few RX9 "few" none [] h 33 [(0, .ref a), (1, .int x1)] [.int k0] := by
  unfold fX9_few_J33 at hf
  refine z_istore_n dX9_few_33 rfl (by decide) (lc' := [(0, .ref a), (1, .int x1), (2, .int k0)]) rfl ?_
  refine z_aload_n 0 dX9_few_34 rfl rfl ?_
  refine z_iload_n 2 dX9_few_35 rfl rfl ?_
  obtain ⟨h_1, he, hf⟩ := zlet_some hf
  refine z_puti fdX9_228_7 (hL.t 0 rfl) (hL.nz 0) he dX9_few_36 ?_
  have hL := hL.I he
  refine z_iload_n 2 dX9_few_39 rfl rfl ?_
  refine z_iconst 1 dX9_few_40 rfl ?_
  refine z_isub dX9_few_41 ?_
  refine z_istore_n dX9_few_42 rfl (by decide) (lc' := [(0, .ref a), (1, .int x1), (2, .int k0), (3, .int (k0 - 1))]) rfl ?_
  obtain ⟨t_4, hl, hf⟩ := zb1_some hf
  refine z_loop (fun (s : zH × Int32) => (zBlk mB mP s.1 a → Z F 4 cX9_few RX9 "few" none [] s.1 43 [(0, .ref a), (1, .int x1), (2, .int k0), (3, .int s.2)] [])) (fun (r : zH) => (zBlk mB mP r a → Z F 4 cX9_few RX9 "few" none [] r 76 [(0, .ref a), (1, .int x1), (2, .int k0)] [])) (fun s y hb hs hr hL => zX9_few_L43 hD hL hb ⟨hs, hr⟩) hl ?_ hL
  intro hL
  show Z F 4 cX9_few RX9 "few" none [] t_4 76 [(0, .ref a), (1, .int x1), (2, .int k0)] []
  refine z_aload_n 0 dX9_few_76 rfl rfl ?_
  refine z_getr fdX9_81_7 (Or.inr ⟨_, rfl⟩) (hL.t 0 rfl) (hL.p 23 rfl) dX9_few_77 ?_
  refine z_iconst 0 dX9_few_80 rfl ?_
  refine z_iload_n 2 dX9_few_81 rfl rfl ?_
  refine z_iconst 1 dX9_few_82 rfl ?_
  refine z_icmp_ne 90 dX9_few_83 rfl hf (fun _ hf => ?_) (fun _ hf => ?_)
  · refine z_iload_n 2 dX9_few_90 rfl rfl ?_
    refine z_iconst 2 dX9_few_91 rfl ?_
    refine z_icmp_ne 101 dX9_few_92 rfl hf (fun _ hf => ?_) (fun _ hf => ?_)
    · refine z_iload_n 2 dX9_few_101 rfl rfl ?_
      refine z_iconst 3 dX9_few_102 rfl ?_
      refine z_icmp_ne 112 dX9_few_103 rfl hf (fun _ hf => ?_) (fun _ hf => ?_)
      · refine z_sipush 240 dX9_few_112 rfl ?_
        refine z_iload_n 1 dX9_few_115 rfl rfl ?_
        refine z_bipush 6 dX9_few_116 rfl ?_
        refine z_iload_n 2 dX9_few_118 rfl rfl ?_
        refine z_iconst 1 dX9_few_119 rfl ?_
        refine z_isub dX9_few_120 ?_
        refine z_imul dX9_few_121 ?_
        refine z_ishr dX9_few_122 ?_
        refine z_ior dX9_few_123 ?_
        obtain ⟨hi_5, hf⟩ := zck_some hf
        obtain ⟨h_6, he, hf⟩ := zlet_some hf
        refine z_iast (hL.t 24 rfl) (hL.nz 24) hi_5 he dX9_few_124 ?_
        have hL := hL.I he
        cases hf
        exact z_vret dX9_few_125 rfl hM
      · refine z_sipush 224 dX9_few_106 rfl ?_
        refine z_goto 115 dX9_few_109 rfl ?_
        refine z_iload_n 1 dX9_few_115 rfl rfl ?_
        refine z_bipush 6 dX9_few_116 rfl ?_
        refine z_iload_n 2 dX9_few_118 rfl rfl ?_
        refine z_iconst 1 dX9_few_119 rfl ?_
        refine z_isub dX9_few_120 ?_
        refine z_imul dX9_few_121 ?_
        refine z_ishr dX9_few_122 ?_
        refine z_ior dX9_few_123 ?_
        obtain ⟨hi_7, hf⟩ := zck_some hf
        obtain ⟨h_8, he, hf⟩ := zlet_some hf
        refine z_iast (hL.t 24 rfl) (hL.nz 24) hi_7 he dX9_few_124 ?_
        have hL := hL.I he
        cases hf
        exact z_vret dX9_few_125 rfl hM
    · refine z_sipush 192 dX9_few_95 rfl ?_
      refine z_goto 115 dX9_few_98 rfl ?_
      refine z_iload_n 1 dX9_few_115 rfl rfl ?_
      refine z_bipush 6 dX9_few_116 rfl ?_
      refine z_iload_n 2 dX9_few_118 rfl rfl ?_
      refine z_iconst 1 dX9_few_119 rfl ?_
      refine z_isub dX9_few_120 ?_
      refine z_imul dX9_few_121 ?_
      refine z_ishr dX9_few_122 ?_
      refine z_ior dX9_few_123 ?_
      obtain ⟨hi_9, hf⟩ := zck_some hf
      obtain ⟨h_10, he, hf⟩ := zlet_some hf
      refine z_iast (hL.t 24 rfl) (hL.nz 24) hi_9 he dX9_few_124 ?_
      have hL := hL.I he
      cases hf
      exact z_vret dX9_few_125 rfl hM
  · refine z_iconst 0 dX9_few_86 rfl ?_
    refine z_goto 115 dX9_few_87 rfl ?_
    refine z_iload_n 1 dX9_few_115 rfl rfl ?_
    refine z_bipush 6 dX9_few_116 rfl ?_
    refine z_iload_n 2 dX9_few_118 rfl rfl ?_
    refine z_iconst 1 dX9_few_119 rfl ?_
    refine z_isub dX9_few_120 ?_
    refine z_imul dX9_few_121 ?_
    refine z_ishr dX9_few_122 ?_
    refine z_ior dX9_few_123 ?_
    obtain ⟨hi_11, hf⟩ := zck_some hf
    obtain ⟨h_12, he, hf⟩ := zlet_some hf
    refine z_iast (hL.t 24 rfl) (hL.nz 24) hi_11 he dX9_few_124 ?_
    have hL := hL.I he
    cases hf
    exact z_vret dX9_few_125 rfl hM
noncomputable def fX9_few (h : zH) (a : Nat) (x1 : Int32) : Option (zH) := if 128 ≤ x1 then (if 2048 ≤ x1 then (if 65536 ≤ x1 then (fX9_few_J33 h a x1 4) else (fX9_few_J33 h a x1 3)) else (fX9_few_J33 h a x1 2)) else (fX9_few_J33 h a x1 1)
theorem zX9_few {F : zF} {h : zH} {a : Nat} {x1 : Int32} {y : zH} (hD : 1 ≤ F.2.1) (hL : zBlk mB mP h a) (hf : fX9_few h a x1 = some y) (hM : ((.inl none, y) : zX) = zEnd F) : Z F 4 cX9_few RX9 "few" none [] h 0 [(0, .ref a), (1, .int x1)] [] := by
  unfold fX9_few at hf
  refine z_iload_n 1 dX9_few_0 rfl rfl ?_
  refine z_sipush 128 dX9_few_1 rfl ?_
  refine z_icmp_ge 11 dX9_few_4 rfl hf (fun _ hf => ?_) (fun _ hf => ?_)
  · refine z_iload_n 1 dX9_few_11 rfl rfl ?_
    refine z_sipush 2048 dX9_few_12 rfl ?_
    refine z_icmp_ge 22 dX9_few_15 rfl hf (fun _ hf => ?_) (fun _ hf => ?_)
    · refine z_iload_n 1 dX9_few_22 rfl rfl ?_
      refine z_ldc q1712 dX9_few_23 ?_
      refine z_icmp_ge 32 dX9_few_25 rfl hf (fun _ hf => ?_) (fun _ hf => ?_)
      · refine z_iconst 4 dX9_few_32 rfl ?_
        exact zX9_few_J33 hD hL hf hM
      · refine z_iconst 3 dX9_few_28 rfl ?_
        refine z_goto 33 dX9_few_29 rfl ?_
        exact zX9_few_J33 hD hL hf hM
    · refine z_iconst 2 dX9_few_18 rfl ?_
      refine z_goto 33 dX9_few_19 rfl ?_
      exact zX9_few_J33 hD hL hf hM
  · refine z_iconst 1 dX9_few_7 rfl ?_
    refine z_goto 33 dX9_few_8 rfl ?_
    exact zX9_few_J33 hD hL hf hM
theorem ctX9_few {l : Launch} {h : zH} {a : Nat} {x1 : Int32} {h' : zH} (hL : zBlk mB mP h a) (hf : fX9_few h a x1 = some h') : zC l yX9_few (ws_ yX9_few cX9_few 4 none) 1 [.ref a, .int x1] h (.inl none, h') :=
  z_start (by decide) (Nat.le_of_ble_eq_true rfl) (zX9_few (F := (l, 1, h, (.inl none, h'))) (Nat.le_refl _) hL hf rfl)
theorem fdX9_233_7 : zFd RX9 233 7 31 .int false := ⟨_, _, _, rfl, rfl, by decide, rfl, rfl, Or.inl q1423, Or.inl rfl⟩
noncomputable def fX9_find_L131 (h : zH) (a : Nat) (x1 : Int32) (x2 : Int32) (x3 : Int32) : Option ((Int32) ⊕ ((Int32) ⊕ (Int32 × zH))) := zck (vp_in x1 11) (if (((100 : Int32) * x1) + (zI h (a + 3) x1.toNatClampNeg)) ≤ x3 then (some (.inr (.inr ((0, h))))) else (zck (vp_in x3 1100) (if (zI h (a + 8) x3.toNatClampNeg) = x2 then (zck (vp_in x3 1100) (if (zI h (a + 9) x3.toNatClampNeg) = 0 then (some (.inl (x3 + 1))) else (some (.inr (.inl x3))))) else (some (.inl (x3 + 1))))))
theorem zX9_find_L131 {F : zF} {h : zH} {a : Nat} {x1 : Int32} {x2 : Int32} {x3 : Int32} {y : (Int32) ⊕ ((Int32) ⊕ (Int32 × zH))} (hD : 2 ≤ F.2.1) (hL : zBlk mB mP h a) (hf : fX9_find_L131 h a x1 x2 x3 = some y) (hM : ((∀ s' : Int32, y = .inl s' → Z F 4 cX9_find RX9 "find" (some .boolean) [] h 131 [(0, .ref a), (1, .int x1), (2, .int x2), (3, .int s')] []) ∧ ∀ r : (Int32) ⊕ (Int32 × zH), y = .inr r → (match r with | .inl t => Z F 4 cX9_find RX9 "find" (some .boolean) [] h 168 [(0, .ref a), (3, .int t)] [] | .inr z => ((.inl (some (.int z.1)), z.2) : zX) = zEnd F))) : Z F 4 cX9_find RX9 "find" (some .boolean) [] h 131 [(0, .ref a), (1, .int x1), (2, .int x2), (3, .int x3)] [] := by
  unfold fX9_find_L131 at hf
  refine z_iload_n 3 dX9_find_131 rfl rfl ?_
  refine z_bipush 100 dX9_find_132 rfl ?_
  refine z_iload_n 1 dX9_find_134 rfl rfl ?_
  refine z_imul dX9_find_135 ?_
  refine z_aload_n 0 dX9_find_136 rfl rfl ?_
  refine z_getr fdX9_17_7 (Or.inr ⟨_, rfl⟩) (hL.t 0 rfl) (hL.p 2 rfl) dX9_find_137 ?_
  refine z_iload_n 1 dX9_find_140 rfl rfl ?_
  obtain ⟨hi_3, hf⟩ := zck_some hf
  refine z_iald (hL.t 3 rfl) hi_3 dX9_find_141 ?_
  refine z_iadd dX9_find_142 ?_
  refine z_icmp_ge 203 dX9_find_143 rfl hf (fun _ hf => ?_) (fun _ hf => ?_)
  · refine z_iconst 0 dX9_find_203 rfl ?_
    cases hf
    exact z_zret dX9_find_204 rfl (Or.inl rfl) (hM.2 _ rfl)
  · refine z_aload_n 0 dX9_find_146 rfl rfl ?_
    refine z_getr fdX9_32_7 (Or.inr ⟨_, rfl⟩) (hL.t 0 rfl) (hL.p 7 rfl) dX9_find_147 ?_
    refine z_iload_n 3 dX9_find_150 rfl rfl ?_
    obtain ⟨hi_4, hf⟩ := zck_some hf
    refine z_iald (hL.t 8 rfl) hi_4 dX9_find_151 ?_
    refine z_iload_n 2 dX9_find_152 rfl rfl ?_
    refine z_icmp_ne 197 dX9_find_153 rfl hf (fun _ hf => ?_) (fun _ hf => ?_)
    · refine z_iinc 3 (x3 + 1) dX9_find_197 rfl rfl (by decide) (lc' := [(0, .ref a), (1, .int x1), (2, .int x2), (3, .int (x3 + 1))]) rfl ?_
      refine z_goto 131 dX9_find_200 rfl ?_
      cases hf
      exact (hM.1 _ rfl)
    · refine z_aload_n 0 dX9_find_156 rfl rfl ?_
      refine z_getr fdX9_35_7 (Or.inr ⟨_, rfl⟩) (hL.t 0 rfl) (hL.p 8 rfl) dX9_find_157 ?_
      refine z_iload_n 3 dX9_find_160 rfl rfl ?_
      obtain ⟨hi_5, hf⟩ := zck_some hf
      refine z_zald (hL.t 9 rfl) hi_5 dX9_find_161 ?_
      refine z_if_ne 168 dX9_find_162 rfl hf (fun _ hf => ?_) (fun _ hf => ?_)
      · cases hf
        refine z_sub [0, 3] rfl ?_
        exact (hM.2 _ rfl)
      · refine z_goto 197 dX9_find_165 rfl ?_
        refine z_iinc 3 (x3 + 1) dX9_find_197 rfl rfl (by decide) (lc' := [(0, .ref a), (1, .int x1), (2, .int x2), (3, .int (x3 + 1))]) rfl ?_
        refine z_goto 131 dX9_find_200 rfl ?_
        cases hf
        exact (hM.1 _ rfl)
theorem svX9_237_7 : zIv RX9 237 yX9_text (ws_ yX9_text cX9_text 5 none) 5 7 2 := ⟨zGood_c q1716 q109, ⟨_, _, rfl, rfl, qs63⟩, Or.inl q1713, q1715, ⟨by decide, by decide⟩, by decide +kernel⟩
theorem svX9_249_7 : zIv RX9 249 yX9_few (ws_ yX9_few cX9_few 4 none) 4 7 1 := ⟨zGood_c q1731 q109, ⟨_, _, rfl, rfl, qs64⟩, Or.inl q1728, q1730, ⟨by decide, by decide⟩, by decide +kernel⟩
theorem ssX9_240 : zIs RX9 240 yX9_first (ws_ yX9_first cX9_first 1 (some .int)) 1 1 := ⟨zGood_c q1720 q109, Or.inl q1718, q1719, ⟨by decide, by decide⟩, by decide +kernel⟩
theorem ssX9_246 : zIs RX9 246 yX9_turned (ws_ yX9_turned cX9_turned 1 (some .int)) 1 1 := ⟨zGood_c q1727 q109, Or.inl q1725, q1726, ⟨by decide, by decide⟩, by decide +kernel⟩
theorem ssX9_243 : zIs RX9 243 yX9_second (ws_ yX9_second cX9_second 1 (some .int)) 1 1 := ⟨zGood_c q1723 q109, Or.inl q1721, q1722, ⟨by decide, by decide⟩, by decide +kernel⟩
noncomputable def fX9_find (h : zH) (a : Nat) (x1 : Int32) (x2 : Int32) : Option (Int32 × zH) := zlet (zsI h a 31 0) (fun h_1 => zck (vp_in x1 11) (if (zI h_1 (a + 1) x1.toNatClampNeg) = 1 then (if 65536 ≤ x2 then (zb1 (fX9_first x2) (fun v_34 => zb1 (fX9_second x2) (fun v_36 => zb1 (fX9_text h_1 a 4 ((v_34.toInt64 <<< ((16 : Int32).toInt64 &&& 63)) ||| v_36.toInt64)) (fun h_39 => some ((1, h_39)))))) else (zb1 (fX9_text h_1 a 2 x2.toInt64) (fun h_42 => some ((1, h_42))))) else (if (zI h_1 (a + 1) x1.toNatClampNeg) = 2 then (if 65536 ≤ x2 then (zb1 (fX9_first x2) (fun v_18 => zb1 (fX9_turned v_18) (fun v_20 => zb1 (fX9_second x2) (fun v_22 => zb1 (fX9_turned v_22) (fun v_24 => zb1 (fX9_text h_1 a 4 ((v_20.toInt64 <<< ((16 : Int32).toInt64 &&& 63)) ||| v_24.toInt64)) (fun h_27 => some ((1, h_27)))))))) else (zb1 (fX9_turned x2) (fun v_29 => zb1 (fX9_text h_1 a 2 v_29.toInt64) (fun h_32 => some ((1, h_32)))))) else (if (zI h_1 (a + 1) x1.toNatClampNeg) = 3 then (zb1 (fX9_few h_1 a x2) (fun h_16 => some ((1, h_16)))) else (zlx (zlp (fun s => fX9_find_L131 h_1 a x1 x2 s) ((100 : Int32) * x1)) (fun t_6 => zck (vp_in t_6 1100) (zlet (zsI h_1 a 31 (zI h_1 (a + 5) t_6.toNatClampNeg)) (fun h_8 => zck (vp_in t_6 1100) (zck (vp_in t_6 1100) (zb1 (fX9_text h_8 a (zI h_8 (a + 6) t_6.toNatClampNeg) ((zI h_8 (a + 7) t_6.toNatClampNeg).toInt64)) (fun h_13 => some ((1, h_13)))))))))))))
theorem zX9_find {F : zF} {h : zH} {a : Nat} {x1 : Int32} {x2 : Int32} {y : Int32 × zH} (hD : 2 ≤ F.2.1) (hL : zBlk mB mP h a) (hf : fX9_find h a x1 x2 = some y) (hM : ((.inl (some (.int y.1)), y.2) : zX) = zEnd F) : Z F 4 cX9_find RX9 "find" (some .boolean) [] h 0 [(0, .ref a), (1, .int x1), (2, .int x2)] [] := by
  unfold fX9_find at hf
  refine z_aload_n 0 dX9_find_0 rfl rfl ?_
  refine z_iconst 0 dX9_find_1 rfl ?_
  obtain ⟨h_1, he, hf⟩ := zlet_some hf
  refine z_puti fdX9_233_7 (hL.t 0 rfl) (hL.nz 0) he dX9_find_2 ?_
  have hL := hL.I he
  refine z_aload_n 0 dX9_find_5 rfl rfl ?_
  refine z_getr fdX9_9_7 (Or.inr ⟨_, rfl⟩) (hL.t 0 rfl) (hL.p 0 rfl) dX9_find_6 ?_
  refine z_iload_n 1 dX9_find_9 rfl rfl ?_
  obtain ⟨hi_2, hf⟩ := zck_some hf
  refine z_iald (hL.t 1 rfl) hi_2 dX9_find_10 ?_
  refine z_swI hf (fun hx hf => ?_) (fun hx0 hf => ?_)
  · refine z_swT 36 dX9_find_11 hx rfl (by decide) (by decide) rfl ?_
    refine z_iload_n 2 dX9_find_36 rfl rfl ?_
    refine z_ldc q1712 dX9_find_37 ?_
    refine z_icmp_ge 52 dX9_find_39 rfl hf (fun _ hf => ?_) (fun _ hf => ?_)
    · refine z_aload_n 0 dX9_find_52 rfl rfl ?_
      refine z_iconst 4 dX9_find_53 rfl ?_
      refine z_iload_n 2 dX9_find_54 rfl rfl ?_
      obtain ⟨v_34, hc_33, hf⟩ := zb1_some hf
      refine z_invSi ssX9_240 (ctX9_first hc_33) ⟨Nat.le_trans (by decide) hD, by decide⟩ rfl rfl (Nat.le_of_ble_eq_true rfl) dX9_find_55 ?_
      refine z_i2l dX9_find_58 ?_
      refine z_bipush 16 dX9_find_59 rfl ?_
      refine z_lshl dX9_find_61 ?_
      refine z_iload_n 2 dX9_find_62 rfl rfl ?_
      obtain ⟨v_36, hc_35, hf⟩ := zb1_some hf
      refine z_invSi ssX9_243 (ctX9_second hc_35) ⟨Nat.le_trans (by decide) hD, by decide⟩ rfl rfl (Nat.le_of_ble_eq_true rfl) dX9_find_63 ?_
      refine z_i2l dX9_find_66 ?_
      refine z_lor dX9_find_67 ?_
      obtain ⟨h_39, hc_37, hf⟩ := zb1_some hf
      have hct := ctX9_text (l := F.1) hL hc_37
      refine z_invVv svX9_237_7 hct (hL.t 0 rfl) ⟨Nat.le_trans (by decide) hD, by decide⟩ rfl rfl (Nat.le_of_ble_eq_true rfl) dX9_find_68 ?_
      have hL := hL.ext mOk hct.1
      refine z_iconst 1 dX9_find_71 rfl ?_
      cases hf
      exact z_zret dX9_find_72 rfl (Or.inr rfl) hM
    · refine z_aload_n 0 dX9_find_42 rfl rfl ?_
      refine z_iconst 2 dX9_find_43 rfl ?_
      refine z_iload_n 2 dX9_find_44 rfl rfl ?_
      refine z_i2l dX9_find_45 ?_
      obtain ⟨h_42, hc_40, hf⟩ := zb1_some hf
      have hct := ctX9_text (l := F.1) hL hc_40
      refine z_invVv svX9_237_7 hct (hL.t 0 rfl) ⟨Nat.le_trans (by decide) hD, by decide⟩ rfl rfl (Nat.le_of_ble_eq_true rfl) dX9_find_46 ?_
      have hL := hL.ext mOk hct.1
      refine z_goto 71 dX9_find_49 rfl ?_
      refine z_iconst 1 dX9_find_71 rfl ?_
      cases hf
      exact z_zret dX9_find_72 rfl (Or.inr rfl) hM
  · refine z_swI hf (fun hx hf => ?_) (fun hx1 hf => ?_)
    · refine z_swT 73 dX9_find_11 hx rfl (by decide) (by decide) rfl ?_
      refine z_iload_n 2 dX9_find_73 rfl rfl ?_
      refine z_ldc q1712 dX9_find_74 ?_
      refine z_icmp_ge 92 dX9_find_76 rfl hf (fun _ hf => ?_) (fun _ hf => ?_)
      · refine z_aload_n 0 dX9_find_92 rfl rfl ?_
        refine z_iconst 4 dX9_find_93 rfl ?_
        refine z_iload_n 2 dX9_find_94 rfl rfl ?_
        obtain ⟨v_18, hc_17, hf⟩ := zb1_some hf
        refine z_invSi ssX9_240 (ctX9_first hc_17) ⟨Nat.le_trans (by decide) hD, by decide⟩ rfl rfl (Nat.le_of_ble_eq_true rfl) dX9_find_95 ?_
        obtain ⟨v_20, hc_19, hf⟩ := zb1_some hf
        refine z_invSi ssX9_246 (ctX9_turned hc_19) ⟨Nat.le_trans (by decide) hD, by decide⟩ rfl rfl (Nat.le_of_ble_eq_true rfl) dX9_find_98 ?_
        refine z_i2l dX9_find_101 ?_
        refine z_bipush 16 dX9_find_102 rfl ?_
        refine z_lshl dX9_find_104 ?_
        refine z_iload_n 2 dX9_find_105 rfl rfl ?_
        obtain ⟨v_22, hc_21, hf⟩ := zb1_some hf
        refine z_invSi ssX9_243 (ctX9_second hc_21) ⟨Nat.le_trans (by decide) hD, by decide⟩ rfl rfl (Nat.le_of_ble_eq_true rfl) dX9_find_106 ?_
        obtain ⟨v_24, hc_23, hf⟩ := zb1_some hf
        refine z_invSi ssX9_246 (ctX9_turned hc_23) ⟨Nat.le_trans (by decide) hD, by decide⟩ rfl rfl (Nat.le_of_ble_eq_true rfl) dX9_find_109 ?_
        refine z_i2l dX9_find_112 ?_
        refine z_lor dX9_find_113 ?_
        obtain ⟨h_27, hc_25, hf⟩ := zb1_some hf
        have hct := ctX9_text (l := F.1) hL hc_25
        refine z_invVv svX9_237_7 hct (hL.t 0 rfl) ⟨Nat.le_trans (by decide) hD, by decide⟩ rfl rfl (Nat.le_of_ble_eq_true rfl) dX9_find_114 ?_
        have hL := hL.ext mOk hct.1
        refine z_iconst 1 dX9_find_117 rfl ?_
        cases hf
        exact z_zret dX9_find_118 rfl (Or.inr rfl) hM
      · refine z_aload_n 0 dX9_find_79 rfl rfl ?_
        refine z_iconst 2 dX9_find_80 rfl ?_
        refine z_iload_n 2 dX9_find_81 rfl rfl ?_
        obtain ⟨v_29, hc_28, hf⟩ := zb1_some hf
        refine z_invSi ssX9_246 (ctX9_turned hc_28) ⟨Nat.le_trans (by decide) hD, by decide⟩ rfl rfl (Nat.le_of_ble_eq_true rfl) dX9_find_82 ?_
        refine z_i2l dX9_find_85 ?_
        obtain ⟨h_32, hc_30, hf⟩ := zb1_some hf
        have hct := ctX9_text (l := F.1) hL hc_30
        refine z_invVv svX9_237_7 hct (hL.t 0 rfl) ⟨Nat.le_trans (by decide) hD, by decide⟩ rfl rfl (Nat.le_of_ble_eq_true rfl) dX9_find_86 ?_
        have hL := hL.ext mOk hct.1
        refine z_goto 117 dX9_find_89 rfl ?_
        refine z_iconst 1 dX9_find_117 rfl ?_
        cases hf
        exact z_zret dX9_find_118 rfl (Or.inr rfl) hM
    · refine z_swI hf (fun hx hf => ?_) (fun hx2 hf => ?_)
      · refine z_swT 119 dX9_find_11 hx rfl (by decide) (by decide) rfl ?_
        refine z_aload_n 0 dX9_find_119 rfl rfl ?_
        refine z_iload_n 2 dX9_find_120 rfl rfl ?_
        obtain ⟨h_16, hc_14, hf⟩ := zb1_some hf
        have hct := ctX9_few (l := F.1) hL hc_14
        refine z_invVv svX9_249_7 hct (hL.t 0 rfl) ⟨Nat.le_trans (by decide) hD, by decide⟩ rfl rfl (Nat.le_of_ble_eq_true rfl) dX9_find_121 ?_
        have hL := hL.ext mOk hct.1
        refine z_iconst 1 dX9_find_124 rfl ?_
        cases hf
        exact z_zret dX9_find_125 rfl (Or.inr rfl) hM
      · refine z_swO 126 dX9_find_11 rfl (z_out_1_3 hx0 hx1 hx2) ?_
        refine z_bipush 100 dX9_find_126 rfl ?_
        refine z_iload_n 1 dX9_find_128 rfl rfl ?_
        refine z_imul dX9_find_129 ?_
        refine z_istore_n dX9_find_130 rfl (by decide) (lc' := [(0, .ref a), (1, .int x1), (2, .int x2), (3, .int ((100 : Int32) * x1))]) rfl ?_
        obtain ⟨rr, hl, hf⟩ := zlx_some hf
        refine z_loop (fun (s : Int32) => Z F 4 cX9_find RX9 "find" (some .boolean) [] h_1 131 [(0, .ref a), (1, .int x1), (2, .int x2), (3, .int s)] []) (fun (r : (Int32) ⊕ (Int32 × zH)) => (match r with | .inl t => Z F 4 cX9_find RX9 "find" (some .boolean) [] h_1 168 [(0, .ref a), (3, .int t)] [] | .inr z => ((.inl (some (.int z.1)), z.2) : zX) = zEnd F)) (fun s y hb hs hr => zX9_find_L131 hD hL hb ⟨hs, hr⟩) hl ?_
        rcases hf with ⟨t_6, rfl, hf⟩ | rfl
        · show Z F 4 cX9_find RX9 "find" (some .boolean) [] h_1 168 [(0, .ref a), (3, .int t_6)] []
          refine z_aload_n 0 dX9_find_168 rfl rfl ?_
          refine z_aload_n 0 dX9_find_169 rfl rfl ?_
          refine z_getr fdX9_23_7 (Or.inr ⟨_, rfl⟩) (hL.t 0 rfl) (hL.p 4 rfl) dX9_find_170 ?_
          refine z_iload_n 1 dX9_find_173 rfl rfl ?_
          obtain ⟨hi_7, hf⟩ := zck_some hf
          refine z_iald (hL.t 5 rfl) hi_7 dX9_find_174 ?_
          obtain ⟨h_8, he, hf⟩ := zlet_some hf
          refine z_puti fdX9_233_7 (hL.t 0 rfl) (hL.nz 0) he dX9_find_175 ?_
          have hL := hL.I he
          refine z_aload_n 0 dX9_find_178 rfl rfl ?_
          refine z_aload_n 0 dX9_find_179 rfl rfl ?_
          refine z_getr fdX9_26_7 (Or.inr ⟨_, rfl⟩) (hL.t 0 rfl) (hL.p 5 rfl) dX9_find_180 ?_
          refine z_iload_n 1 dX9_find_183 rfl rfl ?_
          obtain ⟨hi_9, hf⟩ := zck_some hf
          refine z_iald (hL.t 6 rfl) hi_9 dX9_find_184 ?_
          refine z_aload_n 0 dX9_find_185 rfl rfl ?_
          refine z_getr fdX9_29_7 (Or.inr ⟨_, rfl⟩) (hL.t 0 rfl) (hL.p 6 rfl) dX9_find_186 ?_
          refine z_iload_n 1 dX9_find_189 rfl rfl ?_
          obtain ⟨hi_10, hf⟩ := zck_some hf
          refine z_iald (hL.t 7 rfl) hi_10 dX9_find_190 ?_
          refine z_i2l dX9_find_191 ?_
          obtain ⟨h_13, hc_11, hf⟩ := zb1_some hf
          have hct := ctX9_text (l := F.1) hL hc_11
          refine z_invVv svX9_237_7 hct (hL.t 0 rfl) ⟨Nat.le_trans (by decide) hD, by decide⟩ rfl rfl (Nat.le_of_ble_eq_true rfl) dX9_find_192 ?_
          have hL := hL.ext mOk hct.1
          refine z_iconst 1 dX9_find_195 rfl ?_
          cases hf
          exact z_zret dX9_find_196 rfl (Or.inr rfl) hM
        · exact hM
theorem ctX9_find {l : Launch} {h : zH} {a : Nat} {x1 : Int32} {x2 : Int32} {v : Int32} {h' : zH} (hL : zBlk mB mP h a) (hf : fX9_find h a x1 x2 = some (v, h')) : zC l yX9_find (ws_ yX9_find cX9_find 4 (some .boolean)) 2 [.ref a, .int x1, .int x2] h (.inl (some (.int v)), h') :=
  z_start (by decide) (Nat.le_of_ble_eq_true rfl) (zX9_find (F := (l, 2, h, (.inl (some (.int v)), h'))) (Nat.le_refl _) hL hf rfl)
theorem svX9_252_7 : zIv RX9 252 yX9_find (ws_ yX9_find cX9_find 4 (some .boolean)) 4 7 2 := ⟨zGood_c q1711 q109, ⟨_, _, rfl, rfl, qs62⟩, Or.inl q1708, q1710, ⟨by decide, by decide⟩, by decide +kernel⟩
noncomputable def fX9_code_L68 (h : zH) (a : Nat) (x3 : Int64) (x5 : Int32) : Option ((Int64 × Int32) ⊕ ((Int64 × zH))) := if (zI h a 32) ≤ x5 then (some (.inr ((x3 ||| (((zI h a 32).toInt64) <<< ((32 : Int32).toInt64 &&& 63)), h)))) else (zck (vp_in x5 4) (some (.inl (((x3 <<< ((8 : Int32).toInt64 &&& 63)) ||| ((zI h (a + 24) x5.toNatClampNeg).toInt64), x5 + 1)))))
theorem zX9_code_L68 {F : zF} {h : zH} {a : Nat} {x3 : Int64} {x5 : Int32} {y : (Int64 × Int32) ⊕ ((Int64 × zH))} (hD : 3 ≤ F.2.1) (hL : zBlk mB mP h a) (hf : fX9_code_L68 h a x3 x5 = some y) (hM : ((∀ s' : Int64 × Int32, y = .inl s' → Z F 6 cX9_code RX9 "code" (some .long) [] h 68 [(0, .ref a), (3, .long s'.1), (5, .int s'.2)] []) ∧ ∀ r : (Int64 × zH), y = .inr r → ((.inl (some (.long r.1)), r.2) : zX) = zEnd F)) : Z F 6 cX9_code RX9 "code" (some .long) [] h 68 [(0, .ref a), (3, .long x3), (5, .int x5)] [] := by
  unfold fX9_code_L68 at hf
  refine z_iload 2 dX9_code_68 rfl ?_
  refine z_aload_n 0 dX9_code_70 rfl rfl ?_
  refine z_geti fdX9_228_7 (hL.t 0 rfl) dX9_code_71 ?_
  refine z_icmp_ge 97 dX9_code_74 rfl hf (fun _ hf => ?_) (fun _ hf => ?_)
  · refine z_lload_n 1 dX9_code_97 rfl rfl ?_
    refine z_aload_n 0 dX9_code_98 rfl rfl ?_
    refine z_geti fdX9_228_7 (hL.t 0 rfl) dX9_code_99 ?_
    refine z_i2l dX9_code_102 ?_
    refine z_bipush 32 dX9_code_103 rfl ?_
    refine z_lshl dX9_code_105 ?_
    refine z_lor dX9_code_106 ?_
    cases hf
    exact z_lret dX9_code_107 rfl (hM.2 _ rfl)
  · refine z_lload_n 1 dX9_code_77 rfl rfl ?_
    refine z_bipush 8 dX9_code_78 rfl ?_
    refine z_lshl dX9_code_80 ?_
    refine z_aload_n 0 dX9_code_81 rfl rfl ?_
    refine z_getr fdX9_81_7 (Or.inr ⟨_, rfl⟩) (hL.t 0 rfl) (hL.p 23 rfl) dX9_code_82 ?_
    refine z_iload 2 dX9_code_85 rfl ?_
    obtain ⟨hi_9, hf⟩ := zck_some hf
    refine z_iald (hL.t 24 rfl) hi_9 dX9_code_87 ?_
    refine z_i2l dX9_code_88 ?_
    refine z_lor dX9_code_89 ?_
    refine z_lstore_n dX9_code_90 rfl (by decide) (lc' := [(0, .ref a), (3, .long ((x3 <<< ((8 : Int32).toInt64 &&& 63)) ||| ((zI h (a + 24) x5.toNatClampNeg).toInt64))), (5, .int x5)]) rfl ?_
    refine z_iinc 2 (x5 + 1) dX9_code_91 rfl rfl (by decide) (lc' := [(0, .ref a), (3, .long ((x3 <<< ((8 : Int32).toInt64 &&& 63)) ||| ((zI h (a + 24) x5.toNatClampNeg).toInt64))), (5, .int (x5 + 1))]) rfl ?_
    refine z_goto 68 dX9_code_94 rfl ?_
    cases hf
    exact (hM.1 _ rfl)
noncomputable def fX9_code (h : zH) (a : Nat) (x1 : Int32) (x2 : Int32) : Option (Int64 × zH) := zb1 (fX9_isPage h a x1) (fun v_2 => if v_2 = 0 then (zb2 (fX9_tell h a ((-1))) (fun v_20 h_21 => some ((v_20.toInt64, h_21)))) else (zck (vp_in x1 11) (if (zI h (a + 2) x1.toNatClampNeg) = 0 then (zb2 (fX9_tell h a ((-5))) (fun v_17 h_18 => some ((v_17.toInt64, h_18)))) else (zb1 (fX9_isPoint x2) (fun v_5 => if v_5 = 0 then (zb2 (fX9_tell h a ((-1))) (fun v_14 h_15 => some ((v_14.toInt64, h_15)))) else (zb2 (fX9_find h a x1 x2) (fun v_7 h_8 => if v_7 = 0 then (zb2 (fX9_tell h_8 a ((-2))) (fun v_11 h_12 => some ((v_11.toInt64, h_12)))) else (zlp (fun s => fX9_code_L68 h_8 a s.1 s.2) (0, 0)))))))))
theorem zX9_code {F : zF} {h : zH} {a : Nat} {x1 : Int32} {x2 : Int32} {y : Int64 × zH} (hD : 3 ≤ F.2.1) (hL : zBlk mB mP h a) (hf : fX9_code h a x1 x2 = some y) (hM : ((.inl (some (.long y.1)), y.2) : zX) = zEnd F) : Z F 6 cX9_code RX9 "code" (some .long) [] h 0 [(0, .ref a), (1, .int x1), (2, .int x2)] [] := by
  unfold fX9_code at hf
  refine z_aload_n 0 dX9_code_0 rfl rfl ?_
  refine z_iload_n 1 dX9_code_1 rfl rfl ?_
  obtain ⟨v_2, hc_1, hf⟩ := zb1_some hf
  refine z_invVi svX9_170_7 (ctX9_isPage hL hc_1) (hL.t 0 rfl) ⟨Nat.le_trans (by decide) hD, by decide⟩ rfl rfl (Nat.le_of_ble_eq_true rfl) dX9_code_2 ?_
  refine z_if_ne 15 dX9_code_5 rfl hf (fun _ hf => ?_) (fun _ hf => ?_)
  · refine z_aload_n 0 dX9_code_15 rfl rfl ?_
    refine z_getr fdX9_13_7 (Or.inr ⟨_, rfl⟩) (hL.t 0 rfl) (hL.p 1 rfl) dX9_code_16 ?_
    refine z_iload_n 1 dX9_code_19 rfl rfl ?_
    obtain ⟨hi_3, hf⟩ := zck_some hf
    refine z_zald (hL.t 2 rfl) hi_3 dX9_code_20 ?_
    refine z_if_ne 32 dX9_code_21 rfl hf (fun _ hf => ?_) (fun _ hf => ?_)
    · refine z_iload_n 2 dX9_code_32 rfl rfl ?_
      obtain ⟨v_5, hc_4, hf⟩ := zb1_some hf
      refine z_invSi ssX9_187 (ctX9_isPoint hc_4) ⟨Nat.le_trans (by decide) hD, by decide⟩ rfl rfl (Nat.le_of_ble_eq_true rfl) dX9_code_33 ?_
      refine z_if_ne 46 dX9_code_36 rfl hf (fun _ hf => ?_) (fun _ hf => ?_)
      · refine z_aload_n 0 dX9_code_46 rfl rfl ?_
        refine z_iload_n 1 dX9_code_47 rfl rfl ?_
        refine z_iload_n 2 dX9_code_48 rfl rfl ?_
        obtain ⟨v_7, h_8, hc_6, hf⟩ := zb2_some hf
        have hct := ctX9_find (l := F.1) hL hc_6
        refine z_invVi svX9_252_7 hct (hL.t 0 rfl) ⟨Nat.le_trans (by decide) hD, by decide⟩ rfl rfl (Nat.le_of_ble_eq_true rfl) dX9_code_49 ?_
        have hL := hL.ext mOk hct.1
        refine z_if_ne 63 dX9_code_52 rfl hf (fun _ hf => ?_) (fun _ hf => ?_)
        · refine z_lconst 0 dX9_code_63 rfl ?_
          refine z_lstore_n dX9_code_64 rfl (by decide) (lc' := [(0, .ref a), (1, .int x1), (2, .int x2), (3, .long 0)]) rfl ?_
          refine z_iconst 0 dX9_code_65 rfl ?_
          refine z_istore dX9_code_66 (by decide) (lc' := [(0, .ref a), (1, .int x1), (2, .int x2), (3, .long 0), (5, .int 0)]) rfl ?_
          refine z_sub [0, 3, 4] rfl ?_
          exact z_loop (fun (s : Int64 × Int32) => Z F 6 cX9_code RX9 "code" (some .long) [] h_8 68 [(0, .ref a), (3, .long s.1), (5, .int s.2)] []) (fun (r : (Int64 × zH)) => ((.inl (some (.long r.1)), r.2) : zX) = zEnd F) (fun s y hb hs hr => zX9_code_L68 hD hL hb ⟨hs, hr⟩) hf hM
        · refine z_aload_n 0 dX9_code_55 rfl rfl ?_
          refine z_bipush (-2) dX9_code_56 rfl ?_
          obtain ⟨v_11, h_12, hc_10, hf⟩ := zb2_some hf
          have hct := ctX9_tell (l := F.1) hL hc_10
          refine z_invVi svX9_166_7 hct (hL.t 0 rfl) ⟨Nat.le_trans (by decide) hD, by decide⟩ rfl rfl (Nat.le_of_ble_eq_true rfl) dX9_code_58 ?_
          have hL := hL.ext mOk hct.1
          refine z_i2l dX9_code_61 ?_
          cases hf
          exact z_lret dX9_code_62 rfl hM
      · refine z_aload_n 0 dX9_code_39 rfl rfl ?_
        refine z_iconst (-1) dX9_code_40 rfl ?_
        obtain ⟨v_14, h_15, hc_13, hf⟩ := zb2_some hf
        have hct := ctX9_tell (l := F.1) hL hc_13
        refine z_invVi svX9_166_7 hct (hL.t 0 rfl) ⟨Nat.le_trans (by decide) hD, by decide⟩ rfl rfl (Nat.le_of_ble_eq_true rfl) dX9_code_41 ?_
        have hL := hL.ext mOk hct.1
        refine z_i2l dX9_code_44 ?_
        cases hf
        exact z_lret dX9_code_45 rfl hM
    · refine z_aload_n 0 dX9_code_24 rfl rfl ?_
      refine z_bipush (-5) dX9_code_25 rfl ?_
      obtain ⟨v_17, h_18, hc_16, hf⟩ := zb2_some hf
      have hct := ctX9_tell (l := F.1) hL hc_16
      refine z_invVi svX9_166_7 hct (hL.t 0 rfl) ⟨Nat.le_trans (by decide) hD, by decide⟩ rfl rfl (Nat.le_of_ble_eq_true rfl) dX9_code_27 ?_
      have hL := hL.ext mOk hct.1
      refine z_i2l dX9_code_30 ?_
      cases hf
      exact z_lret dX9_code_31 rfl hM
  · refine z_aload_n 0 dX9_code_8 rfl rfl ?_
    refine z_iconst (-1) dX9_code_9 rfl ?_
    obtain ⟨v_20, h_21, hc_19, hf⟩ := zb2_some hf
    have hct := ctX9_tell (l := F.1) hL hc_19
    refine z_invVi svX9_166_7 hct (hL.t 0 rfl) ⟨Nat.le_trans (by decide) hD, by decide⟩ rfl rfl (Nat.le_of_ble_eq_true rfl) dX9_code_10 ?_
    have hL := hL.ext mOk hct.1
    refine z_i2l dX9_code_13 ?_
    cases hf
    exact z_lret dX9_code_14 rfl hM
theorem ctX9_code {l : Launch} {h : zH} {a : Nat} {x1 : Int32} {x2 : Int32} {v : Int64} {h' : zH} (hL : zBlk mB mP h a) (hf : fX9_code h a x1 x2 = some (v, h')) : zC l yX9_code (ws_ yX9_code cX9_code 6 (some .long)) 3 [.ref a, .int x1, .int x2] h (.inl (some (.long v)), h') :=
  z_start (by decide) (Nat.le_of_ble_eq_true rfl) (zX9_code (F := (l, 3, h, (.inl (some (.long v)), h'))) (Nat.le_refl _) hL hf rfl)
theorem fdX9_255_7 : zFd RX9 255 7 14 .int false := ⟨_, _, _, rfl, rfl, by decide, rfl, rfl, Or.inl q1406, Or.inl rfl⟩
theorem fdX9_50_7 : zFd RX9 50 7 15 (.array .int) true := ⟨_, _, _, rfl, rfl, by decide, rfl, rfl, Or.inl q1407, Or.inl rfl⟩
noncomputable def fX9_bytesIn_L40 (h : zH) (a : Nat) (x1 : Int64) (x4 : Int32) : Option ((zH × Int32) ⊕ ((Int32 × zH))) := if x4 < 0 then (some (.inr ((zI h a 14, h)))) else (zck (vp_in (zI h a 14) 1000) (zlet (zsI h (a + 14) (zI h a 14).toNatClampNeg (((x1 >>> (((8 : Int32) * x4).toInt64 &&& 63)) &&& 255).toInt32)) (fun h_4 => zlet (zsI h_4 a 14 ((zI h_4 a 14) + 1)) (fun h_5 => some (.inl ((h_5, x4 + (-1))))))))
theorem zX9_bytesIn_L40 {F : zF} {h : zH} {a : Nat} {x1 : Int64} {x4 : Int32} {y : (zH × Int32) ⊕ ((Int32 × zH))} (hD : 2 ≤ F.2.1) (hL : zBlk mB mP h a) (hf : fX9_bytesIn_L40 h a x1 x4 = some y) (hM : ((∀ s' : zH × Int32, y = .inl s' → (zBlk mB mP s'.1 a → Z F 5 cX9_bytesIn RX9 "bytesIn" (some .int) [] s'.1 40 [(0, .ref a), (1, .long x1), (4, .int s'.2)] [])) ∧ ∀ r : (Int32 × zH), y = .inr r → ((.inl (some (.int r.1)), r.2) : zX) = zEnd F)) : Z F 5 cX9_bytesIn RX9 "bytesIn" (some .int) [] h 40 [(0, .ref a), (1, .long x1), (4, .int x4)] [] := by
  unfold fX9_bytesIn_L40 at hf
  refine z_iload 2 dX9_bytesIn_40 rfl ?_
  refine z_if_lt 82 dX9_bytesIn_42 rfl hf (fun _ hf => ?_) (fun _ hf => ?_)
  · refine z_aload_n 0 dX9_bytesIn_82 rfl rfl ?_
    refine z_geti fdX9_255_7 (hL.t 0 rfl) dX9_bytesIn_83 ?_
    cases hf
    exact z_iret dX9_bytesIn_86 rfl (hM.2 _ rfl)
  · refine z_aload_n 0 dX9_bytesIn_45 rfl rfl ?_
    refine z_getr fdX9_50_7 (Or.inr ⟨_, rfl⟩) (hL.t 0 rfl) (hL.p 13 rfl) dX9_bytesIn_46 ?_
    refine z_aload_n 0 dX9_bytesIn_49 rfl rfl ?_
    refine z_geti fdX9_255_7 (hL.t 0 rfl) dX9_bytesIn_50 ?_
    refine z_lload_n 1 dX9_bytesIn_53 rfl rfl ?_
    refine z_bipush 8 dX9_bytesIn_54 rfl ?_
    refine z_iload 2 dX9_bytesIn_56 rfl ?_
    refine z_imul dX9_bytesIn_58 ?_
    refine z_lshr dX9_bytesIn_59 ?_
    refine z_ldc2 q1717 dX9_bytesIn_60 ?_
    refine z_land dX9_bytesIn_63 ?_
    refine z_l2i dX9_bytesIn_64 ?_
    obtain ⟨hi_3, hf⟩ := zck_some hf
    obtain ⟨h_4, he, hf⟩ := zlet_some hf
    refine z_iast (hL.t 14 rfl) (hL.nz 14) hi_3 he dX9_bytesIn_65 ?_
    have hL := hL.I he
    refine z_aload_n 0 dX9_bytesIn_66 rfl rfl ?_
    refine z_dup dX9_bytesIn_67 rfl ?_
    refine z_geti fdX9_255_7 (hL.t 0 rfl) dX9_bytesIn_68 ?_
    refine z_iconst 1 dX9_bytesIn_71 rfl ?_
    refine z_iadd dX9_bytesIn_72 ?_
    obtain ⟨h_5, he, hf⟩ := zlet_some hf
    refine z_puti fdX9_255_7 (hL.t 0 rfl) (hL.nz 0) he dX9_bytesIn_73 ?_
    have hL := hL.I he
    refine z_iinc 2 (x4 + (-1)) dX9_bytesIn_76 rfl rfl (by decide) (lc' := [(0, .ref a), (1, .long x1), (4, .int (x4 + (-1)))]) rfl ?_
    refine z_goto 40 dX9_bytesIn_79 rfl ?_
    cases hf
    exact (hM.1 _ rfl) hL
noncomputable def fX9_bytesIn (h : zH) (a : Nat) (x1 : Int64) (x3 : Int32) : Option (Int32 × zH) := zb1 (fX9_in x3 1 8) (fun v_2 => if v_2 = 0 then (zb2 (fX9_tell h a ((-1))) (fun v_10 h_11 => some ((v_10, h_11)))) else (if ((zI h a 14) + x3) ≤ 1000 then (zlp (fun s => fX9_bytesIn_L40 s.1 a x1 s.2) (h, x3 - 1)) else (zb2 (fX9_tell h a ((-6))) (fun v_7 h_8 => some ((v_7, h_8))))))
theorem zX9_bytesIn {F : zF} {h : zH} {a : Nat} {x1 : Int64} {x3 : Int32} {y : Int32 × zH} (hD : 2 ≤ F.2.1) (hL : zBlk mB mP h a) (hf : fX9_bytesIn h a x1 x3 = some y) (hM : ((.inl (some (.int y.1)), y.2) : zX) = zEnd F) : Z F 5 cX9_bytesIn RX9 "bytesIn" (some .int) [] h 0 [(0, .ref a), (1, .long x1), (3, .int x3)] [] := by
  unfold fX9_bytesIn at hf
  refine z_iload_n 2 dX9_bytesIn_0 rfl rfl ?_
  refine z_iconst 1 dX9_bytesIn_1 rfl ?_
  refine z_bipush 8 dX9_bytesIn_2 rfl ?_
  obtain ⟨v_2, hc_1, hf⟩ := zb1_some hf
  refine z_invSi ssX9_156 (ctX9_in hc_1) ⟨Nat.le_trans (by decide) hD, by decide⟩ rfl rfl (Nat.le_of_ble_eq_true rfl) dX9_bytesIn_4 ?_
  refine z_if_ne 16 dX9_bytesIn_7 rfl hf (fun _ hf => ?_) (fun _ hf => ?_)
  · refine z_aload_n 0 dX9_bytesIn_16 rfl rfl ?_
    refine z_geti fdX9_255_7 (hL.t 0 rfl) dX9_bytesIn_17 ?_
    refine z_iload_n 2 dX9_bytesIn_20 rfl rfl ?_
    refine z_iadd dX9_bytesIn_21 ?_
    refine z_sipush 1000 dX9_bytesIn_22 rfl ?_
    refine z_icmp_le 35 dX9_bytesIn_25 rfl hf (fun _ hf => ?_) (fun _ hf => ?_)
    · refine z_iload_n 2 dX9_bytesIn_35 rfl rfl ?_
      refine z_iconst 1 dX9_bytesIn_36 rfl ?_
      refine z_isub dX9_bytesIn_37 ?_
      refine z_istore dX9_bytesIn_38 (by decide) (lc' := [(0, .ref a), (1, .long x1), (3, .int x3), (4, .int (x3 - 1))]) rfl ?_
      refine z_sub [0, 1, 3] rfl ?_
      exact z_loop (fun (s : zH × Int32) => (zBlk mB mP s.1 a → Z F 5 cX9_bytesIn RX9 "bytesIn" (some .int) [] s.1 40 [(0, .ref a), (1, .long x1), (4, .int s.2)] [])) (fun (r : (Int32 × zH)) => ((.inl (some (.int r.1)), r.2) : zX) = zEnd F) (fun s y hb hs hr hL => zX9_bytesIn_L40 hD hL hb ⟨hs, hr⟩) hf hM hL
    · refine z_aload_n 0 dX9_bytesIn_28 rfl rfl ?_
      refine z_bipush (-6) dX9_bytesIn_29 rfl ?_
      obtain ⟨v_7, h_8, hc_6, hf⟩ := zb2_some hf
      have hct := ctX9_tell (l := F.1) hL hc_6
      refine z_invVi svX9_166_7 hct (hL.t 0 rfl) ⟨Nat.le_trans (by decide) hD, by decide⟩ rfl rfl (Nat.le_of_ble_eq_true rfl) dX9_bytesIn_31 ?_
      have hL := hL.ext mOk hct.1
      cases hf
      exact z_iret dX9_bytesIn_34 rfl hM
  · refine z_aload_n 0 dX9_bytesIn_10 rfl rfl ?_
    refine z_iconst (-1) dX9_bytesIn_11 rfl ?_
    obtain ⟨v_10, h_11, hc_9, hf⟩ := zb2_some hf
    have hct := ctX9_tell (l := F.1) hL hc_9
    refine z_invVi svX9_166_7 hct (hL.t 0 rfl) ⟨Nat.le_trans (by decide) hD, by decide⟩ rfl rfl (Nat.le_of_ble_eq_true rfl) dX9_bytesIn_12 ?_
    have hL := hL.ext mOk hct.1
    cases hf
    exact z_iret dX9_bytesIn_15 rfl hM
theorem ctX9_bytesIn {l : Launch} {h : zH} {a : Nat} {x1 : Int64} {x3 : Int32} {v : Int32} {h' : zH} (hL : zBlk mB mP h a) (hf : fX9_bytesIn h a x1 x3 = some (v, h')) : zC l yX9_bytesIn (ws_ yX9_bytesIn cX9_bytesIn 5 (some .int)) 2 [.ref a, .long x1, .int x3] h (.inl (some (.int v)), h') :=
  z_start (by decide) (Nat.le_of_ble_eq_true rfl) (zX9_bytesIn (F := (l, 2, h, (.inl (some (.int v)), h'))) (Nat.le_refl _) hL hf rfl)
theorem fdX9_258_7 : zFd RX9 258 7 16 .int false := ⟨_, _, _, rfl, rfl, by decide, rfl, rfl, Or.inl q1408, Or.inl rfl⟩
theorem fdX9_53_7 : zFd RX9 53 7 17 (.array .int) true := ⟨_, _, _, rfl, rfl, by decide, rfl, rfl, Or.inl q1409, Or.inl rfl⟩
noncomputable def fX9_unitsIn_L39 (h : zH) (a : Nat) (x1 : Int64) (x4 : Int32) : Option ((zH × Int32) ⊕ ((Int32 × zH))) := if x4 < 0 then (some (.inr ((zI h a 16, h)))) else (zck (vp_in (zI h a 16) 1000) (zlet (zsI h (a + 15) (zI h a 16).toNatClampNeg (((x1 >>> (((16 : Int32) * x4).toInt64 &&& 63)) &&& 65535).toInt32)) (fun h_4 => zlet (zsI h_4 a 16 ((zI h_4 a 16) + 1)) (fun h_5 => some (.inl ((h_5, x4 + (-1))))))))
theorem zX9_unitsIn_L39 {F : zF} {h : zH} {a : Nat} {x1 : Int64} {x4 : Int32} {y : (zH × Int32) ⊕ ((Int32 × zH))} (hD : 2 ≤ F.2.1) (hL : zBlk mB mP h a) (hf : fX9_unitsIn_L39 h a x1 x4 = some y) (hM : ((∀ s' : zH × Int32, y = .inl s' → (zBlk mB mP s'.1 a → Z F 5 cX9_unitsIn RX9 "unitsIn" (some .int) [] s'.1 39 [(0, .ref a), (1, .long x1), (4, .int s'.2)] [])) ∧ ∀ r : (Int32 × zH), y = .inr r → ((.inl (some (.int r.1)), r.2) : zX) = zEnd F)) : Z F 5 cX9_unitsIn RX9 "unitsIn" (some .int) [] h 39 [(0, .ref a), (1, .long x1), (4, .int x4)] [] := by
  unfold fX9_unitsIn_L39 at hf
  refine z_iload 2 dX9_unitsIn_39 rfl ?_
  refine z_if_lt 81 dX9_unitsIn_41 rfl hf (fun _ hf => ?_) (fun _ hf => ?_)
  · refine z_aload_n 0 dX9_unitsIn_81 rfl rfl ?_
    refine z_geti fdX9_258_7 (hL.t 0 rfl) dX9_unitsIn_82 ?_
    cases hf
    exact z_iret dX9_unitsIn_85 rfl (hM.2 _ rfl)
  · refine z_aload_n 0 dX9_unitsIn_44 rfl rfl ?_
    refine z_getr fdX9_53_7 (Or.inr ⟨_, rfl⟩) (hL.t 0 rfl) (hL.p 14 rfl) dX9_unitsIn_45 ?_
    refine z_aload_n 0 dX9_unitsIn_48 rfl rfl ?_
    refine z_geti fdX9_258_7 (hL.t 0 rfl) dX9_unitsIn_49 ?_
    refine z_lload_n 1 dX9_unitsIn_52 rfl rfl ?_
    refine z_bipush 16 dX9_unitsIn_53 rfl ?_
    refine z_iload 2 dX9_unitsIn_55 rfl ?_
    refine z_imul dX9_unitsIn_57 ?_
    refine z_lshr dX9_unitsIn_58 ?_
    refine z_ldc2 q1740 dX9_unitsIn_59 ?_
    refine z_land dX9_unitsIn_62 ?_
    refine z_l2i dX9_unitsIn_63 ?_
    obtain ⟨hi_3, hf⟩ := zck_some hf
    obtain ⟨h_4, he, hf⟩ := zlet_some hf
    refine z_iast (hL.t 15 rfl) (hL.nz 15) hi_3 he dX9_unitsIn_64 ?_
    have hL := hL.I he
    refine z_aload_n 0 dX9_unitsIn_65 rfl rfl ?_
    refine z_dup dX9_unitsIn_66 rfl ?_
    refine z_geti fdX9_258_7 (hL.t 0 rfl) dX9_unitsIn_67 ?_
    refine z_iconst 1 dX9_unitsIn_70 rfl ?_
    refine z_iadd dX9_unitsIn_71 ?_
    obtain ⟨h_5, he, hf⟩ := zlet_some hf
    refine z_puti fdX9_258_7 (hL.t 0 rfl) (hL.nz 0) he dX9_unitsIn_72 ?_
    have hL := hL.I he
    refine z_iinc 2 (x4 + (-1)) dX9_unitsIn_75 rfl rfl (by decide) (lc' := [(0, .ref a), (1, .long x1), (4, .int (x4 + (-1)))]) rfl ?_
    refine z_goto 39 dX9_unitsIn_78 rfl ?_
    cases hf
    exact (hM.1 _ rfl) hL
noncomputable def fX9_unitsIn (h : zH) (a : Nat) (x1 : Int64) (x3 : Int32) : Option (Int32 × zH) := zb1 (fX9_in x3 1 4) (fun v_2 => if v_2 = 0 then (zb2 (fX9_tell h a ((-1))) (fun v_10 h_11 => some ((v_10, h_11)))) else (if ((zI h a 16) + x3) ≤ 1000 then (zlp (fun s => fX9_unitsIn_L39 s.1 a x1 s.2) (h, x3 - 1)) else (zb2 (fX9_tell h a ((-6))) (fun v_7 h_8 => some ((v_7, h_8))))))
theorem zX9_unitsIn {F : zF} {h : zH} {a : Nat} {x1 : Int64} {x3 : Int32} {y : Int32 × zH} (hD : 2 ≤ F.2.1) (hL : zBlk mB mP h a) (hf : fX9_unitsIn h a x1 x3 = some y) (hM : ((.inl (some (.int y.1)), y.2) : zX) = zEnd F) : Z F 5 cX9_unitsIn RX9 "unitsIn" (some .int) [] h 0 [(0, .ref a), (1, .long x1), (3, .int x3)] [] := by
  unfold fX9_unitsIn at hf
  refine z_iload_n 2 dX9_unitsIn_0 rfl rfl ?_
  refine z_iconst 1 dX9_unitsIn_1 rfl ?_
  refine z_iconst 4 dX9_unitsIn_2 rfl ?_
  obtain ⟨v_2, hc_1, hf⟩ := zb1_some hf
  refine z_invSi ssX9_156 (ctX9_in hc_1) ⟨Nat.le_trans (by decide) hD, by decide⟩ rfl rfl (Nat.le_of_ble_eq_true rfl) dX9_unitsIn_3 ?_
  refine z_if_ne 15 dX9_unitsIn_6 rfl hf (fun _ hf => ?_) (fun _ hf => ?_)
  · refine z_aload_n 0 dX9_unitsIn_15 rfl rfl ?_
    refine z_geti fdX9_258_7 (hL.t 0 rfl) dX9_unitsIn_16 ?_
    refine z_iload_n 2 dX9_unitsIn_19 rfl rfl ?_
    refine z_iadd dX9_unitsIn_20 ?_
    refine z_sipush 1000 dX9_unitsIn_21 rfl ?_
    refine z_icmp_le 34 dX9_unitsIn_24 rfl hf (fun _ hf => ?_) (fun _ hf => ?_)
    · refine z_iload_n 2 dX9_unitsIn_34 rfl rfl ?_
      refine z_iconst 1 dX9_unitsIn_35 rfl ?_
      refine z_isub dX9_unitsIn_36 ?_
      refine z_istore dX9_unitsIn_37 (by decide) (lc' := [(0, .ref a), (1, .long x1), (3, .int x3), (4, .int (x3 - 1))]) rfl ?_
      refine z_sub [0, 1, 3] rfl ?_
      exact z_loop (fun (s : zH × Int32) => (zBlk mB mP s.1 a → Z F 5 cX9_unitsIn RX9 "unitsIn" (some .int) [] s.1 39 [(0, .ref a), (1, .long x1), (4, .int s.2)] [])) (fun (r : (Int32 × zH)) => ((.inl (some (.int r.1)), r.2) : zX) = zEnd F) (fun s y hb hs hr hL => zX9_unitsIn_L39 hD hL hb ⟨hs, hr⟩) hf hM hL
    · refine z_aload_n 0 dX9_unitsIn_27 rfl rfl ?_
      refine z_bipush (-6) dX9_unitsIn_28 rfl ?_
      obtain ⟨v_7, h_8, hc_6, hf⟩ := zb2_some hf
      have hct := ctX9_tell (l := F.1) hL hc_6
      refine z_invVi svX9_166_7 hct (hL.t 0 rfl) ⟨Nat.le_trans (by decide) hD, by decide⟩ rfl rfl (Nat.le_of_ble_eq_true rfl) dX9_unitsIn_30 ?_
      have hL := hL.ext mOk hct.1
      cases hf
      exact z_iret dX9_unitsIn_33 rfl hM
  · refine z_aload_n 0 dX9_unitsIn_9 rfl rfl ?_
    refine z_iconst (-1) dX9_unitsIn_10 rfl ?_
    obtain ⟨v_10, h_11, hc_9, hf⟩ := zb2_some hf
    have hct := ctX9_tell (l := F.1) hL hc_9
    refine z_invVi svX9_166_7 hct (hL.t 0 rfl) ⟨Nat.le_trans (by decide) hD, by decide⟩ rfl rfl (Nat.le_of_ble_eq_true rfl) dX9_unitsIn_11 ?_
    have hL := hL.ext mOk hct.1
    cases hf
    exact z_iret dX9_unitsIn_14 rfl hM
theorem ctX9_unitsIn {l : Launch} {h : zH} {a : Nat} {x1 : Int64} {x3 : Int32} {v : Int32} {h' : zH} (hL : zBlk mB mP h a) (hf : fX9_unitsIn h a x1 x3 = some (v, h')) : zC l yX9_unitsIn (ws_ yX9_unitsIn cX9_unitsIn 5 (some .int)) 2 [.ref a, .long x1, .int x3] h (.inl (some (.int v)), h') :=
  z_start (by decide) (Nat.le_of_ble_eq_true rfl) (zX9_unitsIn (F := (l, 2, h, (.inl (some (.int v)), h'))) (Nat.le_refl _) hL hf rfl)
theorem fdX9_263_7 : zFd RX9 263 7 19 .int false := ⟨_, _, _, rfl, rfl, by decide, rfl, rfl, Or.inl q1411, Or.inl rfl⟩
theorem fdX9_266_7 : zFd RX9 266 7 18 .int false := ⟨_, _, _, rfl, rfl, by decide, rfl, rfl, Or.inl q1410, Or.inl rfl⟩
theorem fdX9_56_7 : zFd RX9 56 7 20 (.array .int) true := ⟨_, _, _, rfl, rfl, by decide, rfl, rfl, Or.inl q1412, Or.inl rfl⟩
noncomputable def fX9_fill_L91 (h : zH) (a : Nat) (x1 : Int32) (x2 : Int32) : Option ((zH × Int32) ⊕ (zH)) := if (zI h a 18) ≤ x2 then (some (.inr h)) else (if x1 = 2 then (zck (vp_in x2 6000) (zck (vp_in x2 1000) (zlet (zsI h (a + 14) x2.toNatClampNeg (zI h (a + 16) x2.toNatClampNeg)) (fun h_8 => some (.inl ((h_8, x2 + 1))))))) else (zck (vp_in x2 6000) (zck (vp_in x2 1000) (zlet (zsI h (a + 15) x2.toNatClampNeg (zI h (a + 16) x2.toNatClampNeg)) (fun h_5 => some (.inl ((h_5, x2 + 1))))))))
theorem zX9_fill_L91 {F : zF} {h : zH} {a : Nat} {x1 : Int32} {x2 : Int32} {y : (zH × Int32) ⊕ (zH)} (hD : 2 ≤ F.2.1) (hL : zBlk mB mP h a) (hf : fX9_fill_L91 h a x1 x2 = some y) (hM : ((∀ s' : zH × Int32, y = .inl s' → (zBlk mB mP s'.1 a → Z F 3 cX9_fill RX9 "fill" (some .int) [] s'.1 91 [(0, .ref a), (1, .int x1), (2, .int s'.2)] [])) ∧ ∀ r : zH, y = .inr r → (zBlk mB mP r a → Z F 3 cX9_fill RX9 "fill" (some .int) [] r 137 [(0, .ref a), (1, .int x1)] []))) : Z F 3 cX9_fill RX9 "fill" (some .int) [] h 91 [(0, .ref a), (1, .int x1), (2, .int x2)] [] := by
  unfold fX9_fill_L91 at hf
  refine z_iload_n 2 dX9_fill_91 rfl rfl ?_
  refine z_aload_n 0 dX9_fill_92 rfl rfl ?_
  refine z_geti fdX9_266_7 (hL.t 0 rfl) dX9_fill_93 ?_
  refine z_icmp_ge 137 dX9_fill_96 rfl hf (fun _ hf => ?_) (fun _ hf => ?_)
  · cases hf
    refine z_sub [0, 1] rfl ?_
    exact (hM.2 _ rfl) hL
  · refine z_iload_n 1 dX9_fill_99 rfl rfl ?_
    refine z_iconst 2 dX9_fill_100 rfl ?_
    refine z_icmp_ne 119 dX9_fill_101 rfl hf (fun _ hf => ?_) (fun _ hf => ?_)
    · refine z_aload_n 0 dX9_fill_119 rfl rfl ?_
      refine z_getr fdX9_53_7 (Or.inr ⟨_, rfl⟩) (hL.t 0 rfl) (hL.p 14 rfl) dX9_fill_120 ?_
      refine z_iload_n 2 dX9_fill_123 rfl rfl ?_
      refine z_aload_n 0 dX9_fill_124 rfl rfl ?_
      refine z_getr fdX9_56_7 (Or.inr ⟨_, rfl⟩) (hL.t 0 rfl) (hL.p 15 rfl) dX9_fill_125 ?_
      refine z_iload_n 2 dX9_fill_128 rfl rfl ?_
      obtain ⟨hi_3, hf⟩ := zck_some hf
      refine z_iald (hL.t 16 rfl) hi_3 dX9_fill_129 ?_
      obtain ⟨hi_4, hf⟩ := zck_some hf
      obtain ⟨h_5, he, hf⟩ := zlet_some hf
      refine z_iast (hL.t 15 rfl) (hL.nz 15) hi_4 he dX9_fill_130 ?_
      have hL := hL.I he
      refine z_iinc 2 (x2 + 1) dX9_fill_131 rfl rfl (by decide) (lc' := [(0, .ref a), (1, .int x1), (2, .int (x2 + 1))]) rfl ?_
      refine z_goto 91 dX9_fill_134 rfl ?_
      cases hf
      exact (hM.1 _ rfl) hL
    · refine z_aload_n 0 dX9_fill_104 rfl rfl ?_
      refine z_getr fdX9_50_7 (Or.inr ⟨_, rfl⟩) (hL.t 0 rfl) (hL.p 13 rfl) dX9_fill_105 ?_
      refine z_iload_n 2 dX9_fill_108 rfl rfl ?_
      refine z_aload_n 0 dX9_fill_109 rfl rfl ?_
      refine z_getr fdX9_56_7 (Or.inr ⟨_, rfl⟩) (hL.t 0 rfl) (hL.p 15 rfl) dX9_fill_110 ?_
      refine z_iload_n 2 dX9_fill_113 rfl rfl ?_
      obtain ⟨hi_6, hf⟩ := zck_some hf
      refine z_iald (hL.t 16 rfl) hi_6 dX9_fill_114 ?_
      obtain ⟨hi_7, hf⟩ := zck_some hf
      obtain ⟨h_8, he, hf⟩ := zlet_some hf
      refine z_iast (hL.t 14 rfl) (hL.nz 14) hi_7 he dX9_fill_115 ?_
      have hL := hL.I he
      refine z_goto 131 dX9_fill_116 rfl ?_
      refine z_iinc 2 (x2 + 1) dX9_fill_131 rfl rfl (by decide) (lc' := [(0, .ref a), (1, .int x1), (2, .int (x2 + 1))]) rfl ?_
      refine z_goto 91 dX9_fill_134 rfl ?_
      cases hf
      exact (hM.1 _ rfl) hL
noncomputable def fX9_fill_J62 (h : zH) (a : Nat) (x1 : Int32) (k0 : Int32) (k1 : Int32) : Option (Int32 × zH) := if k1 = k0 then (if (zI h a 18) ≤ 1000 then (zb1 (zlp (fun s => fX9_fill_L91 s.1 a x1 s.2) (h, 0)) (fun t_9 => if x1 = 2 then (zlet (zsI t_9 a 14 (zI t_9 a 18)) (fun h_11 => some ((zI h_11 a 18, h_11)))) else (zlet (zsI t_9 a 16 (zI t_9 a 18)) (fun h_10 => some ((zI h_10 a 18, h_10)))))) else (zb2 (fX9_tell h a ((-6))) (fun v_13 h_14 => some ((v_13, h_14))))) else (zb2 (fX9_tell h a ((-2))) (fun v_16 h_17 => some ((v_16, h_17))))
theorem zX9_fill_J62 {F : zF} {h : zH} {a : Nat} {x1 : Int32} {k0 : Int32} {k1 : Int32} {y : Int32 × zH} (hD : 2 ≤ F.2.1) (hL : zBlk mB mP h a) (hf : fX9_fill_J62 h a x1 k0 k1 = some y) (hM : ((.inl (some (.int y.1)), y.2) : zX) = zEnd F) : Z F 3 cX9_fill RX9 "fill" (some .int) [] h 62 [(0, .ref a), (1, .int x1)] [.int k0, .int k1] := by
  unfold fX9_fill_J62 at hf
  refine z_icmp_eq 72 dX9_fill_62 rfl hf (fun _ hf => ?_) (fun _ hf => ?_)
  · refine z_aload_n 0 dX9_fill_72 rfl rfl ?_
    refine z_geti fdX9_266_7 (hL.t 0 rfl) dX9_fill_73 ?_
    refine z_sipush 1000 dX9_fill_76 rfl ?_
    refine z_icmp_le 89 dX9_fill_79 rfl hf (fun _ hf => ?_) (fun _ hf => ?_)
    · refine z_iconst 0 dX9_fill_89 rfl ?_
      refine z_istore_n dX9_fill_90 rfl (by decide) (lc' := [(0, .ref a), (1, .int x1), (2, .int 0)]) rfl ?_
      obtain ⟨t_9, hl, hf⟩ := zb1_some hf
      refine z_loop (fun (s : zH × Int32) => (zBlk mB mP s.1 a → Z F 3 cX9_fill RX9 "fill" (some .int) [] s.1 91 [(0, .ref a), (1, .int x1), (2, .int s.2)] [])) (fun (r : zH) => (zBlk mB mP r a → Z F 3 cX9_fill RX9 "fill" (some .int) [] r 137 [(0, .ref a), (1, .int x1)] [])) (fun s y hb hs hr hL => zX9_fill_L91 hD hL hb ⟨hs, hr⟩) hl ?_ hL
      intro hL
      show Z F 3 cX9_fill RX9 "fill" (some .int) [] t_9 137 [(0, .ref a), (1, .int x1)] []
      refine z_iload_n 1 dX9_fill_137 rfl rfl ?_
      refine z_iconst 2 dX9_fill_138 rfl ?_
      refine z_icmp_ne 153 dX9_fill_139 rfl hf (fun _ hf => ?_) (fun _ hf => ?_)
      · refine z_aload_n 0 dX9_fill_153 rfl rfl ?_
        refine z_aload_n 0 dX9_fill_154 rfl rfl ?_
        refine z_geti fdX9_266_7 (hL.t 0 rfl) dX9_fill_155 ?_
        obtain ⟨h_10, he, hf⟩ := zlet_some hf
        refine z_puti fdX9_258_7 (hL.t 0 rfl) (hL.nz 0) he dX9_fill_158 ?_
        have hL := hL.I he
        refine z_aload_n 0 dX9_fill_161 rfl rfl ?_
        refine z_geti fdX9_266_7 (hL.t 0 rfl) dX9_fill_162 ?_
        cases hf
        exact z_iret dX9_fill_165 rfl hM
      · refine z_aload_n 0 dX9_fill_142 rfl rfl ?_
        refine z_aload_n 0 dX9_fill_143 rfl rfl ?_
        refine z_geti fdX9_266_7 (hL.t 0 rfl) dX9_fill_144 ?_
        obtain ⟨h_11, he, hf⟩ := zlet_some hf
        refine z_puti fdX9_255_7 (hL.t 0 rfl) (hL.nz 0) he dX9_fill_147 ?_
        have hL := hL.I he
        refine z_goto 161 dX9_fill_150 rfl ?_
        refine z_aload_n 0 dX9_fill_161 rfl rfl ?_
        refine z_geti fdX9_266_7 (hL.t 0 rfl) dX9_fill_162 ?_
        cases hf
        exact z_iret dX9_fill_165 rfl hM
    · refine z_aload_n 0 dX9_fill_82 rfl rfl ?_
      refine z_bipush (-6) dX9_fill_83 rfl ?_
      obtain ⟨v_13, h_14, hc_12, hf⟩ := zb2_some hf
      have hct := ctX9_tell (l := F.1) hL hc_12
      refine z_invVi svX9_166_7 hct (hL.t 0 rfl) ⟨Nat.le_trans (by decide) hD, by decide⟩ rfl rfl (Nat.le_of_ble_eq_true rfl) dX9_fill_85 ?_
      have hL := hL.ext mOk hct.1
      cases hf
      exact z_iret dX9_fill_88 rfl hM
  · refine z_aload_n 0 dX9_fill_65 rfl rfl ?_
    refine z_bipush (-2) dX9_fill_66 rfl ?_
    obtain ⟨v_16, h_17, hc_15, hf⟩ := zb2_some hf
    have hct := ctX9_tell (l := F.1) hL hc_15
    refine z_invVi svX9_166_7 hct (hL.t 0 rfl) ⟨Nat.le_trans (by decide) hD, by decide⟩ rfl rfl (Nat.le_of_ble_eq_true rfl) dX9_fill_68 ?_
    have hL := hL.ext mOk hct.1
    cases hf
    exact z_iret dX9_fill_71 rfl hM
noncomputable def fX9_fill (h : zH) (a : Nat) (x1 : Int32) : Option (Int32 × zH) := zb1 (fX9_in x1 0 3) (fun v_2 => if v_2 = 0 then (zb2 (fX9_tell h a ((-1))) (fun v_21 h_22 => some ((v_21, h_22)))) else (if x1 = 0 then (zlet (zsI h a 14 0) (fun h_19 => some ((zI h a 14, h_19)))) else (if x1 = 1 then (zlet (zsI h a 16 0) (fun h_18 => some ((zI h a 16, h_18)))) else (if x1 = 2 then (fX9_fill_J62 h a x1 2 (zI h a 19)) else (fX9_fill_J62 h a x1 1 (zI h a 19))))))
theorem zX9_fill {F : zF} {h : zH} {a : Nat} {x1 : Int32} {y : Int32 × zH} (hD : 2 ≤ F.2.1) (hL : zBlk mB mP h a) (hf : fX9_fill h a x1 = some y) (hM : ((.inl (some (.int y.1)), y.2) : zX) = zEnd F) : Z F 3 cX9_fill RX9 "fill" (some .int) [] h 0 [(0, .ref a), (1, .int x1)] [] := by
  unfold fX9_fill at hf
  refine z_iload_n 1 dX9_fill_0 rfl rfl ?_
  refine z_iconst 0 dX9_fill_1 rfl ?_
  refine z_iconst 3 dX9_fill_2 rfl ?_
  obtain ⟨v_2, hc_1, hf⟩ := zb1_some hf
  refine z_invSi ssX9_156 (ctX9_in hc_1) ⟨Nat.le_trans (by decide) hD, by decide⟩ rfl rfl (Nat.le_of_ble_eq_true rfl) dX9_fill_3 ?_
  refine z_if_ne 15 dX9_fill_6 rfl hf (fun _ hf => ?_) (fun _ hf => ?_)
  · refine z_iload_n 1 dX9_fill_15 rfl rfl ?_
    refine z_if_ne 31 dX9_fill_16 rfl hf (fun _ hf => ?_) (fun _ hf => ?_)
    · refine z_iload_n 1 dX9_fill_31 rfl rfl ?_
      refine z_iconst 1 dX9_fill_32 rfl ?_
      refine z_icmp_ne 48 dX9_fill_33 rfl hf (fun _ hf => ?_) (fun _ hf => ?_)
      · refine z_aload_n 0 dX9_fill_48 rfl rfl ?_
        refine z_geti fdX9_263_7 (hL.t 0 rfl) dX9_fill_49 ?_
        refine z_iload_n 1 dX9_fill_52 rfl rfl ?_
        refine z_iconst 2 dX9_fill_53 rfl ?_
        refine z_icmp_ne 61 dX9_fill_54 rfl hf (fun _ hf => ?_) (fun _ hf => ?_)
        · refine z_iconst 1 dX9_fill_61 rfl ?_
          exact zX9_fill_J62 hD hL hf hM
        · refine z_iconst 2 dX9_fill_57 rfl ?_
          refine z_goto 62 dX9_fill_58 rfl ?_
          exact zX9_fill_J62 hD hL hf hM
      · refine z_aload_n 0 dX9_fill_36 rfl rfl ?_
        refine z_geti fdX9_258_7 (hL.t 0 rfl) dX9_fill_37 ?_
        refine z_istore_n dX9_fill_40 rfl (by decide) (lc' := [(0, .ref a), (1, .int x1), (2, .int (zI h a 16))]) rfl ?_
        refine z_aload_n 0 dX9_fill_41 rfl rfl ?_
        refine z_iconst 0 dX9_fill_42 rfl ?_
        obtain ⟨h_18, he, hf⟩ := zlet_some hf
        refine z_puti fdX9_258_7 (hL.t 0 rfl) (hL.nz 0) he dX9_fill_43 ?_
        have hL := hL.I he
        refine z_iload_n 2 dX9_fill_46 rfl rfl ?_
        cases hf
        exact z_iret dX9_fill_47 rfl hM
    · refine z_aload_n 0 dX9_fill_19 rfl rfl ?_
      refine z_geti fdX9_255_7 (hL.t 0 rfl) dX9_fill_20 ?_
      refine z_istore_n dX9_fill_23 rfl (by decide) (lc' := [(0, .ref a), (1, .int x1), (2, .int (zI h a 14))]) rfl ?_
      refine z_aload_n 0 dX9_fill_24 rfl rfl ?_
      refine z_iconst 0 dX9_fill_25 rfl ?_
      obtain ⟨h_19, he, hf⟩ := zlet_some hf
      refine z_puti fdX9_255_7 (hL.t 0 rfl) (hL.nz 0) he dX9_fill_26 ?_
      have hL := hL.I he
      refine z_iload_n 2 dX9_fill_29 rfl rfl ?_
      cases hf
      exact z_iret dX9_fill_30 rfl hM
  · refine z_aload_n 0 dX9_fill_9 rfl rfl ?_
    refine z_iconst (-1) dX9_fill_10 rfl ?_
    obtain ⟨v_21, h_22, hc_20, hf⟩ := zb2_some hf
    have hct := ctX9_tell (l := F.1) hL hc_20
    refine z_invVi svX9_166_7 hct (hL.t 0 rfl) ⟨Nat.le_trans (by decide) hD, by decide⟩ rfl rfl (Nat.le_of_ble_eq_true rfl) dX9_fill_11 ?_
    have hL := hL.ext mOk hct.1
    cases hf
    exact z_iret dX9_fill_14 rfl hM
theorem ctX9_fill {l : Launch} {h : zH} {a : Nat} {x1 : Int32} {v : Int32} {h' : zH} (hL : zBlk mB mP h a) (hf : fX9_fill h a x1 = some (v, h')) : zC l yX9_fill (ws_ yX9_fill cX9_fill 3 (some .int)) 2 [.ref a, .int x1] h (.inl (some (.int v)), h') :=
  z_start (by decide) (Nat.le_of_ble_eq_true rfl) (zX9_fill (F := (l, 2, h, (.inl (some (.int v)), h'))) (Nat.le_refl _) hL hf rfl)
theorem fdX9_292_7 : zFd RX9 292 7 40 .int false := ⟨_, _, _, rfl, rfl, by decide, rfl, rfl, Or.inl q1432, Or.inl rfl⟩
theorem fdX9_295_7 : zFd RX9 295 7 41 .int false := ⟨_, _, _, rfl, rfl, by decide, rfl, rfl, Or.inl q1433, Or.inl rfl⟩
noncomputable def fX9_lookFew_J247 (h : zH) (a : Nat) (x1 : Nat) (x2 : Int32) (x3 : Int32) (x5 : Int32) (x6 : Int32) (x7 : Int32) (x9 : Int32) (x10 : Int32) (k0 : Int32) (k1 : Int32) : Option ((Int32 × Int32) ⊕ ((Int32 × zH))) := if k1 < k0 then (some (.inr ((0, h)))) else (if 1114111 < x9 then (some (.inr ((0, h)))) else (if x9 < 55296 then (some (.inl ((x6, x7 + 1)))) else (if 57343 < x10 then (some (.inl ((x6, x7 + 1)))) else (some (.inr ((0, h)))))))
theorem zX9_lookFew_J247 {F : zF} {h : zH} {a : Nat} {x1 : Nat} {x2 : Int32} {x3 : Int32} {x5 : Int32} {x6 : Int32} {x7 : Int32} {x9 : Int32} {x10 : Int32} {k0 : Int32} {k1 : Int32} {y : (Int32 × Int32) ⊕ ((Int32 × zH))} (hD : 2 ≤ F.2.1) (hL : zBlk mB mP h a) (hf : fX9_lookFew_J247 h a x1 x2 x3 x5 x6 x7 x9 x10 k0 k1 = some y) (hM : ((∀ s' : Int32 × Int32, y = .inl s' → Z F 11 cX9_lookFew RX9 "lookFew" (some .int) [] h 131 [(0, .ref a), (1, .ref x1), (2, .int x2), (3, .int x3), (5, .int x5), (6, .int s'.1), (7, .int s'.2)] []) ∧ ∀ r : (Int32 × zH), y = .inr r → ((.inl (some (.int r.1)), r.2) : zX) = zEnd F)) : Z F 11 cX9_lookFew RX9 "lookFew" (some .int) [] h 247 [(0, .ref a), (1, .ref x1), (2, .int x2), (3, .int x3), (5, .int x5), (6, .int x6), (7, .int x7), (9, .int x9), (10, .int x10)] [.int k0, .int k1] := by
  unfold fX9_lookFew_J247 at hf
  refine z_icmp_lt 271 dX9_lookFew_247 rfl hf (fun _ hf => ?_) (fun _ hf => ?_)
  · refine z_iconst 0 dX9_lookFew_271 rfl ?_
    cases hf
    exact z_iret dX9_lookFew_272 rfl (hM.2 _ rfl)
  · refine z_iload 7 dX9_lookFew_250 rfl ?_
    refine z_ldc q1641 dX9_lookFew_252 ?_
    refine z_icmp_gt 271 dX9_lookFew_254 rfl hf (fun _ hf => ?_) (fun _ hf => ?_)
    · refine z_iconst 0 dX9_lookFew_271 rfl ?_
      cases hf
      exact z_iret dX9_lookFew_272 rfl (hM.2 _ rfl)
    · refine z_iload 7 dX9_lookFew_257 rfl ?_
      refine z_ldc q1642 dX9_lookFew_259 ?_
      refine z_icmp_lt 273 dX9_lookFew_261 rfl hf (fun _ hf => ?_) (fun _ hf => ?_)
      · refine z_iinc 6 (x7 + 1) dX9_lookFew_273 rfl rfl (by decide) (lc' := [(0, .ref a), (1, .ref x1), (2, .int x2), (3, .int x3), (5, .int x5), (6, .int x6), (7, .int (x7 + 1)), (9, .int x9), (10, .int x10)]) rfl ?_
        refine z_goto 131 dX9_lookFew_276 rfl ?_
        cases hf
        refine z_sub [0, 1, 2, 3, 4, 5, 6] rfl ?_
        exact (hM.1 _ rfl)
      · refine z_iload 8 dX9_lookFew_264 rfl ?_
        refine z_ldc q1643 dX9_lookFew_266 ?_
        refine z_icmp_gt 273 dX9_lookFew_268 rfl hf (fun _ hf => ?_) (fun _ hf => ?_)
        · refine z_iinc 6 (x7 + 1) dX9_lookFew_273 rfl rfl (by decide) (lc' := [(0, .ref a), (1, .ref x1), (2, .int x2), (3, .int x3), (5, .int x5), (6, .int x6), (7, .int (x7 + 1)), (9, .int x9), (10, .int x10)]) rfl ?_
          refine z_goto 131 dX9_lookFew_276 rfl ?_
          cases hf
          refine z_sub [0, 1, 2, 3, 4, 5, 6] rfl ?_
          exact (hM.1 _ rfl)
        · refine z_iconst 0 dX9_lookFew_271 rfl ?_
          cases hf
          exact z_iret dX9_lookFew_272 rfl (hM.2 _ rfl)
noncomputable def fX9_lookFew_L131 (h : zH) (a : Nat) (x1 : Nat) (x2 : Int32) (x3 : Int32) (x5 : Int32) (x6 : Int32) (x7 : Int32) : Option ((Int32 × Int32) ⊕ ((Int32 × zH))) := if x5 ≤ x7 then (zlet (zsI h a 40 x5) (fun h_8 => zlet (zsI h_8 a 41 x6) (fun h_9 => some (.inr ((2, h_9)))))) else (if (x2 + x7) < x3 then (zck (zAr h x1 (x2 + x7)) (zb1 (fX9_in (zI h x1 (x2 + x7).toNatClampNeg) 128 191) (fun v_12 => if v_12 = 0 then (some (.inr ((0, h)))) else (if x5 = 2 then (fX9_lookFew_J247 h a x1 x2 x3 x5 ((x6 <<< (6 &&& 31)) ||| ((zI h x1 (x2 + x7).toNatClampNeg) &&& 63)) x7 (((x6 <<< (6 &&& 31)) ||| ((zI h x1 (x2 + x7).toNatClampNeg) &&& 63)) <<< (((6 : Int32) * ((x5 - 1) - x7)) &&& 31)) (((((x6 <<< (6 &&& 31)) ||| ((zI h x1 (x2 + x7).toNatClampNeg) &&& 63)) <<< (((6 : Int32) * ((x5 - 1) - x7)) &&& 31)) + ((1 : Int32) <<< (((6 : Int32) * ((x5 - 1) - x7)) &&& 31))) - 1) 128 (((((x6 <<< (6 &&& 31)) ||| ((zI h x1 (x2 + x7).toNatClampNeg) &&& 63)) <<< (((6 : Int32) * ((x5 - 1) - x7)) &&& 31)) + ((1 : Int32) <<< (((6 : Int32) * ((x5 - 1) - x7)) &&& 31))) - 1)) else (if x5 = 3 then (fX9_lookFew_J247 h a x1 x2 x3 x5 ((x6 <<< (6 &&& 31)) ||| ((zI h x1 (x2 + x7).toNatClampNeg) &&& 63)) x7 (((x6 <<< (6 &&& 31)) ||| ((zI h x1 (x2 + x7).toNatClampNeg) &&& 63)) <<< (((6 : Int32) * ((x5 - 1) - x7)) &&& 31)) (((((x6 <<< (6 &&& 31)) ||| ((zI h x1 (x2 + x7).toNatClampNeg) &&& 63)) <<< (((6 : Int32) * ((x5 - 1) - x7)) &&& 31)) + ((1 : Int32) <<< (((6 : Int32) * ((x5 - 1) - x7)) &&& 31))) - 1) 2048 (((((x6 <<< (6 &&& 31)) ||| ((zI h x1 (x2 + x7).toNatClampNeg) &&& 63)) <<< (((6 : Int32) * ((x5 - 1) - x7)) &&& 31)) + ((1 : Int32) <<< (((6 : Int32) * ((x5 - 1) - x7)) &&& 31))) - 1)) else (fX9_lookFew_J247 h a x1 x2 x3 x5 ((x6 <<< (6 &&& 31)) ||| ((zI h x1 (x2 + x7).toNatClampNeg) &&& 63)) x7 (((x6 <<< (6 &&& 31)) ||| ((zI h x1 (x2 + x7).toNatClampNeg) &&& 63)) <<< (((6 : Int32) * ((x5 - 1) - x7)) &&& 31)) (((((x6 <<< (6 &&& 31)) ||| ((zI h x1 (x2 + x7).toNatClampNeg) &&& 63)) <<< (((6 : Int32) * ((x5 - 1) - x7)) &&& 31)) + ((1 : Int32) <<< (((6 : Int32) * ((x5 - 1) - x7)) &&& 31))) - 1) 65536 (((((x6 <<< (6 &&& 31)) ||| ((zI h x1 (x2 + x7).toNatClampNeg) &&& 63)) <<< (((6 : Int32) * ((x5 - 1) - x7)) &&& 31)) + ((1 : Int32) <<< (((6 : Int32) * ((x5 - 1) - x7)) &&& 31))) - 1))))))) else (some (.inr ((1, h)))))
theorem zX9_lookFew_L131 {F : zF} {h : zH} {a : Nat} {x1 : Nat} {x2 : Int32} {x3 : Int32} {x5 : Int32} {x6 : Int32} {x7 : Int32} {y : (Int32 × Int32) ⊕ ((Int32 × zH))} (hD : 2 ≤ F.2.1) (hL : zBlk mB mP h a) (hf : fX9_lookFew_L131 h a x1 x2 x3 x5 x6 x7 = some y) (hM : ((∀ s' : Int32 × Int32, y = .inl s' → Z F 11 cX9_lookFew RX9 "lookFew" (some .int) [] h 131 [(0, .ref a), (1, .ref x1), (2, .int x2), (3, .int x3), (5, .int x5), (6, .int s'.1), (7, .int s'.2)] []) ∧ ∀ r : (Int32 × zH), y = .inr r → ((.inl (some (.int r.1)), r.2) : zX) = zEnd F)) : Z F 11 cX9_lookFew RX9 "lookFew" (some .int) [] h 131 [(0, .ref a), (1, .ref x1), (2, .int x2), (3, .int x3), (5, .int x5), (6, .int x6), (7, .int x7)] [] := by
  unfold fX9_lookFew_L131 at hf
  refine z_iload 6 dX9_lookFew_131 rfl ?_
  refine z_iload 4 dX9_lookFew_133 rfl ?_
  refine z_icmp_ge 279 dX9_lookFew_135 rfl hf (fun _ hf => ?_) (fun _ hf => ?_)
  · refine z_aload_n 0 dX9_lookFew_279 rfl rfl ?_
    refine z_iload 4 dX9_lookFew_280 rfl ?_
    obtain ⟨h_8, he, hf⟩ := zlet_some hf
    refine z_puti fdX9_292_7 (hL.t 0 rfl) (hL.nz 0) he dX9_lookFew_282 ?_
    have hL := hL.I he
    refine z_aload_n 0 dX9_lookFew_285 rfl rfl ?_
    refine z_iload 5 dX9_lookFew_286 rfl ?_
    obtain ⟨h_9, he, hf⟩ := zlet_some hf
    refine z_puti fdX9_295_7 (hL.t 0 rfl) (hL.nz 0) he dX9_lookFew_288 ?_
    have hL := hL.I he
    refine z_iconst 2 dX9_lookFew_291 rfl ?_
    cases hf
    exact z_iret dX9_lookFew_292 rfl (hM.2 _ rfl)
  · refine z_iload_n 2 dX9_lookFew_138 rfl rfl ?_
    refine z_iload 6 dX9_lookFew_139 rfl ?_
    refine z_iadd dX9_lookFew_141 ?_
    refine z_iload_n 3 dX9_lookFew_142 rfl rfl ?_
    refine z_icmp_lt 148 dX9_lookFew_143 rfl hf (fun _ hf => ?_) (fun _ hf => ?_)
    · refine z_aload_n 1 dX9_lookFew_148 rfl rfl ?_
      refine z_iload_n 2 dX9_lookFew_149 rfl rfl ?_
      refine z_iload 6 dX9_lookFew_150 rfl ?_
      refine z_iadd dX9_lookFew_152 ?_
      obtain ⟨hi_10, hf⟩ := zck_some hf
      refine z_iald (zAr_t hi_10) hi_10.2 dX9_lookFew_153 ?_
      refine z_istore dX9_lookFew_154 (by decide) (lc' := [(0, .ref a), (1, .ref x1), (2, .int x2), (3, .int x3), (5, .int x5), (6, .int x6), (7, .int x7), (8, .int (zI h x1 (x2 + x7).toNatClampNeg))]) rfl ?_
      refine z_iload 7 dX9_lookFew_156 rfl ?_
      refine z_sipush 128 dX9_lookFew_158 rfl ?_
      refine z_sipush 191 dX9_lookFew_161 rfl ?_
      obtain ⟨v_12, hc_11, hf⟩ := zb1_some hf
      refine z_invSi ssX9_156 (ctX9_in hc_11) ⟨Nat.le_trans (by decide) hD, by decide⟩ rfl rfl (Nat.le_of_ble_eq_true rfl) dX9_lookFew_164 ?_
      refine z_if_ne 172 dX9_lookFew_167 rfl hf (fun _ hf => ?_) (fun _ hf => ?_)
      · refine z_iload 5 dX9_lookFew_172 rfl ?_
        refine z_bipush 6 dX9_lookFew_174 rfl ?_
        refine z_ishl dX9_lookFew_176 ?_
        refine z_iload 7 dX9_lookFew_177 rfl ?_
        refine z_bipush 63 dX9_lookFew_179 rfl ?_
        refine z_iand dX9_lookFew_181 ?_
        refine z_ior dX9_lookFew_182 ?_
        refine z_istore dX9_lookFew_183 (by decide) (lc' := [(0, .ref a), (1, .ref x1), (2, .int x2), (3, .int x3), (5, .int x5), (6, .int ((x6 <<< (6 &&& 31)) ||| ((zI h x1 (x2 + x7).toNatClampNeg) &&& 63))), (7, .int x7), (8, .int (zI h x1 (x2 + x7).toNatClampNeg))]) rfl ?_
        refine z_iload 5 dX9_lookFew_185 rfl ?_
        refine z_bipush 6 dX9_lookFew_187 rfl ?_
        refine z_iload 4 dX9_lookFew_189 rfl ?_
        refine z_iconst 1 dX9_lookFew_191 rfl ?_
        refine z_isub dX9_lookFew_192 ?_
        refine z_iload 6 dX9_lookFew_193 rfl ?_
        refine z_isub dX9_lookFew_195 ?_
        refine z_imul dX9_lookFew_196 ?_
        refine z_ishl dX9_lookFew_197 ?_
        refine z_istore dX9_lookFew_198 (by decide) (lc' := [(0, .ref a), (1, .ref x1), (2, .int x2), (3, .int x3), (5, .int x5), (6, .int ((x6 <<< (6 &&& 31)) ||| ((zI h x1 (x2 + x7).toNatClampNeg) &&& 63))), (7, .int x7), (8, .int (zI h x1 (x2 + x7).toNatClampNeg)), (9, .int (((x6 <<< (6 &&& 31)) ||| ((zI h x1 (x2 + x7).toNatClampNeg) &&& 63)) <<< (((6 : Int32) * ((x5 - 1) - x7)) &&& 31)))]) rfl ?_
        refine z_iload 8 dX9_lookFew_200 rfl ?_
        refine z_iconst 1 dX9_lookFew_202 rfl ?_
        refine z_bipush 6 dX9_lookFew_203 rfl ?_
        refine z_iload 4 dX9_lookFew_205 rfl ?_
        refine z_iconst 1 dX9_lookFew_207 rfl ?_
        refine z_isub dX9_lookFew_208 ?_
        refine z_iload 6 dX9_lookFew_209 rfl ?_
        refine z_isub dX9_lookFew_211 ?_
        refine z_imul dX9_lookFew_212 ?_
        refine z_ishl dX9_lookFew_213 ?_
        refine z_iadd dX9_lookFew_214 ?_
        refine z_iconst 1 dX9_lookFew_215 rfl ?_
        refine z_isub dX9_lookFew_216 ?_
        refine z_istore dX9_lookFew_217 (by decide) (lc' := [(0, .ref a), (1, .ref x1), (2, .int x2), (3, .int x3), (5, .int x5), (6, .int ((x6 <<< (6 &&& 31)) ||| ((zI h x1 (x2 + x7).toNatClampNeg) &&& 63))), (7, .int x7), (8, .int (zI h x1 (x2 + x7).toNatClampNeg)), (9, .int (((x6 <<< (6 &&& 31)) ||| ((zI h x1 (x2 + x7).toNatClampNeg) &&& 63)) <<< (((6 : Int32) * ((x5 - 1) - x7)) &&& 31))), (10, .int (((((x6 <<< (6 &&& 31)) ||| ((zI h x1 (x2 + x7).toNatClampNeg) &&& 63)) <<< (((6 : Int32) * ((x5 - 1) - x7)) &&& 31)) + ((1 : Int32) <<< (((6 : Int32) * ((x5 - 1) - x7)) &&& 31))) - 1))]) rfl ?_
        refine z_iload 9 dX9_lookFew_219 rfl ?_
        refine z_iload 4 dX9_lookFew_221 rfl ?_
        refine z_iconst 2 dX9_lookFew_223 rfl ?_
        refine z_icmp_ne 233 dX9_lookFew_224 rfl hf (fun _ hf => ?_) (fun _ hf => ?_)
        · refine z_iload 4 dX9_lookFew_233 rfl ?_
          refine z_iconst 3 dX9_lookFew_235 rfl ?_
          refine z_icmp_ne 245 dX9_lookFew_236 rfl hf (fun _ hf => ?_) (fun _ hf => ?_)
          · refine z_ldc q1712 dX9_lookFew_245 ?_
            refine z_sub [0, 1, 2, 3, 4, 5, 6, 8, 9] rfl ?_
            exact zX9_lookFew_J247 hD hL hf hM
          · refine z_sipush 2048 dX9_lookFew_239 rfl ?_
            refine z_goto 247 dX9_lookFew_242 rfl ?_
            refine z_sub [0, 1, 2, 3, 4, 5, 6, 8, 9] rfl ?_
            exact zX9_lookFew_J247 hD hL hf hM
        · refine z_sipush 128 dX9_lookFew_227 rfl ?_
          refine z_goto 247 dX9_lookFew_230 rfl ?_
          refine z_sub [0, 1, 2, 3, 4, 5, 6, 8, 9] rfl ?_
          exact zX9_lookFew_J247 hD hL hf hM
      · refine z_iconst 0 dX9_lookFew_170 rfl ?_
        cases hf
        exact z_iret dX9_lookFew_171 rfl (hM.2 _ rfl)
    · refine z_iconst 1 dX9_lookFew_146 rfl ?_
      cases hf
      exact z_iret dX9_lookFew_147 rfl (hM.2 _ rfl)
noncomputable def fX9_lookFew_J126 (h : zH) (a : Nat) (x1 : Nat) (x2 : Int32) (x3 : Int32) (x5 : Int32) (k0 : Int32) : Option (Int32 × zH) := zlp (fun s => fX9_lookFew_L131 h a x1 x2 x3 x5 s.1 s.2) (k0, 1)
theorem zX9_lookFew_J126 {F : zF} {h : zH} {a : Nat} {x1 : Nat} {x2 : Int32} {x3 : Int32} {x5 : Int32} {k0 : Int32} {y : Int32 × zH} (hD : 2 ≤ F.2.1) (hL : zBlk mB mP h a) (hf : fX9_lookFew_J126 h a x1 x2 x3 x5 k0 = some y) (hM : ((.inl (some (.int y.1)), y.2) : zX) = zEnd F) : Z F 11 cX9_lookFew RX9 "lookFew" (some .int) [] h 126 [(0, .ref a), (1, .ref x1), (2, .int x2), (3, .int x3), (5, .int x5)] [.int k0] := by
  unfold fX9_lookFew_J126 at hf
  refine z_istore dX9_lookFew_126 (by decide) (lc' := [(0, .ref a), (1, .ref x1), (2, .int x2), (3, .int x3), (5, .int x5), (6, .int k0)]) rfl ?_
  refine z_iconst 1 dX9_lookFew_128 rfl ?_
  refine z_istore dX9_lookFew_129 (by decide) (lc' := [(0, .ref a), (1, .ref x1), (2, .int x2), (3, .int x3), (5, .int x5), (6, .int k0), (7, .int 1)]) rfl ?_
  exact z_loop (fun (s : Int32 × Int32) => Z F 11 cX9_lookFew RX9 "lookFew" (some .int) [] h 131 [(0, .ref a), (1, .ref x1), (2, .int x2), (3, .int x3), (5, .int x5), (6, .int s.1), (7, .int s.2)] []) (fun (r : (Int32 × zH)) => ((.inl (some (.int r.1)), r.2) : zX) = zEnd F) (fun s y hb hs hr => zX9_lookFew_L131 hD hL hb ⟨hs, hr⟩) hf hM
noncomputable def fX9_lookFew_J125 (h : zH) (a : Nat) (x1 : Nat) (x2 : Int32) (x3 : Int32) (x5 : Int32) (k0 : Int32) (k1 : Int32) : Option (Int32 × zH) := fX9_lookFew_J126 h a x1 x2 x3 x5 (k1 &&& k0)
theorem zX9_lookFew_J125 {F : zF} {h : zH} {a : Nat} {x1 : Nat} {x2 : Int32} {x3 : Int32} {x5 : Int32} {k0 : Int32} {k1 : Int32} {y : Int32 × zH} (hD : 2 ≤ F.2.1) (hL : zBlk mB mP h a) (hf : fX9_lookFew_J125 h a x1 x2 x3 x5 k0 k1 = some y) (hM : ((.inl (some (.int y.1)), y.2) : zX) = zEnd F) : Z F 11 cX9_lookFew RX9 "lookFew" (some .int) [] h 125 [(0, .ref a), (1, .ref x1), (2, .int x2), (3, .int x3), (5, .int x5)] [.int k0, .int k1] := by
  unfold fX9_lookFew_J125 at hf
  refine z_iand dX9_lookFew_125 ?_
  exact zX9_lookFew_J126 hD hL hf hM
noncomputable def fX9_lookFew_J79 (h : zH) (a : Nat) (x1 : Nat) (x2 : Int32) (x3 : Int32) (x4 : Int32) (k0 : Int32) : Option (Int32 × zH) := if k0 = 0 then (some ((0, h))) else (if k0 = 1 then (fX9_lookFew_J126 h a x1 x2 x3 k0 x4) else (if k0 = 2 then (fX9_lookFew_J125 h a x1 x2 x3 k0 31 x4) else (if k0 = 3 then (fX9_lookFew_J125 h a x1 x2 x3 k0 15 x4) else (fX9_lookFew_J125 h a x1 x2 x3 k0 7 x4))))
theorem zX9_lookFew_J79 {F : zF} {h : zH} {a : Nat} {x1 : Nat} {x2 : Int32} {x3 : Int32} {x4 : Int32} {k0 : Int32} {y : Int32 × zH} (hD : 2 ≤ F.2.1) (hL : zBlk mB mP h a) (hf : fX9_lookFew_J79 h a x1 x2 x3 x4 k0 = some y) (hM : ((.inl (some (.int y.1)), y.2) : zX) = zEnd F) : Z F 11 cX9_lookFew RX9 "lookFew" (some .int) [] h 79 [(0, .ref a), (1, .ref x1), (2, .int x2), (3, .int x3), (4, .int x4)] [.int k0] := by
  unfold fX9_lookFew_J79 at hf
  refine z_istore dX9_lookFew_79 (by decide) (lc' := [(0, .ref a), (1, .ref x1), (2, .int x2), (3, .int x3), (4, .int x4), (5, .int k0)]) rfl ?_
  refine z_iload 5 dX9_lookFew_81 rfl ?_
  refine z_if_ne 88 dX9_lookFew_83 rfl hf (fun _ hf => ?_) (fun _ hf => ?_)
  · refine z_iload 5 dX9_lookFew_88 rfl ?_
    refine z_iconst 1 dX9_lookFew_90 rfl ?_
    refine z_icmp_ne 99 dX9_lookFew_91 rfl hf (fun _ hf => ?_) (fun _ hf => ?_)
    · refine z_iload 4 dX9_lookFew_99 rfl ?_
      refine z_iload 5 dX9_lookFew_101 rfl ?_
      refine z_iconst 2 dX9_lookFew_103 rfl ?_
      refine z_icmp_ne 112 dX9_lookFew_104 rfl hf (fun _ hf => ?_) (fun _ hf => ?_)
      · refine z_iload 5 dX9_lookFew_112 rfl ?_
        refine z_iconst 3 dX9_lookFew_114 rfl ?_
        refine z_icmp_ne 123 dX9_lookFew_115 rfl hf (fun _ hf => ?_) (fun _ hf => ?_)
        · refine z_bipush 7 dX9_lookFew_123 rfl ?_
          refine z_sub [0, 1, 2, 3, 5] rfl ?_
          exact zX9_lookFew_J125 hD hL hf hM
        · refine z_bipush 15 dX9_lookFew_118 rfl ?_
          refine z_goto 125 dX9_lookFew_120 rfl ?_
          refine z_sub [0, 1, 2, 3, 5] rfl ?_
          exact zX9_lookFew_J125 hD hL hf hM
      · refine z_bipush 31 dX9_lookFew_107 rfl ?_
        refine z_goto 125 dX9_lookFew_109 rfl ?_
        refine z_sub [0, 1, 2, 3, 5] rfl ?_
        exact zX9_lookFew_J125 hD hL hf hM
    · refine z_iload 4 dX9_lookFew_94 rfl ?_
      refine z_goto 126 dX9_lookFew_96 rfl ?_
      refine z_sub [0, 1, 2, 3, 5] rfl ?_
      exact zX9_lookFew_J126 hD hL hf hM
  · refine z_iconst 0 dX9_lookFew_86 rfl ?_
    cases hf
    exact z_iret dX9_lookFew_87 rfl hM
noncomputable def fX9_lookFew (h : zH) (a : Nat) (x1 : Nat) (x2 : Int32) (x3 : Int32) : Option (Int32 × zH) := if x2 < x3 then (zck (zAr h x1 x2) (if 128 ≤ (zI h x1 x2.toNatClampNeg) then (zb1 (fX9_in (zI h x1 x2.toNatClampNeg) 194 223) (fun v_3 => if v_3 = 0 then (zb1 (fX9_in (zI h x1 x2.toNatClampNeg) 224 239) (fun v_5 => if v_5 = 0 then (zb1 (fX9_in (zI h x1 x2.toNatClampNeg) 240 244) (fun v_7 => if v_7 = 0 then (fX9_lookFew_J79 h a x1 x2 x3 (zI h x1 x2.toNatClampNeg) 0) else (fX9_lookFew_J79 h a x1 x2 x3 (zI h x1 x2.toNatClampNeg) 4))) else (fX9_lookFew_J79 h a x1 x2 x3 (zI h x1 x2.toNatClampNeg) 3))) else (fX9_lookFew_J79 h a x1 x2 x3 (zI h x1 x2.toNatClampNeg) 2))) else (fX9_lookFew_J79 h a x1 x2 x3 (zI h x1 x2.toNatClampNeg) 1))) else (some ((1, h)))
theorem zX9_lookFew {F : zF} {h : zH} {a : Nat} {x1 : Nat} {x2 : Int32} {x3 : Int32} {y : Int32 × zH} (hD : 2 ≤ F.2.1) (hL : zBlk mB mP h a) (hf : fX9_lookFew h a x1 x2 x3 = some y) (hM : ((.inl (some (.int y.1)), y.2) : zX) = zEnd F) : Z F 11 cX9_lookFew RX9 "lookFew" (some .int) [] h 0 [(0, .ref a), (1, .ref x1), (2, .int x2), (3, .int x3)] [] := by
  unfold fX9_lookFew at hf
  refine z_iload_n 2 dX9_lookFew_0 rfl rfl ?_
  refine z_iload_n 3 dX9_lookFew_1 rfl rfl ?_
  refine z_icmp_lt 7 dX9_lookFew_2 rfl hf (fun _ hf => ?_) (fun _ hf => ?_)
  · refine z_aload_n 1 dX9_lookFew_7 rfl rfl ?_
    refine z_iload_n 2 dX9_lookFew_8 rfl rfl ?_
    obtain ⟨hi_1, hf⟩ := zck_some hf
    refine z_iald (zAr_t hi_1) hi_1.2 dX9_lookFew_9 ?_
    refine z_istore dX9_lookFew_10 (by decide) (lc' := [(0, .ref a), (1, .ref x1), (2, .int x2), (3, .int x3), (4, .int (zI h x1 x2.toNatClampNeg))]) rfl ?_
    refine z_iload 4 dX9_lookFew_12 rfl ?_
    refine z_sipush 128 dX9_lookFew_14 rfl ?_
    refine z_icmp_ge 24 dX9_lookFew_17 rfl hf (fun _ hf => ?_) (fun _ hf => ?_)
    · refine z_iload 4 dX9_lookFew_24 rfl ?_
      refine z_sipush 194 dX9_lookFew_26 rfl ?_
      refine z_sipush 223 dX9_lookFew_29 rfl ?_
      obtain ⟨v_3, hc_2, hf⟩ := zb1_some hf
      refine z_invSi ssX9_156 (ctX9_in hc_2) ⟨Nat.le_trans (by decide) hD, by decide⟩ rfl rfl (Nat.le_of_ble_eq_true rfl) dX9_lookFew_32 ?_
      refine z_if_eq 42 dX9_lookFew_35 rfl hf (fun _ hf => ?_) (fun _ hf => ?_)
      · refine z_iload 4 dX9_lookFew_42 rfl ?_
        refine z_sipush 224 dX9_lookFew_44 rfl ?_
        refine z_sipush 239 dX9_lookFew_47 rfl ?_
        obtain ⟨v_5, hc_4, hf⟩ := zb1_some hf
        refine z_invSi ssX9_156 (ctX9_in hc_4) ⟨Nat.le_trans (by decide) hD, by decide⟩ rfl rfl (Nat.le_of_ble_eq_true rfl) dX9_lookFew_50 ?_
        refine z_if_eq 60 dX9_lookFew_53 rfl hf (fun _ hf => ?_) (fun _ hf => ?_)
        · refine z_iload 4 dX9_lookFew_60 rfl ?_
          refine z_sipush 240 dX9_lookFew_62 rfl ?_
          refine z_sipush 244 dX9_lookFew_65 rfl ?_
          obtain ⟨v_7, hc_6, hf⟩ := zb1_some hf
          refine z_invSi ssX9_156 (ctX9_in hc_6) ⟨Nat.le_trans (by decide) hD, by decide⟩ rfl rfl (Nat.le_of_ble_eq_true rfl) dX9_lookFew_68 ?_
          refine z_if_eq 78 dX9_lookFew_71 rfl hf (fun _ hf => ?_) (fun _ hf => ?_)
          · refine z_iconst 0 dX9_lookFew_78 rfl ?_
            exact zX9_lookFew_J79 hD hL hf hM
          · refine z_iconst 4 dX9_lookFew_74 rfl ?_
            refine z_goto 79 dX9_lookFew_75 rfl ?_
            exact zX9_lookFew_J79 hD hL hf hM
        · refine z_iconst 3 dX9_lookFew_56 rfl ?_
          refine z_goto 79 dX9_lookFew_57 rfl ?_
          exact zX9_lookFew_J79 hD hL hf hM
      · refine z_iconst 2 dX9_lookFew_38 rfl ?_
        refine z_goto 79 dX9_lookFew_39 rfl ?_
        exact zX9_lookFew_J79 hD hL hf hM
    · refine z_iconst 1 dX9_lookFew_20 rfl ?_
      refine z_goto 79 dX9_lookFew_21 rfl ?_
      exact zX9_lookFew_J79 hD hL hf hM
  · refine z_iconst 1 dX9_lookFew_5 rfl ?_
    cases hf
    exact z_iret dX9_lookFew_6 rfl hM
theorem ctX9_lookFew {l : Launch} {h : zH} {a : Nat} {x1 : Nat} {x2 : Int32} {x3 : Int32} {v : Int32} {h' : zH} (hL : zBlk mB mP h a) (hf : fX9_lookFew h a x1 x2 x3 = some (v, h')) : zC l yX9_lookFew (ws_ yX9_lookFew cX9_lookFew 11 (some .int)) 2 [.ref a, .ref x1, .int x2, .int x3] h (.inl (some (.int v)), h') :=
  z_start (by decide) (Nat.le_of_ble_eq_true rfl) (zX9_lookFew (F := (l, 2, h, (.inl (some (.int v)), h'))) (Nat.le_refl _) hL hf rfl)
noncomputable def fX9_isLow (x0 : Int32) : Option (Int32) := zb1 (fX9_in x0 56320 57343) (fun v_2 => zck (zB v_2) (some v_2))
theorem zX9_isLow {F : zF} {h : zH} {x0 : Int32} {y : Int32} (hD : 2 ≤ F.2.1) (hf : fX9_isLow x0 = some y) (hM : ((.inl (some (.int y)), h) : zX) = zEnd F) : Z F 1 cX9_isLow RX9 "isLow" (some .boolean) [] h 0 [(0, .int x0)] [] := by
  unfold fX9_isLow at hf
  refine z_iload_n 0 dX9_isLow_0 rfl rfl ?_
  refine z_ldc q1724 dX9_isLow_1 ?_
  refine z_ldc q1643 dX9_isLow_3 ?_
  obtain ⟨v_2, hc_1, hf⟩ := zb1_some hf
  refine z_invSi ssX9_156 (ctX9_in hc_1) ⟨Nat.le_trans (by decide) hD, by decide⟩ rfl rfl (Nat.le_of_ble_eq_true rfl) dX9_isLow_5 ?_
  obtain ⟨hz_3, hf⟩ := zck_some hf
  cases hf
  exact z_zret dX9_isLow_8 rfl hz_3 hM
theorem ctX9_isLow {l : Launch} {h : zH} {x0 : Int32} {v : Int32} (hf : fX9_isLow x0 = some v) : zC l yX9_isLow (ws_ yX9_isLow cX9_isLow 1 (some .boolean)) 2 [.int x0] h (.inl (some (.int v)), h) :=
  z_start (by decide) (Nat.le_of_ble_eq_true rfl) (zX9_isLow (F := (l, 2, h, (.inl (some (.int v)), h))) (Nat.le_refl _) hf rfl)
noncomputable def fX9_isHigh (x0 : Int32) : Option (Int32) := zb1 (fX9_in x0 55296 56319) (fun v_2 => zck (zB v_2) (some v_2))
theorem zX9_isHigh {F : zF} {h : zH} {x0 : Int32} {y : Int32} (hD : 2 ≤ F.2.1) (hf : fX9_isHigh x0 = some y) (hM : ((.inl (some (.int y)), h) : zX) = zEnd F) : Z F 1 cX9_isHigh RX9 "isHigh" (some .boolean) [] h 0 [(0, .int x0)] [] := by
  unfold fX9_isHigh at hf
  refine z_iload_n 0 dX9_isHigh_0 rfl rfl ?_
  refine z_ldc q1642 dX9_isHigh_1 ?_
  refine z_ldc q1775 dX9_isHigh_3 ?_
  obtain ⟨v_2, hc_1, hf⟩ := zb1_some hf
  refine z_invSi ssX9_156 (ctX9_in hc_1) ⟨Nat.le_trans (by decide) hD, by decide⟩ rfl rfl (Nat.le_of_ble_eq_true rfl) dX9_isHigh_5 ?_
  obtain ⟨hz_3, hf⟩ := zck_some hf
  cases hf
  exact z_zret dX9_isHigh_8 rfl hz_3 hM
theorem ctX9_isHigh {l : Launch} {h : zH} {x0 : Int32} {v : Int32} (hf : fX9_isHigh x0 = some v) : zC l yX9_isHigh (ws_ yX9_isHigh cX9_isHigh 1 (some .boolean)) 2 [.int x0] h (.inl (some (.int v)), h) :=
  z_start (by decide) (Nat.le_of_ble_eq_true rfl) (zX9_isHigh (F := (l, 2, h, (.inl (some (.int v)), h))) (Nat.le_refl _) hf rfl)
theorem ssX9_301 : zIs RX9 301 yX9_isLow (ws_ yX9_isLow cX9_isLow 1 (some .boolean)) 1 1 := ⟨zGood_c q1771 q109, Or.inl q1769, q1770, ⟨by decide, by decide⟩, by decide +kernel⟩
theorem ssX9_304 : zIs RX9 304 yX9_isHigh (ws_ yX9_isHigh cX9_isHigh 1 (some .boolean)) 1 1 := ⟨zGood_c q1774 q109, Or.inl q1772, q1773, ⟨by decide, by decide⟩, by decide +kernel⟩
noncomputable def fX9_lookUnits_J212 (h : zH) (a : Nat) (x6 : Int32) (k0 : Int32) : Option (Int32 × zH) := zb1 (fX9_isLow k0) (fun v_8 => if v_8 = 0 then (some ((0, h))) else (zlet (zsI h a 40 4) (fun h_9 => zlet (zsI h_9 a 41 ((((65536 : Int32) + ((x6 - 55296) <<< (10 &&& 31))) + k0) - 56320)) (fun h_10 => some ((2, h_10))))))
theorem zX9_lookUnits_J212 {F : zF} {h : zH} {a : Nat} {x6 : Int32} {k0 : Int32} {y : Int32 × zH} (hD : 3 ≤ F.2.1) (hL : zBlk mB mP h a) (hf : fX9_lookUnits_J212 h a x6 k0 = some y) (hM : ((.inl (some (.int y.1)), y.2) : zX) = zEnd F) : Z F 8 cX9_lookUnits RX9 "lookUnits" (some .int) [] h 212 [(0, .ref a), (6, .int x6)] [.int k0] := by
  unfold fX9_lookUnits_J212 at hf
  refine z_istore dX9_lookUnits_212 (by decide) (lc' := [(0, .ref a), (6, .int x6), (7, .int k0)]) rfl ?_
  refine z_iload 2 dX9_lookUnits_214 rfl ?_
  obtain ⟨v_8, hc_7, hf⟩ := zb1_some hf
  refine z_invSi ssX9_301 (ctX9_isLow hc_7) ⟨Nat.le_trans (by decide) hD, by decide⟩ rfl rfl (Nat.le_of_ble_eq_true rfl) dX9_lookUnits_216 ?_
  refine z_if_ne 224 dX9_lookUnits_219 rfl hf (fun _ hf => ?_) (fun _ hf => ?_)
  · refine z_aload_n 0 dX9_lookUnits_224 rfl rfl ?_
    refine z_iconst 4 dX9_lookUnits_225 rfl ?_
    obtain ⟨h_9, he, hf⟩ := zlet_some hf
    refine z_puti fdX9_292_7 (hL.t 0 rfl) (hL.nz 0) he dX9_lookUnits_226 ?_
    have hL := hL.I he
    refine z_aload_n 0 dX9_lookUnits_229 rfl rfl ?_
    refine z_ldc q1712 dX9_lookUnits_230 ?_
    refine z_iload 1 dX9_lookUnits_232 rfl ?_
    refine z_ldc q1642 dX9_lookUnits_234 ?_
    refine z_isub dX9_lookUnits_236 ?_
    refine z_bipush 10 dX9_lookUnits_237 rfl ?_
    refine z_ishl dX9_lookUnits_239 ?_
    refine z_iadd dX9_lookUnits_240 ?_
    refine z_iload 2 dX9_lookUnits_241 rfl ?_
    refine z_iadd dX9_lookUnits_243 ?_
    refine z_ldc q1724 dX9_lookUnits_244 ?_
    refine z_isub dX9_lookUnits_246 ?_
    obtain ⟨h_10, he, hf⟩ := zlet_some hf
    refine z_puti fdX9_295_7 (hL.t 0 rfl) (hL.nz 0) he dX9_lookUnits_247 ?_
    have hL := hL.I he
    refine z_iconst 2 dX9_lookUnits_250 rfl ?_
    cases hf
    exact z_iret dX9_lookUnits_251 rfl hM
  · refine z_iconst 0 dX9_lookUnits_222 rfl ?_
    cases hf
    exact z_iret dX9_lookUnits_223 rfl hM
noncomputable def fX9_lookUnits_J169 (h : zH) (a : Nat) (x1 : Int32) (x2 : Nat) (x3 : Int32) (x5 : Int32) (x6 : Int32) : Option (Int32 × zH) := if 4 ≤ x5 then (if x1 = 0 then (zck (zAr h x2 (x3 + 2)) (zck (zAr h x2 (x3 + 3)) (fX9_lookUnits_J212 h a x6 ((zI h x2 (x3 + 2).toNatClampNeg) ||| ((zI h x2 (x3 + 3).toNatClampNeg) <<< (8 &&& 31)))))) else (zck (zAr h x2 (x3 + 2)) (zck (zAr h x2 (x3 + 3)) (fX9_lookUnits_J212 h a x6 (((zI h x2 (x3 + 2).toNatClampNeg) <<< (8 &&& 31)) ||| (zI h x2 (x3 + 3).toNatClampNeg)))))) else (some ((1, h)))
theorem zX9_lookUnits_J169 {F : zF} {h : zH} {a : Nat} {x1 : Int32} {x2 : Nat} {x3 : Int32} {x5 : Int32} {x6 : Int32} {y : Int32 × zH} (hD : 3 ≤ F.2.1) (hL : zBlk mB mP h a) (hf : fX9_lookUnits_J169 h a x1 x2 x3 x5 x6 = some y) (hM : ((.inl (some (.int y.1)), y.2) : zX) = zEnd F) : Z F 8 cX9_lookUnits RX9 "lookUnits" (some .int) [] h 169 [(0, .ref a), (1, .int x1), (2, .ref x2), (3, .int x3), (5, .int x5), (6, .int x6)] [] := by
  unfold fX9_lookUnits_J169 at hf
  refine z_iload 4 dX9_lookUnits_169 rfl ?_
  refine z_iconst 4 dX9_lookUnits_171 rfl ?_
  refine z_icmp_ge 177 dX9_lookUnits_172 rfl hf (fun _ hf => ?_) (fun _ hf => ?_)
  · refine z_iload_n 1 dX9_lookUnits_177 rfl rfl ?_
    refine z_if_eq 198 dX9_lookUnits_178 rfl hf (fun _ hf => ?_) (fun _ hf => ?_)
    · refine z_aload_n 2 dX9_lookUnits_198 rfl rfl ?_
      refine z_iload_n 3 dX9_lookUnits_199 rfl rfl ?_
      refine z_iconst 2 dX9_lookUnits_200 rfl ?_
      refine z_iadd dX9_lookUnits_201 ?_
      obtain ⟨hi_5, hf⟩ := zck_some hf
      refine z_iald (zAr_t hi_5) hi_5.2 dX9_lookUnits_202 ?_
      refine z_aload_n 2 dX9_lookUnits_203 rfl rfl ?_
      refine z_iload_n 3 dX9_lookUnits_204 rfl rfl ?_
      refine z_iconst 3 dX9_lookUnits_205 rfl ?_
      refine z_iadd dX9_lookUnits_206 ?_
      obtain ⟨hi_6, hf⟩ := zck_some hf
      refine z_iald (zAr_t hi_6) hi_6.2 dX9_lookUnits_207 ?_
      refine z_bipush 8 dX9_lookUnits_208 rfl ?_
      refine z_ishl dX9_lookUnits_210 ?_
      refine z_ior dX9_lookUnits_211 ?_
      refine z_sub [0, 5] rfl ?_
      exact zX9_lookUnits_J212 hD hL hf hM
    · refine z_aload_n 2 dX9_lookUnits_181 rfl rfl ?_
      refine z_iload_n 3 dX9_lookUnits_182 rfl rfl ?_
      refine z_iconst 2 dX9_lookUnits_183 rfl ?_
      refine z_iadd dX9_lookUnits_184 ?_
      obtain ⟨hi_11, hf⟩ := zck_some hf
      refine z_iald (zAr_t hi_11) hi_11.2 dX9_lookUnits_185 ?_
      refine z_bipush 8 dX9_lookUnits_186 rfl ?_
      refine z_ishl dX9_lookUnits_188 ?_
      refine z_aload_n 2 dX9_lookUnits_189 rfl rfl ?_
      refine z_iload_n 3 dX9_lookUnits_190 rfl rfl ?_
      refine z_iconst 3 dX9_lookUnits_191 rfl ?_
      refine z_iadd dX9_lookUnits_192 ?_
      obtain ⟨hi_12, hf⟩ := zck_some hf
      refine z_iald (zAr_t hi_12) hi_12.2 dX9_lookUnits_193 ?_
      refine z_ior dX9_lookUnits_194 ?_
      refine z_goto 212 dX9_lookUnits_195 rfl ?_
      refine z_sub [0, 5] rfl ?_
      exact zX9_lookUnits_J212 hD hL hf hM
  · refine z_iconst 1 dX9_lookUnits_175 rfl ?_
    cases hf
    exact z_iret dX9_lookUnits_176 rfl hM
noncomputable def fX9_lookUnits_J149 (h : zH) (a : Nat) (x1 : Int32) (x2 : Nat) (x3 : Int32) (x5 : Int32) (x6 : Int32) : Option (Int32 × zH) := if x1 = 0 then (fX9_lookUnits_J169 h a x1 x2 x3 x5 x6) else (zck (zAr h x2 (x3 + 2)) (zb1 (fX9_isLow ((zI h x2 (x3 + 2).toNatClampNeg) <<< (8 &&& 31))) (fun v_15 => if v_15 = 0 then (some ((0, h))) else (fX9_lookUnits_J169 h a x1 x2 x3 x5 x6))))
theorem zX9_lookUnits_J149 {F : zF} {h : zH} {a : Nat} {x1 : Int32} {x2 : Nat} {x3 : Int32} {x5 : Int32} {x6 : Int32} {y : Int32 × zH} (hD : 3 ≤ F.2.1) (hL : zBlk mB mP h a) (hf : fX9_lookUnits_J149 h a x1 x2 x3 x5 x6 = some y) (hM : ((.inl (some (.int y.1)), y.2) : zX) = zEnd F) : Z F 8 cX9_lookUnits RX9 "lookUnits" (some .int) [] h 149 [(0, .ref a), (1, .int x1), (2, .ref x2), (3, .int x3), (5, .int x5), (6, .int x6)] [] := by
  unfold fX9_lookUnits_J149 at hf
  refine z_iload_n 1 dX9_lookUnits_149 rfl rfl ?_
  refine z_if_eq 169 dX9_lookUnits_150 rfl hf (fun _ hf => ?_) (fun _ hf => ?_)
  · exact zX9_lookUnits_J169 hD hL hf hM
  · refine z_aload_n 2 dX9_lookUnits_153 rfl rfl ?_
    refine z_iload_n 3 dX9_lookUnits_154 rfl rfl ?_
    refine z_iconst 2 dX9_lookUnits_155 rfl ?_
    refine z_iadd dX9_lookUnits_156 ?_
    obtain ⟨hi_13, hf⟩ := zck_some hf
    refine z_iald (zAr_t hi_13) hi_13.2 dX9_lookUnits_157 ?_
    refine z_bipush 8 dX9_lookUnits_158 rfl ?_
    refine z_ishl dX9_lookUnits_160 ?_
    obtain ⟨v_15, hc_14, hf⟩ := zb1_some hf
    refine z_invSi ssX9_301 (ctX9_isLow hc_14) ⟨Nat.le_trans (by decide) hD, by decide⟩ rfl rfl (Nat.le_of_ble_eq_true rfl) dX9_lookUnits_161 ?_
    refine z_if_ne 169 dX9_lookUnits_164 rfl hf (fun _ hf => ?_) (fun _ hf => ?_)
    · exact zX9_lookUnits_J169 hD hL hf hM
    · refine z_iconst 0 dX9_lookUnits_167 rfl ?_
      cases hf
      exact z_iret dX9_lookUnits_168 rfl hM
noncomputable def fX9_lookUnits_J92 (h : zH) (a : Nat) (x1 : Int32) (x2 : Nat) (x3 : Int32) (x5 : Int32) (x6 : Int32) : Option (Int32 × zH) := if 2 ≤ x5 then (zb1 (fX9_isLow x6) (fun v_2 => if v_2 = 0 then (zb1 (fX9_isHigh x6) (fun v_4 => if v_4 = 0 then (zlet (zsI h a 40 2) (fun h_16 => zlet (zsI h_16 a 41 x6) (fun h_17 => some ((2, h_17))))) else (if x5 < 3 then (some ((1, h))) else (if x1 = 0 then (if 4 ≤ x5 then (fX9_lookUnits_J149 h a x1 x2 x3 x5 x6) else (some ((1, h)))) else (fX9_lookUnits_J149 h a x1 x2 x3 x5 x6))))) else (some ((0, h))))) else (some ((1, h)))
theorem zX9_lookUnits_J92 {F : zF} {h : zH} {a : Nat} {x1 : Int32} {x2 : Nat} {x3 : Int32} {x5 : Int32} {x6 : Int32} {y : Int32 × zH} (hD : 3 ≤ F.2.1) (hL : zBlk mB mP h a) (hf : fX9_lookUnits_J92 h a x1 x2 x3 x5 x6 = some y) (hM : ((.inl (some (.int y.1)), y.2) : zX) = zEnd F) : Z F 8 cX9_lookUnits RX9 "lookUnits" (some .int) [] h 92 [(0, .ref a), (1, .int x1), (2, .ref x2), (3, .int x3), (5, .int x5), (6, .int x6)] [] := by
  unfold fX9_lookUnits_J92 at hf
  refine z_iload 4 dX9_lookUnits_92 rfl ?_
  refine z_iconst 2 dX9_lookUnits_94 rfl ?_
  refine z_icmp_ge 100 dX9_lookUnits_95 rfl hf (fun _ hf => ?_) (fun _ hf => ?_)
  · refine z_iload 5 dX9_lookUnits_100 rfl ?_
    obtain ⟨v_2, hc_1, hf⟩ := zb1_some hf
    refine z_invSi ssX9_301 (ctX9_isLow hc_1) ⟨Nat.le_trans (by decide) hD, by decide⟩ rfl rfl (Nat.le_of_ble_eq_true rfl) dX9_lookUnits_102 ?_
    refine z_if_eq 110 dX9_lookUnits_105 rfl hf (fun _ hf => ?_) (fun _ hf => ?_)
    · refine z_iload 5 dX9_lookUnits_110 rfl ?_
      obtain ⟨v_4, hc_3, hf⟩ := zb1_some hf
      refine z_invSi ssX9_304 (ctX9_isHigh hc_3) ⟨Nat.le_trans (by decide) hD, by decide⟩ rfl rfl (Nat.le_of_ble_eq_true rfl) dX9_lookUnits_112 ?_
      refine z_if_ne 131 dX9_lookUnits_115 rfl hf (fun _ hf => ?_) (fun _ hf => ?_)
      · refine z_iload 4 dX9_lookUnits_131 rfl ?_
        refine z_iconst 3 dX9_lookUnits_133 rfl ?_
        refine z_icmp_lt 147 dX9_lookUnits_134 rfl hf (fun _ hf => ?_) (fun _ hf => ?_)
        · refine z_iconst 1 dX9_lookUnits_147 rfl ?_
          cases hf
          exact z_iret dX9_lookUnits_148 rfl hM
        · refine z_iload_n 1 dX9_lookUnits_137 rfl rfl ?_
          refine z_if_ne 149 dX9_lookUnits_138 rfl hf (fun _ hf => ?_) (fun _ hf => ?_)
          · exact zX9_lookUnits_J149 hD hL hf hM
          · refine z_iload 4 dX9_lookUnits_141 rfl ?_
            refine z_iconst 4 dX9_lookUnits_143 rfl ?_
            refine z_icmp_ge 149 dX9_lookUnits_144 rfl hf (fun _ hf => ?_) (fun _ hf => ?_)
            · exact zX9_lookUnits_J149 hD hL hf hM
            · refine z_iconst 1 dX9_lookUnits_147 rfl ?_
              cases hf
              exact z_iret dX9_lookUnits_148 rfl hM
      · refine z_aload_n 0 dX9_lookUnits_118 rfl rfl ?_
        refine z_iconst 2 dX9_lookUnits_119 rfl ?_
        obtain ⟨h_16, he, hf⟩ := zlet_some hf
        refine z_puti fdX9_292_7 (hL.t 0 rfl) (hL.nz 0) he dX9_lookUnits_120 ?_
        have hL := hL.I he
        refine z_aload_n 0 dX9_lookUnits_123 rfl rfl ?_
        refine z_iload 5 dX9_lookUnits_124 rfl ?_
        obtain ⟨h_17, he, hf⟩ := zlet_some hf
        refine z_puti fdX9_295_7 (hL.t 0 rfl) (hL.nz 0) he dX9_lookUnits_126 ?_
        have hL := hL.I he
        refine z_iconst 2 dX9_lookUnits_129 rfl ?_
        cases hf
        exact z_iret dX9_lookUnits_130 rfl hM
    · refine z_iconst 0 dX9_lookUnits_108 rfl ?_
      cases hf
      exact z_iret dX9_lookUnits_109 rfl hM
  · refine z_iconst 1 dX9_lookUnits_98 rfl ?_
    cases hf
    exact z_iret dX9_lookUnits_99 rfl hM
noncomputable def fX9_lookUnits_J90 (h : zH) (a : Nat) (x1 : Int32) (x2 : Nat) (x3 : Int32) (x5 : Int32) (k0 : Int32) : Option (Int32 × zH) := fX9_lookUnits_J92 h a x1 x2 x3 x5 k0
theorem zX9_lookUnits_J90 {F : zF} {h : zH} {a : Nat} {x1 : Int32} {x2 : Nat} {x3 : Int32} {x5 : Int32} {k0 : Int32} {y : Int32 × zH} (hD : 3 ≤ F.2.1) (hL : zBlk mB mP h a) (hf : fX9_lookUnits_J90 h a x1 x2 x3 x5 k0 = some y) (hM : ((.inl (some (.int y.1)), y.2) : zX) = zEnd F) : Z F 8 cX9_lookUnits RX9 "lookUnits" (some .int) [] h 90 [(0, .ref a), (1, .int x1), (2, .ref x2), (3, .int x3), (5, .int x5)] [.int k0] := by
  unfold fX9_lookUnits_J90 at hf
  refine z_istore dX9_lookUnits_90 (by decide) (lc' := [(0, .ref a), (1, .int x1), (2, .ref x2), (3, .int x3), (5, .int x5), (6, .int k0)]) rfl ?_
  exact zX9_lookUnits_J92 hD hL hf hM
noncomputable def fX9_lookUnits_J32 (h : zH) (a : Nat) (x1 : Int32) (x2 : Nat) (x3 : Int32) (x5 : Int32) (k0 : Int32) : Option (Int32 × zH) := if x1 = 0 then (fX9_lookUnits_J92 h a x1 x2 x3 x5 k0) else (if x5 < 1 then (if 1 ≤ x5 then (some ((0, h))) else (some ((1, h)))) else (zck (zAr h x2 x3) (zb1 (fX9_isLow ((zI h x2 x3.toNatClampNeg) <<< (8 &&& 31))) (fun v_20 => if v_20 = 0 then (if 2 ≤ x5 then (zck (zAr h x2 x3) (zck (zAr h x2 (x3 + 1)) (fX9_lookUnits_J90 h a x1 x2 x3 x5 (((zI h x2 x3.toNatClampNeg) <<< (8 &&& 31)) ||| (zI h x2 (x3 + 1).toNatClampNeg))))) else (fX9_lookUnits_J90 h a x1 x2 x3 x5 ((-1)))) else (if 1 ≤ x5 then (some ((0, h))) else (some ((1, h))))))))
theorem zX9_lookUnits_J32 {F : zF} {h : zH} {a : Nat} {x1 : Int32} {x2 : Nat} {x3 : Int32} {x5 : Int32} {k0 : Int32} {y : Int32 × zH} (hD : 3 ≤ F.2.1) (hL : zBlk mB mP h a) (hf : fX9_lookUnits_J32 h a x1 x2 x3 x5 k0 = some y) (hM : ((.inl (some (.int y.1)), y.2) : zX) = zEnd F) : Z F 8 cX9_lookUnits RX9 "lookUnits" (some .int) [] h 32 [(0, .ref a), (1, .int x1), (2, .ref x2), (3, .int x3), (5, .int x5)] [.int k0] := by
  unfold fX9_lookUnits_J32 at hf
  refine z_istore dX9_lookUnits_32 (by decide) (lc' := [(0, .ref a), (1, .int x1), (2, .ref x2), (3, .int x3), (5, .int x5), (6, .int k0)]) rfl ?_
  refine z_iload_n 1 dX9_lookUnits_34 rfl rfl ?_
  refine z_if_eq 92 dX9_lookUnits_35 rfl hf (fun _ hf => ?_) (fun _ hf => ?_)
  · exact zX9_lookUnits_J92 hD hL hf hM
  · refine z_iload 4 dX9_lookUnits_38 rfl ?_
    refine z_iconst 1 dX9_lookUnits_40 rfl ?_
    refine z_icmp_lt 56 dX9_lookUnits_41 rfl hf (fun _ hf => ?_) (fun _ hf => ?_)
    · refine z_iload 4 dX9_lookUnits_56 rfl ?_
      refine z_iconst 1 dX9_lookUnits_58 rfl ?_
      refine z_icmp_ge 66 dX9_lookUnits_59 rfl hf (fun _ hf => ?_) (fun _ hf => ?_)
      · refine z_iconst 0 dX9_lookUnits_66 rfl ?_
        cases hf
        exact z_iret dX9_lookUnits_67 rfl hM
      · refine z_iconst 1 dX9_lookUnits_62 rfl ?_
        refine z_goto 67 dX9_lookUnits_63 rfl ?_
        cases hf
        exact z_iret dX9_lookUnits_67 rfl hM
    · refine z_aload_n 2 dX9_lookUnits_44 rfl rfl ?_
      refine z_iload_n 3 dX9_lookUnits_45 rfl rfl ?_
      obtain ⟨hi_18, hf⟩ := zck_some hf
      refine z_iald (zAr_t hi_18) hi_18.2 dX9_lookUnits_46 ?_
      refine z_bipush 8 dX9_lookUnits_47 rfl ?_
      refine z_ishl dX9_lookUnits_49 ?_
      obtain ⟨v_20, hc_19, hf⟩ := zb1_some hf
      refine z_invSi ssX9_301 (ctX9_isLow hc_19) ⟨Nat.le_trans (by decide) hD, by decide⟩ rfl rfl (Nat.le_of_ble_eq_true rfl) dX9_lookUnits_50 ?_
      refine z_if_eq 68 dX9_lookUnits_53 rfl hf (fun _ hf => ?_) (fun _ hf => ?_)
      · refine z_iload 4 dX9_lookUnits_68 rfl ?_
        refine z_iconst 2 dX9_lookUnits_70 rfl ?_
        refine z_icmp_ge 78 dX9_lookUnits_71 rfl hf (fun _ hf => ?_) (fun _ hf => ?_)
        · refine z_aload_n 2 dX9_lookUnits_78 rfl rfl ?_
          refine z_iload_n 3 dX9_lookUnits_79 rfl rfl ?_
          obtain ⟨hi_21, hf⟩ := zck_some hf
          refine z_iald (zAr_t hi_21) hi_21.2 dX9_lookUnits_80 ?_
          refine z_bipush 8 dX9_lookUnits_81 rfl ?_
          refine z_ishl dX9_lookUnits_83 ?_
          refine z_aload_n 2 dX9_lookUnits_84 rfl rfl ?_
          refine z_iload_n 3 dX9_lookUnits_85 rfl rfl ?_
          refine z_iconst 1 dX9_lookUnits_86 rfl ?_
          refine z_iadd dX9_lookUnits_87 ?_
          obtain ⟨hi_22, hf⟩ := zck_some hf
          refine z_iald (zAr_t hi_22) hi_22.2 dX9_lookUnits_88 ?_
          refine z_ior dX9_lookUnits_89 ?_
          refine z_sub [0, 1, 2, 3, 4] rfl ?_
          exact zX9_lookUnits_J90 hD hL hf hM
        · refine z_iconst (-1) dX9_lookUnits_74 rfl ?_
          refine z_goto 90 dX9_lookUnits_75 rfl ?_
          refine z_sub [0, 1, 2, 3, 4] rfl ?_
          exact zX9_lookUnits_J90 hD hL hf hM
      · refine z_iload 4 dX9_lookUnits_56 rfl ?_
        refine z_iconst 1 dX9_lookUnits_58 rfl ?_
        refine z_icmp_ge 66 dX9_lookUnits_59 rfl hf (fun _ hf => ?_) (fun _ hf => ?_)
        · refine z_iconst 0 dX9_lookUnits_66 rfl ?_
          cases hf
          exact z_iret dX9_lookUnits_67 rfl hM
        · refine z_iconst 1 dX9_lookUnits_62 rfl ?_
          refine z_goto 67 dX9_lookUnits_63 rfl ?_
          cases hf
          exact z_iret dX9_lookUnits_67 rfl hM
noncomputable def fX9_lookUnits_J16 (h : zH) (a : Nat) (x1 : Int32) (x2 : Nat) (x3 : Int32) (x5 : Int32) : Option (Int32 × zH) := fX9_lookUnits_J32 h a x1 x2 x3 x5 ((-1))
theorem zX9_lookUnits_J16 {F : zF} {h : zH} {a : Nat} {x1 : Int32} {x2 : Nat} {x3 : Int32} {x5 : Int32} {y : Int32 × zH} (hD : 3 ≤ F.2.1) (hL : zBlk mB mP h a) (hf : fX9_lookUnits_J16 h a x1 x2 x3 x5 = some y) (hM : ((.inl (some (.int y.1)), y.2) : zX) = zEnd F) : Z F 8 cX9_lookUnits RX9 "lookUnits" (some .int) [] h 16 [(0, .ref a), (1, .int x1), (2, .ref x2), (3, .int x3), (5, .int x5)] [] := by
  unfold fX9_lookUnits_J16 at hf
  refine z_iconst (-1) dX9_lookUnits_16 rfl ?_
  refine z_goto 32 dX9_lookUnits_17 rfl ?_
  exact zX9_lookUnits_J32 hD hL hf hM
noncomputable def fX9_lookUnits (h : zH) (a : Nat) (x1 : Int32) (x2 : Nat) (x3 : Int32) (x4 : Int32) : Option (Int32 × zH) := if x1 = 0 then (if 2 ≤ (x4 - x3) then (zck (zAr h x2 x3) (zck (zAr h x2 (x3 + 1)) (fX9_lookUnits_J32 h a x1 x2 x3 (x4 - x3) ((zI h x2 x3.toNatClampNeg) ||| ((zI h x2 (x3 + 1).toNatClampNeg) <<< (8 &&& 31)))))) else (fX9_lookUnits_J16 h a x1 x2 x3 (x4 - x3))) else (fX9_lookUnits_J16 h a x1 x2 x3 (x4 - x3))
theorem zX9_lookUnits {F : zF} {h : zH} {a : Nat} {x1 : Int32} {x2 : Nat} {x3 : Int32} {x4 : Int32} {y : Int32 × zH} (hD : 3 ≤ F.2.1) (hL : zBlk mB mP h a) (hf : fX9_lookUnits h a x1 x2 x3 x4 = some y) (hM : ((.inl (some (.int y.1)), y.2) : zX) = zEnd F) : Z F 8 cX9_lookUnits RX9 "lookUnits" (some .int) [] h 0 [(0, .ref a), (1, .int x1), (2, .ref x2), (3, .int x3), (4, .int x4)] [] := by
  unfold fX9_lookUnits at hf
  refine z_iload 4 dX9_lookUnits_0 rfl ?_
  refine z_iload_n 3 dX9_lookUnits_2 rfl rfl ?_
  refine z_isub dX9_lookUnits_3 ?_
  refine z_istore dX9_lookUnits_4 (by decide) (lc' := [(0, .ref a), (1, .int x1), (2, .ref x2), (3, .int x3), (4, .int x4), (5, .int (x4 - x3))]) rfl ?_
  refine z_iload_n 1 dX9_lookUnits_6 rfl rfl ?_
  refine z_if_ne 16 dX9_lookUnits_7 rfl hf (fun _ hf => ?_) (fun _ hf => ?_)
  · refine z_sub [0, 1, 2, 3, 5] rfl ?_
    exact zX9_lookUnits_J16 hD hL hf hM
  · refine z_iload 5 dX9_lookUnits_10 rfl ?_
    refine z_iconst 2 dX9_lookUnits_12 rfl ?_
    refine z_icmp_ge 20 dX9_lookUnits_13 rfl hf (fun _ hf => ?_) (fun _ hf => ?_)
    · refine z_aload_n 2 dX9_lookUnits_20 rfl rfl ?_
      refine z_iload_n 3 dX9_lookUnits_21 rfl rfl ?_
      obtain ⟨hi_23, hf⟩ := zck_some hf
      refine z_iald (zAr_t hi_23) hi_23.2 dX9_lookUnits_22 ?_
      refine z_aload_n 2 dX9_lookUnits_23 rfl rfl ?_
      refine z_iload_n 3 dX9_lookUnits_24 rfl rfl ?_
      refine z_iconst 1 dX9_lookUnits_25 rfl ?_
      refine z_iadd dX9_lookUnits_26 ?_
      obtain ⟨hi_24, hf⟩ := zck_some hf
      refine z_iald (zAr_t hi_24) hi_24.2 dX9_lookUnits_27 ?_
      refine z_bipush 8 dX9_lookUnits_28 rfl ?_
      refine z_ishl dX9_lookUnits_30 ?_
      refine z_ior dX9_lookUnits_31 ?_
      refine z_sub [0, 1, 2, 3, 5] rfl ?_
      exact zX9_lookUnits_J32 hD hL hf hM
    · refine z_sub [0, 1, 2, 3, 5] rfl ?_
      exact zX9_lookUnits_J16 hD hL hf hM
theorem ctX9_lookUnits {l : Launch} {h : zH} {a : Nat} {x1 : Int32} {x2 : Nat} {x3 : Int32} {x4 : Int32} {v : Int32} {h' : zH} (hL : zBlk mB mP h a) (hf : fX9_lookUnits h a x1 x2 x3 x4 = some (v, h')) : zC l yX9_lookUnits (ws_ yX9_lookUnits cX9_lookUnits 8 (some .int)) 3 [.ref a, .int x1, .ref x2, .int x3, .int x4] h (.inl (some (.int v)), h') :=
  z_start (by decide) (Nat.le_of_ble_eq_true rfl) (zX9_lookUnits (F := (l, 3, h, (.inl (some (.int v)), h'))) (Nat.le_refl _) hL hf rfl)
theorem fdX9_286_7 : zFd RX9 286 7 35 .int false := ⟨_, _, _, rfl, rfl, by decide, rfl, rfl, Or.inl q1427, Or.inl rfl⟩
noncomputable def fX9_look_L125 (h : zH) (a : Nat) (x1 : Int32) (x2 : Nat) (x3 : Int32) (x4 : Int32) (x5 : Int32) (x6 : Int32) (x7 : Int32) (x8 : Int32) (x9 : Int32) : Option ((Int32) ⊕ (Int32)) := if x8 ≤ x9 then (some (.inr x9)) else (if x4 ≤ (x3 + x9) then (some (.inr x9)) else (zck (zAr h x2 (x3 + x9)) (zck (vp_in x7 1100) (if (zI h x2 (x3 + x9).toNatClampNeg) = (((zI h (a + 7) x7.toNatClampNeg) >>> (((8 : Int32) * ((x8 - 1) - x9)) &&& 31)) &&& 255) then (some (.inl (x9 + 1))) else (some (.inr x9))))))
theorem zX9_look_L125 {F : zF} {h : zH} {a : Nat} {x1 : Int32} {x2 : Nat} {x3 : Int32} {x4 : Int32} {x5 : Int32} {x6 : Int32} {x7 : Int32} {x8 : Int32} {x9 : Int32} {y : (Int32) ⊕ (Int32)} (hD : 4 ≤ F.2.1) (hL : zBlk mB mP h a) (hf : fX9_look_L125 h a x1 x2 x3 x4 x5 x6 x7 x8 x9 = some y) (hM : ((∀ s' : Int32, y = .inl s' → Z F 10 cX9_look RX9 "look" (some .int) [] h 125 [(0, .ref a), (1, .int x1), (2, .ref x2), (3, .int x3), (4, .int x4), (5, .int x5), (6, .int x6), (7, .int x7), (8, .int x8), (9, .int s')] []) ∧ ∀ r : Int32, y = .inr r → Z F 10 cX9_look RX9 "look" (some .int) [] h 178 [(0, .ref a), (1, .int x1), (2, .ref x2), (3, .int x3), (4, .int x4), (5, .int x5), (6, .int x6), (7, .int x7), (8, .int x8), (9, .int r)] [])) : Z F 10 cX9_look RX9 "look" (some .int) [] h 125 [(0, .ref a), (1, .int x1), (2, .ref x2), (3, .int x3), (4, .int x4), (5, .int x5), (6, .int x6), (7, .int x7), (8, .int x8), (9, .int x9)] [] := by
  unfold fX9_look_L125 at hf
  refine z_iload 9 dX9_look_125 rfl ?_
  refine z_iload 8 dX9_look_127 rfl ?_
  refine z_icmp_ge 178 dX9_look_129 rfl hf (fun _ hf => ?_) (fun _ hf => ?_)
  · cases hf
    exact (hM.2 _ rfl)
  · refine z_iload_n 3 dX9_look_132 rfl rfl ?_
    refine z_iload 9 dX9_look_133 rfl ?_
    refine z_iadd dX9_look_135 ?_
    refine z_iload 4 dX9_look_136 rfl ?_
    refine z_icmp_ge 178 dX9_look_138 rfl hf (fun _ hf => ?_) (fun _ hf => ?_)
    · cases hf
      exact (hM.2 _ rfl)
    · refine z_aload_n 2 dX9_look_141 rfl rfl ?_
      refine z_iload_n 3 dX9_look_142 rfl rfl ?_
      refine z_iload 9 dX9_look_143 rfl ?_
      refine z_iadd dX9_look_145 ?_
      obtain ⟨hi_6, hf⟩ := zck_some hf
      refine z_iald (zAr_t hi_6) hi_6.2 dX9_look_146 ?_
      refine z_aload_n 0 dX9_look_147 rfl rfl ?_
      refine z_getr fdX9_29_7 (Or.inr ⟨_, rfl⟩) (hL.t 0 rfl) (hL.p 6 rfl) dX9_look_148 ?_
      refine z_iload 7 dX9_look_151 rfl ?_
      obtain ⟨hi_7, hf⟩ := zck_some hf
      refine z_iald (hL.t 7 rfl) hi_7 dX9_look_153 ?_
      refine z_bipush 8 dX9_look_154 rfl ?_
      refine z_iload 8 dX9_look_156 rfl ?_
      refine z_iconst 1 dX9_look_158 rfl ?_
      refine z_isub dX9_look_159 ?_
      refine z_iload 9 dX9_look_160 rfl ?_
      refine z_isub dX9_look_162 ?_
      refine z_imul dX9_look_163 ?_
      refine z_ishr dX9_look_164 ?_
      refine z_sipush 255 dX9_look_165 rfl ?_
      refine z_iand dX9_look_168 ?_
      refine z_icmp_ne 178 dX9_look_169 rfl hf (fun _ hf => ?_) (fun _ hf => ?_)
      · cases hf
        exact (hM.2 _ rfl)
      · refine z_iinc 9 (x9 + 1) dX9_look_172 rfl rfl (by decide) (lc' := [(0, .ref a), (1, .int x1), (2, .ref x2), (3, .int x3), (4, .int x4), (5, .int x5), (6, .int x6), (7, .int x7), (8, .int x8), (9, .int (x9 + 1))]) rfl ?_
        refine z_goto 125 dX9_look_175 rfl ?_
        cases hf
        exact (hM.1 _ rfl)
noncomputable def fX9_look_J178 (h : zH) (a : Nat) (x1 : Int32) (x2 : Nat) (x3 : Int32) (x4 : Int32) (x5 : Int32) (x6 : Int32) (x7 : Int32) (x8 : Int32) (x9 : Int32) : Option ((Int32 × Int32) ⊕ ((Int32) ⊕ (Int32 × zH))) := if x9 = x8 then (zlet (zsI h a 40 x8) (fun h_9 => zck (vp_in x7 1100) (zlet (zsI h_9 a 41 (zI h_9 (a + 8) x7.toNatClampNeg)) (fun h_11 => some (.inr (.inr ((2, h_11)))))))) else (if x6 = 0 then (if (x3 + x9) = x4 then (some (.inl ((1, x7 + 1)))) else (some (.inl ((0, x7 + 1))))) else (some (.inl ((1, x7 + 1)))))
theorem zX9_look_J178 {F : zF} {h : zH} {a : Nat} {x1 : Int32} {x2 : Nat} {x3 : Int32} {x4 : Int32} {x5 : Int32} {x6 : Int32} {x7 : Int32} {x8 : Int32} {x9 : Int32} {y : (Int32 × Int32) ⊕ ((Int32) ⊕ (Int32 × zH))} (hD : 4 ≤ F.2.1) (hL : zBlk mB mP h a) (hf : fX9_look_J178 h a x1 x2 x3 x4 x5 x6 x7 x8 x9 = some y) (hM : ((∀ s' : Int32 × Int32, y = .inl s' → Z F 10 cX9_look RX9 "look" (some .int) [] h 82 [(0, .ref a), (1, .int x1), (2, .ref x2), (3, .int x3), (4, .int x4), (5, .int x5), (6, .int s'.1), (7, .int s'.2)] []) ∧ ∀ r : (Int32) ⊕ (Int32 × zH), y = .inr r → (match r with | .inl t => Z F 10 cX9_look RX9 "look" (some .int) [] h 231 [(0, .ref a), (1, .int x1), (2, .ref x2), (3, .int x3), (4, .int x4), (5, .int x5), (6, .int t)] [] | .inr z => ((.inl (some (.int z.1)), z.2) : zX) = zEnd F))) : Z F 10 cX9_look RX9 "look" (some .int) [] h 178 [(0, .ref a), (1, .int x1), (2, .ref x2), (3, .int x3), (4, .int x4), (5, .int x5), (6, .int x6), (7, .int x7), (8, .int x8), (9, .int x9)] [] := by
  unfold fX9_look_J178 at hf
  refine z_iload 9 dX9_look_178 rfl ?_
  refine z_iload 8 dX9_look_180 rfl ?_
  refine z_icmp_ne 204 dX9_look_182 rfl hf (fun _ hf => ?_) (fun _ hf => ?_)
  · refine z_iload 6 dX9_look_204 rfl ?_
    refine z_if_ne 218 dX9_look_206 rfl hf (fun _ hf => ?_) (fun _ hf => ?_)
    · refine z_iconst 1 dX9_look_218 rfl ?_
      refine z_goto 223 dX9_look_219 rfl ?_
      refine z_istore dX9_look_223 (by decide) (lc' := [(0, .ref a), (1, .int x1), (2, .ref x2), (3, .int x3), (4, .int x4), (5, .int x5), (6, .int 1), (7, .int x7), (8, .int x8), (9, .int x9)]) rfl ?_
      refine z_iinc 7 (x7 + 1) dX9_look_225 rfl rfl (by decide) (lc' := [(0, .ref a), (1, .int x1), (2, .ref x2), (3, .int x3), (4, .int x4), (5, .int x5), (6, .int 1), (7, .int (x7 + 1)), (8, .int x8), (9, .int x9)]) rfl ?_
      refine z_goto 82 dX9_look_228 rfl ?_
      cases hf
      refine z_sub [0, 1, 2, 3, 4, 5, 6, 7] rfl ?_
      exact (hM.1 _ rfl)
    · refine z_iload_n 3 dX9_look_209 rfl rfl ?_
      refine z_iload 9 dX9_look_210 rfl ?_
      refine z_iadd dX9_look_212 ?_
      refine z_iload 4 dX9_look_213 rfl ?_
      refine z_icmp_ne 222 dX9_look_215 rfl hf (fun _ hf => ?_) (fun _ hf => ?_)
      · refine z_iconst 0 dX9_look_222 rfl ?_
        refine z_istore dX9_look_223 (by decide) (lc' := [(0, .ref a), (1, .int x1), (2, .ref x2), (3, .int x3), (4, .int x4), (5, .int x5), (6, .int 0), (7, .int x7), (8, .int x8), (9, .int x9)]) rfl ?_
        refine z_iinc 7 (x7 + 1) dX9_look_225 rfl rfl (by decide) (lc' := [(0, .ref a), (1, .int x1), (2, .ref x2), (3, .int x3), (4, .int x4), (5, .int x5), (6, .int 0), (7, .int (x7 + 1)), (8, .int x8), (9, .int x9)]) rfl ?_
        refine z_goto 82 dX9_look_228 rfl ?_
        cases hf
        refine z_sub [0, 1, 2, 3, 4, 5, 6, 7] rfl ?_
        exact (hM.1 _ rfl)
      · refine z_iconst 1 dX9_look_218 rfl ?_
        refine z_goto 223 dX9_look_219 rfl ?_
        refine z_istore dX9_look_223 (by decide) (lc' := [(0, .ref a), (1, .int x1), (2, .ref x2), (3, .int x3), (4, .int x4), (5, .int x5), (6, .int 1), (7, .int x7), (8, .int x8), (9, .int x9)]) rfl ?_
        refine z_iinc 7 (x7 + 1) dX9_look_225 rfl rfl (by decide) (lc' := [(0, .ref a), (1, .int x1), (2, .ref x2), (3, .int x3), (4, .int x4), (5, .int x5), (6, .int 1), (7, .int (x7 + 1)), (8, .int x8), (9, .int x9)]) rfl ?_
        refine z_goto 82 dX9_look_228 rfl ?_
        cases hf
        refine z_sub [0, 1, 2, 3, 4, 5, 6, 7] rfl ?_
        exact (hM.1 _ rfl)
  · refine z_aload_n 0 dX9_look_185 rfl rfl ?_
    refine z_iload 8 dX9_look_186 rfl ?_
    obtain ⟨h_9, he, hf⟩ := zlet_some hf
    refine z_puti fdX9_292_7 (hL.t 0 rfl) (hL.nz 0) he dX9_look_188 ?_
    have hL := hL.I he
    refine z_aload_n 0 dX9_look_191 rfl rfl ?_
    refine z_aload_n 0 dX9_look_192 rfl rfl ?_
    refine z_getr fdX9_32_7 (Or.inr ⟨_, rfl⟩) (hL.t 0 rfl) (hL.p 7 rfl) dX9_look_193 ?_
    refine z_iload 7 dX9_look_196 rfl ?_
    obtain ⟨hi_10, hf⟩ := zck_some hf
    refine z_iald (hL.t 8 rfl) hi_10 dX9_look_198 ?_
    obtain ⟨h_11, he, hf⟩ := zlet_some hf
    refine z_puti fdX9_295_7 (hL.t 0 rfl) (hL.nz 0) he dX9_look_199 ?_
    have hL := hL.I he
    refine z_iconst 2 dX9_look_202 rfl ?_
    cases hf
    exact z_iret dX9_look_203 rfl (hM.2 _ rfl)
noncomputable def fX9_look_L82 (h : zH) (a : Nat) (x1 : Int32) (x2 : Nat) (x3 : Int32) (x4 : Int32) (x5 : Int32) (x6 : Int32) (x7 : Int32) : Option ((Int32 × Int32) ⊕ ((Int32) ⊕ (Int32 × zH))) := zck (vp_in x1 11) (if (((100 : Int32) * x1) + (zI h (a + 3) x1.toNatClampNeg)) ≤ x7 then (some (.inr (.inl x6))) else (zck (vp_in x7 1100) (if (zI h (a + 5) x7.toNatClampNeg) = x5 then (zck (vp_in x7 1100) (zb1 (zlp (fun s => fX9_look_L125 h a x1 x2 x3 x4 x5 x6 x7 (zI h (a + 6) x7.toNatClampNeg) s) 0) (fun t_8 => fX9_look_J178 h a x1 x2 x3 x4 x5 x6 x7 (zI h (a + 6) x7.toNatClampNeg) t_8))) else (some (.inl ((x6, x7 + 1)))))))
theorem zX9_look_L82 {F : zF} {h : zH} {a : Nat} {x1 : Int32} {x2 : Nat} {x3 : Int32} {x4 : Int32} {x5 : Int32} {x6 : Int32} {x7 : Int32} {y : (Int32 × Int32) ⊕ ((Int32) ⊕ (Int32 × zH))} (hD : 4 ≤ F.2.1) (hL : zBlk mB mP h a) (hf : fX9_look_L82 h a x1 x2 x3 x4 x5 x6 x7 = some y) (hM : ((∀ s' : Int32 × Int32, y = .inl s' → Z F 10 cX9_look RX9 "look" (some .int) [] h 82 [(0, .ref a), (1, .int x1), (2, .ref x2), (3, .int x3), (4, .int x4), (5, .int x5), (6, .int s'.1), (7, .int s'.2)] []) ∧ ∀ r : (Int32) ⊕ (Int32 × zH), y = .inr r → (match r with | .inl t => Z F 10 cX9_look RX9 "look" (some .int) [] h 231 [(0, .ref a), (1, .int x1), (2, .ref x2), (3, .int x3), (4, .int x4), (5, .int x5), (6, .int t)] [] | .inr z => ((.inl (some (.int z.1)), z.2) : zX) = zEnd F))) : Z F 10 cX9_look RX9 "look" (some .int) [] h 82 [(0, .ref a), (1, .int x1), (2, .ref x2), (3, .int x3), (4, .int x4), (5, .int x5), (6, .int x6), (7, .int x7)] [] := by
  unfold fX9_look_L82 at hf
  refine z_iload 7 dX9_look_82 rfl ?_
  refine z_bipush 100 dX9_look_84 rfl ?_
  refine z_iload_n 1 dX9_look_86 rfl rfl ?_
  refine z_imul dX9_look_87 ?_
  refine z_aload_n 0 dX9_look_88 rfl rfl ?_
  refine z_getr fdX9_17_7 (Or.inr ⟨_, rfl⟩) (hL.t 0 rfl) (hL.p 2 rfl) dX9_look_89 ?_
  refine z_iload_n 1 dX9_look_92 rfl rfl ?_
  obtain ⟨hi_3, hf⟩ := zck_some hf
  refine z_iald (hL.t 3 rfl) hi_3 dX9_look_93 ?_
  refine z_iadd dX9_look_94 ?_
  refine z_icmp_ge 231 dX9_look_95 rfl hf (fun _ hf => ?_) (fun _ hf => ?_)
  · cases hf
    refine z_sub [0, 1, 2, 3, 4, 5, 6] rfl ?_
    exact (hM.2 _ rfl)
  · refine z_aload_n 0 dX9_look_98 rfl rfl ?_
    refine z_getr fdX9_23_7 (Or.inr ⟨_, rfl⟩) (hL.t 0 rfl) (hL.p 4 rfl) dX9_look_99 ?_
    refine z_iload 7 dX9_look_102 rfl ?_
    obtain ⟨hi_4, hf⟩ := zck_some hf
    refine z_iald (hL.t 5 rfl) hi_4 dX9_look_104 ?_
    refine z_iload 5 dX9_look_105 rfl ?_
    refine z_icmp_eq 113 dX9_look_107 rfl hf (fun _ hf => ?_) (fun _ hf => ?_)
    · refine z_aload_n 0 dX9_look_113 rfl rfl ?_
      refine z_getr fdX9_26_7 (Or.inr ⟨_, rfl⟩) (hL.t 0 rfl) (hL.p 5 rfl) dX9_look_114 ?_
      refine z_iload 7 dX9_look_117 rfl ?_
      obtain ⟨hi_5, hf⟩ := zck_some hf
      refine z_iald (hL.t 6 rfl) hi_5 dX9_look_119 ?_
      refine z_istore dX9_look_120 (by decide) (lc' := [(0, .ref a), (1, .int x1), (2, .ref x2), (3, .int x3), (4, .int x4), (5, .int x5), (6, .int x6), (7, .int x7), (8, .int (zI h (a + 6) x7.toNatClampNeg))]) rfl ?_
      refine z_iconst 0 dX9_look_122 rfl ?_
      refine z_istore dX9_look_123 (by decide) (lc' := [(0, .ref a), (1, .int x1), (2, .ref x2), (3, .int x3), (4, .int x4), (5, .int x5), (6, .int x6), (7, .int x7), (8, .int (zI h (a + 6) x7.toNatClampNeg)), (9, .int 0)]) rfl ?_
      obtain ⟨t_8, hl, hf⟩ := zb1_some hf
      refine z_loop (fun (s : Int32) => Z F 10 cX9_look RX9 "look" (some .int) [] h 125 [(0, .ref a), (1, .int x1), (2, .ref x2), (3, .int x3), (4, .int x4), (5, .int x5), (6, .int x6), (7, .int x7), (8, .int (zI h (a + 6) x7.toNatClampNeg)), (9, .int s)] []) (fun (r : Int32) => Z F 10 cX9_look RX9 "look" (some .int) [] h 178 [(0, .ref a), (1, .int x1), (2, .ref x2), (3, .int x3), (4, .int x4), (5, .int x5), (6, .int x6), (7, .int x7), (8, .int (zI h (a + 6) x7.toNatClampNeg)), (9, .int r)] []) (fun s y hb hs hr => zX9_look_L125 hD hL hb ⟨hs, hr⟩) hl ?_
      show Z F 10 cX9_look RX9 "look" (some .int) [] h 178 [(0, .ref a), (1, .int x1), (2, .ref x2), (3, .int x3), (4, .int x4), (5, .int x5), (6, .int x6), (7, .int x7), (8, .int (zI h (a + 6) x7.toNatClampNeg)), (9, .int t_8)] []
      exact zX9_look_J178 hD hL hf hM
    · refine z_goto 225 dX9_look_110 rfl ?_
      refine z_iinc 7 (x7 + 1) dX9_look_225 rfl rfl (by decide) (lc' := [(0, .ref a), (1, .int x1), (2, .ref x2), (3, .int x3), (4, .int x4), (5, .int x5), (6, .int x6), (7, .int (x7 + 1))]) rfl ?_
      refine z_goto 82 dX9_look_228 rfl ?_
      cases hf
      exact (hM.1 _ rfl)
theorem fdX9_298_7 : zFd RX9 298 7 42 .int false := ⟨_, _, _, rfl, rfl, by decide, rfl, rfl, Or.inl q1434, Or.inl rfl⟩
noncomputable def fX9_look_J259 (h : zH) (a : Nat) (x6 : Int32) : Option (Int32 × zH) := zlet (zsI h a 42 ((-1))) (fun h_13 => if (zI h_13 a 42) < 0 then (if x6 = 0 then (some ((0, h_13))) else (some ((1, h_13)))) else (some ((3, h_13))))
theorem zX9_look_J259 {F : zF} {h : zH} {a : Nat} {x6 : Int32} {y : Int32 × zH} (hD : 4 ≤ F.2.1) (hL : zBlk mB mP h a) (hf : fX9_look_J259 h a x6 = some y) (hM : ((.inl (some (.int y.1)), y.2) : zX) = zEnd F) : Z F 10 cX9_look RX9 "look" (some .int) [] h 259 [(0, .ref a), (6, .int x6)] [.ref a] := by
  unfold fX9_look_J259 at hf
  refine z_iconst (-1) dX9_look_259 rfl ?_
  obtain ⟨h_13, he, hf⟩ := zlet_some hf
  refine z_puti fdX9_298_7 (hL.t 0 rfl) (hL.nz 0) he dX9_look_260 ?_
  have hL := hL.I he
  refine z_aload_n 0 dX9_look_263 rfl rfl ?_
  refine z_geti fdX9_298_7 (hL.t 0 rfl) dX9_look_264 ?_
  refine z_if_lt 274 dX9_look_267 rfl hf (fun _ hf => ?_) (fun _ hf => ?_)
  · refine z_iload 1 dX9_look_274 rfl ?_
    refine z_if_eq 283 dX9_look_276 rfl hf (fun _ hf => ?_) (fun _ hf => ?_)
    · refine z_iconst 0 dX9_look_283 rfl ?_
      cases hf
      exact z_iret dX9_look_284 rfl hM
    · refine z_iconst 1 dX9_look_279 rfl ?_
      refine z_goto 284 dX9_look_280 rfl ?_
      cases hf
      exact z_iret dX9_look_284 rfl hM
  · refine z_iconst 3 dX9_look_270 rfl ?_
    refine z_goto 284 dX9_look_271 rfl ?_
    cases hf
    exact z_iret dX9_look_284 rfl hM
noncomputable def fX9_look_J71 (h : zH) (a : Nat) (x1 : Int32) (x2 : Nat) (x3 : Int32) (x4 : Int32) (k0 : Int32) : Option (Int32 × zH) := zlx (zlp (fun s => fX9_look_L82 h a x1 x2 x3 x4 k0 s.1 s.2) (0, (100 : Int32) * x1)) (fun t_12 => if (zI h a 35) = 4 then (if x4 ≤ x3 then (fX9_look_J259 h a t_12) else (zck (zAr h x2 x3) (zb1 (fX9_shiftOf h a x1 k0 (zI h x2 x3.toNatClampNeg)) (fun v_16 => zlet (zsI h a 42 v_16) (fun h_17 => if (zI h_17 a 42) < 0 then (if t_12 = 0 then (some ((0, h_17))) else (some ((1, h_17)))) else (some ((3, h_17)))))))) else (fX9_look_J259 h a t_12))
theorem zX9_look_J71 {F : zF} {h : zH} {a : Nat} {x1 : Int32} {x2 : Nat} {x3 : Int32} {x4 : Int32} {k0 : Int32} {y : Int32 × zH} (hD : 4 ≤ F.2.1) (hL : zBlk mB mP h a) (hf : fX9_look_J71 h a x1 x2 x3 x4 k0 = some y) (hM : ((.inl (some (.int y.1)), y.2) : zX) = zEnd F) : Z F 10 cX9_look RX9 "look" (some .int) [] h 71 [(0, .ref a), (1, .int x1), (2, .ref x2), (3, .int x3), (4, .int x4)] [.int k0] := by
  unfold fX9_look_J71 at hf
  refine z_istore dX9_look_71 (by decide) (lc' := [(0, .ref a), (1, .int x1), (2, .ref x2), (3, .int x3), (4, .int x4), (5, .int k0)]) rfl ?_
  refine z_iconst 0 dX9_look_73 rfl ?_
  refine z_istore dX9_look_74 (by decide) (lc' := [(0, .ref a), (1, .int x1), (2, .ref x2), (3, .int x3), (4, .int x4), (5, .int k0), (6, .int 0)]) rfl ?_
  refine z_bipush 100 dX9_look_76 rfl ?_
  refine z_iload_n 1 dX9_look_78 rfl rfl ?_
  refine z_imul dX9_look_79 ?_
  refine z_istore dX9_look_80 (by decide) (lc' := [(0, .ref a), (1, .int x1), (2, .ref x2), (3, .int x3), (4, .int x4), (5, .int k0), (6, .int 0), (7, .int ((100 : Int32) * x1))]) rfl ?_
  obtain ⟨rr, hl, hf⟩ := zlx_some hf
  refine z_loop (fun (s : Int32 × Int32) => Z F 10 cX9_look RX9 "look" (some .int) [] h 82 [(0, .ref a), (1, .int x1), (2, .ref x2), (3, .int x3), (4, .int x4), (5, .int k0), (6, .int s.1), (7, .int s.2)] []) (fun (r : (Int32) ⊕ (Int32 × zH)) => (match r with | .inl t => Z F 10 cX9_look RX9 "look" (some .int) [] h 231 [(0, .ref a), (1, .int x1), (2, .ref x2), (3, .int x3), (4, .int x4), (5, .int k0), (6, .int t)] [] | .inr z => ((.inl (some (.int z.1)), z.2) : zX) = zEnd F)) (fun s y hb hs hr => zX9_look_L82 hD hL hb ⟨hs, hr⟩) hl ?_
  rcases hf with ⟨t_12, rfl, hf⟩ | rfl
  · show Z F 10 cX9_look RX9 "look" (some .int) [] h 231 [(0, .ref a), (1, .int x1), (2, .ref x2), (3, .int x3), (4, .int x4), (5, .int k0), (6, .int t_12)] []
    refine z_aload_n 0 dX9_look_231 rfl rfl ?_
    refine z_aload_n 0 dX9_look_232 rfl rfl ?_
    refine z_geti fdX9_286_7 (hL.t 0 rfl) dX9_look_233 ?_
    refine z_iconst 4 dX9_look_236 rfl ?_
    refine z_icmp_ne 259 dX9_look_237 rfl hf (fun _ hf => ?_) (fun _ hf => ?_)
    · refine z_sub [0, 6] rfl ?_
      exact zX9_look_J259 hD hL hf hM
    · refine z_iload_n 3 dX9_look_240 rfl rfl ?_
      refine z_iload 4 dX9_look_241 rfl ?_
      refine z_icmp_ge 259 dX9_look_243 rfl hf (fun _ hf => ?_) (fun _ hf => ?_)
      · refine z_sub [0, 6] rfl ?_
        exact zX9_look_J259 hD hL hf hM
      · refine z_aload_n 0 dX9_look_246 rfl rfl ?_
        refine z_iload_n 1 dX9_look_247 rfl rfl ?_
        refine z_iload 5 dX9_look_248 rfl ?_
        refine z_aload_n 2 dX9_look_250 rfl rfl ?_
        refine z_iload_n 3 dX9_look_251 rfl rfl ?_
        obtain ⟨hi_14, hf⟩ := zck_some hf
        refine z_iald (zAr_t hi_14) hi_14.2 dX9_look_252 ?_
        obtain ⟨v_16, hc_15, hf⟩ := zb1_some hf
        refine z_invVi svX9_194_7 (ctX9_shiftOf hL hc_15) (hL.t 0 rfl) ⟨Nat.le_trans (by decide) hD, by decide⟩ rfl rfl (Nat.le_of_ble_eq_true rfl) dX9_look_253 ?_
        refine z_goto 260 dX9_look_256 rfl ?_
        obtain ⟨h_17, he, hf⟩ := zlet_some hf
        refine z_puti fdX9_298_7 (hL.t 0 rfl) (hL.nz 0) he dX9_look_260 ?_
        have hL := hL.I he
        refine z_aload_n 0 dX9_look_263 rfl rfl ?_
        refine z_geti fdX9_298_7 (hL.t 0 rfl) dX9_look_264 ?_
        refine z_if_lt 274 dX9_look_267 rfl hf (fun _ hf => ?_) (fun _ hf => ?_)
        · refine z_iload 6 dX9_look_274 rfl ?_
          refine z_if_eq 283 dX9_look_276 rfl hf (fun _ hf => ?_) (fun _ hf => ?_)
          · refine z_iconst 0 dX9_look_283 rfl ?_
            cases hf
            exact z_iret dX9_look_284 rfl hM
          · refine z_iconst 1 dX9_look_279 rfl ?_
            refine z_goto 284 dX9_look_280 rfl ?_
            cases hf
            exact z_iret dX9_look_284 rfl hM
        · refine z_iconst 3 dX9_look_270 rfl ?_
          refine z_goto 284 dX9_look_271 rfl ?_
          cases hf
          exact z_iret dX9_look_284 rfl hM
  · exact hM
theorem fdX9_289_7 : zFd RX9 289 7 34 .int false := ⟨_, _, _, rfl, rfl, by decide, rfl, rfl, Or.inl q1426, Or.inl rfl⟩
theorem svX9_282_7 : zIv RX9 282 yX9_lookUnits (ws_ yX9_lookUnits cX9_lookUnits 8 (some .int)) 8 7 4 := ⟨zGood_c q1768 q109, ⟨_, _, rfl, rfl, qs69⟩, Or.inl q1765, q1767, ⟨by decide, by decide⟩, by decide +kernel⟩
theorem svX9_278_7 : zIv RX9 278 yX9_lookFew (ws_ yX9_lookFew cX9_lookFew 11 (some .int)) 11 7 3 := ⟨zGood_c q1764 q109, ⟨_, _, rfl, rfl, qs68⟩, Or.inl q1761, q1763, ⟨by decide, by decide⟩, by decide +kernel⟩
noncomputable def fX9_look (h : zH) (a : Nat) (x1 : Int32) (x2 : Nat) (x3 : Int32) (x4 : Int32) : Option (Int32 × zH) := zck (vp_in x1 11) (if (zI h (a + 1) x1.toNatClampNeg) = 3 then (zb2 (fX9_lookFew h a x2 x3 x4) (fun v_26 h_27 => some ((v_26, h_27)))) else (zck (vp_in x1 11) (if (zI h (a + 1) x1.toNatClampNeg) = 0 then (if (zI h a 35) = 4 then (fX9_look_J71 h a x1 x2 x3 x4 (zI h a 34)) else (fX9_look_J71 h a x1 x2 x3 x4 (zI h a 35))) else (zck (vp_in x1 11) (if (zI h (a + 1) x1.toNatClampNeg) = 1 then (zb2 (fX9_lookUnits h a 1 x2 x3 x4) (fun v_23 h_24 => some ((v_23, h_24)))) else (zb2 (fX9_lookUnits h a 0 x2 x3 x4) (fun v_20 h_21 => some ((v_20, h_21)))))))))
theorem zX9_look {F : zF} {h : zH} {a : Nat} {x1 : Int32} {x2 : Nat} {x3 : Int32} {x4 : Int32} {y : Int32 × zH} (hD : 4 ≤ F.2.1) (hL : zBlk mB mP h a) (hf : fX9_look h a x1 x2 x3 x4 = some y) (hM : ((.inl (some (.int y.1)), y.2) : zX) = zEnd F) : Z F 10 cX9_look RX9 "look" (some .int) [] h 0 [(0, .ref a), (1, .int x1), (2, .ref x2), (3, .int x3), (4, .int x4)] [] := by
  unfold fX9_look at hf
  refine z_aload_n 0 dX9_look_0 rfl rfl ?_
  refine z_getr fdX9_9_7 (Or.inr ⟨_, rfl⟩) (hL.t 0 rfl) (hL.p 0 rfl) dX9_look_1 ?_
  refine z_iload_n 1 dX9_look_4 rfl rfl ?_
  obtain ⟨hi_1, hf⟩ := zck_some hf
  refine z_iald (hL.t 1 rfl) hi_1 dX9_look_5 ?_
  refine z_iconst 3 dX9_look_6 rfl ?_
  refine z_icmp_ne 19 dX9_look_7 rfl hf (fun _ hf => ?_) (fun _ hf => ?_)
  · refine z_aload_n 0 dX9_look_19 rfl rfl ?_
    refine z_getr fdX9_9_7 (Or.inr ⟨_, rfl⟩) (hL.t 0 rfl) (hL.p 0 rfl) dX9_look_20 ?_
    refine z_iload_n 1 dX9_look_23 rfl rfl ?_
    obtain ⟨hi_2, hf⟩ := zck_some hf
    refine z_iald (hL.t 1 rfl) hi_2 dX9_look_24 ?_
    refine z_if_eq 52 dX9_look_25 rfl hf (fun _ hf => ?_) (fun _ hf => ?_)
    · refine z_aload_n 0 dX9_look_52 rfl rfl ?_
      refine z_geti fdX9_286_7 (hL.t 0 rfl) dX9_look_53 ?_
      refine z_iconst 4 dX9_look_56 rfl ?_
      refine z_icmp_ne 67 dX9_look_57 rfl hf (fun _ hf => ?_) (fun _ hf => ?_)
      · refine z_aload_n 0 dX9_look_67 rfl rfl ?_
        refine z_geti fdX9_286_7 (hL.t 0 rfl) dX9_look_68 ?_
        exact zX9_look_J71 hD hL hf hM
      · refine z_aload_n 0 dX9_look_60 rfl rfl ?_
        refine z_geti fdX9_289_7 (hL.t 0 rfl) dX9_look_61 ?_
        refine z_goto 71 dX9_look_64 rfl ?_
        exact zX9_look_J71 hD hL hf hM
    · refine z_aload_n 0 dX9_look_28 rfl rfl ?_
      refine z_aload_n 0 dX9_look_29 rfl rfl ?_
      refine z_getr fdX9_9_7 (Or.inr ⟨_, rfl⟩) (hL.t 0 rfl) (hL.p 0 rfl) dX9_look_30 ?_
      refine z_iload_n 1 dX9_look_33 rfl rfl ?_
      obtain ⟨hi_18, hf⟩ := zck_some hf
      refine z_iald (hL.t 1 rfl) hi_18 dX9_look_34 ?_
      refine z_iconst 1 dX9_look_35 rfl ?_
      refine z_icmp_ne 43 dX9_look_36 rfl hf (fun _ hf => ?_) (fun _ hf => ?_)
      · refine z_iconst 0 dX9_look_43 rfl ?_
        refine z_aload_n 2 dX9_look_44 rfl rfl ?_
        refine z_iload_n 3 dX9_look_45 rfl rfl ?_
        refine z_iload 4 dX9_look_46 rfl ?_
        obtain ⟨v_20, h_21, hc_19, hf⟩ := zb2_some hf
        have hct := ctX9_lookUnits (l := F.1) hL hc_19
        refine z_invVi svX9_282_7 hct (hL.t 0 rfl) ⟨Nat.le_trans (by decide) hD, by decide⟩ rfl rfl (Nat.le_of_ble_eq_true rfl) dX9_look_48 ?_
        have hL := hL.ext mOk hct.1
        cases hf
        exact z_iret dX9_look_51 rfl hM
      · refine z_iconst 1 dX9_look_39 rfl ?_
        refine z_goto 44 dX9_look_40 rfl ?_
        refine z_aload_n 2 dX9_look_44 rfl rfl ?_
        refine z_iload_n 3 dX9_look_45 rfl rfl ?_
        refine z_iload 4 dX9_look_46 rfl ?_
        obtain ⟨v_23, h_24, hc_22, hf⟩ := zb2_some hf
        have hct := ctX9_lookUnits (l := F.1) hL hc_22
        refine z_invVi svX9_282_7 hct (hL.t 0 rfl) ⟨Nat.le_trans (by decide) hD, by decide⟩ rfl rfl (Nat.le_of_ble_eq_true rfl) dX9_look_48 ?_
        have hL := hL.ext mOk hct.1
        cases hf
        exact z_iret dX9_look_51 rfl hM
  · refine z_aload_n 0 dX9_look_10 rfl rfl ?_
    refine z_aload_n 2 dX9_look_11 rfl rfl ?_
    refine z_iload_n 3 dX9_look_12 rfl rfl ?_
    refine z_iload 4 dX9_look_13 rfl ?_
    obtain ⟨v_26, h_27, hc_25, hf⟩ := zb2_some hf
    have hct := ctX9_lookFew (l := F.1) hL hc_25
    refine z_invVi svX9_278_7 hct (hL.t 0 rfl) ⟨Nat.le_trans (by decide) hD, by decide⟩ rfl rfl (Nat.le_of_ble_eq_true rfl) dX9_look_15 ?_
    have hL := hL.ext mOk hct.1
    cases hf
    exact z_iret dX9_look_18 rfl hM
theorem ctX9_look {l : Launch} {h : zH} {a : Nat} {x1 : Int32} {x2 : Nat} {x3 : Int32} {x4 : Int32} {v : Int32} {h' : zH} (hL : zBlk mB mP h a) (hf : fX9_look h a x1 x2 x3 x4 = some (v, h')) : zC l yX9_look (ws_ yX9_look cX9_look 10 (some .int)) 4 [.ref a, .int x1, .ref x2, .int x3, .int x4] h (.inl (some (.int v)), h') :=
  z_start (by decide) (Nat.le_of_ble_eq_true rfl) (zX9_look (F := (l, 4, h, (.inl (some (.int v)), h'))) (Nat.le_refl _) hL hf rfl)
theorem fdX9_269_7 : zFd RX9 269 7 36 (.array .int) false := ⟨_, _, _, rfl, rfl, by decide, rfl, rfl, Or.inl q1428, Or.inl rfl⟩
theorem fdX9_272_7 : zFd RX9 272 7 37 .int false := ⟨_, _, _, rfl, rfl, by decide, rfl, rfl, Or.inl q1429, Or.inl rfl⟩
noncomputable def fX9_put (h : zH) (a : Nat) (x1 : Int32) : Option (zH) := zb1 (zP h a 36) (fun b_1 => zck (b_1 ≠ 0 ∧ zAr h b_1 (zI h a 37)) (zlet (zsI h b_1 (zI h a 37).toNatClampNeg x1) (fun h_3 => zlet (zsI h_3 a 37 ((zI h_3 a 37) + 1)) (fun h_4 => some h_4))))
theorem zX9_put {F : zF} {h : zH} {a : Nat} {x1 : Int32} {y : zH} (hD : 1 ≤ F.2.1) (hL : zBlk mB mP h a) (hf : fX9_put h a x1 = some y) (hM : ((.inl none, y) : zX) = zEnd F) : Z F 2 cX9_put RX9 "put" none [] h 0 [(0, .ref a), (1, .int x1)] [] := by
  unfold fX9_put at hf
  refine z_aload_n 0 dX9_put_0 rfl rfl ?_
  obtain ⟨b_1, hb_1, hf⟩ := zb1_some hf
  refine z_getr fdX9_269_7 (Or.inr ⟨_, rfl⟩) (hL.t 0 rfl) hb_1 dX9_put_1 ?_
  refine z_aload_n 0 dX9_put_4 rfl rfl ?_
  refine z_geti fdX9_272_7 (hL.t 0 rfl) dX9_put_5 ?_
  refine z_iload_n 1 dX9_put_8 rfl rfl ?_
  obtain ⟨hi_2, hf⟩ := zck_some hf
  obtain ⟨h_3, he, hf⟩ := zlet_some hf
  refine z_iast (zAr_t hi_2.2) hi_2.1 hi_2.2.2 he dX9_put_9 ?_
  have hL := hL.I he
  refine z_aload_n 0 dX9_put_10 rfl rfl ?_
  refine z_dup dX9_put_11 rfl ?_
  refine z_geti fdX9_272_7 (hL.t 0 rfl) dX9_put_12 ?_
  refine z_iconst 1 dX9_put_15 rfl ?_
  refine z_iadd dX9_put_16 ?_
  obtain ⟨h_4, he, hf⟩ := zlet_some hf
  refine z_puti fdX9_272_7 (hL.t 0 rfl) (hL.nz 0) he dX9_put_17 ?_
  have hL := hL.I he
  cases hf
  exact z_vret dX9_put_20 rfl hM
theorem ctX9_put {l : Launch} {h : zH} {a : Nat} {x1 : Int32} {h' : zH} (hL : zBlk mB mP h a) (hf : fX9_put h a x1 = some h') : zC l yX9_put (ws_ yX9_put cX9_put 2 none) 1 [.ref a, .int x1] h (.inl none, h') :=
  z_start (by decide) (Nat.le_of_ble_eq_true rfl) (zX9_put (F := (l, 1, h, (.inl none, h'))) (Nat.le_refl _) hL hf rfl)
theorem svX9_275_7 : zIv RX9 275 yX9_put (ws_ yX9_put cX9_put 2 none) 2 7 1 := ⟨zGood_c q1783 q109, ⟨_, _, rfl, rfl, qs71⟩, Or.inl q1780, q1782, ⟨by decide, by decide⟩, by decide +kernel⟩
noncomputable def fX9_putUnits (h : zH) (a : Nat) (x1 : Int32) : Option (zH) := if 65536 ≤ x1 then (zb1 (fX9_first x1) (fun v_2 => zb1 (fX9_put h a v_2) (fun h_5 => zb1 (fX9_second x1) (fun v_7 => zb1 (fX9_put h_5 a v_7) (fun h_10 => some h_10))))) else (zb1 (fX9_put h a x1) (fun h_13 => some h_13))
theorem zX9_putUnits {F : zF} {h : zH} {a : Nat} {x1 : Int32} {y : zH} (hD : 2 ≤ F.2.1) (hL : zBlk mB mP h a) (hf : fX9_putUnits h a x1 = some y) (hM : ((.inl none, y) : zX) = zEnd F) : Z F 2 cX9_putUnits RX9 "putUnits" none [] h 0 [(0, .ref a), (1, .int x1)] [] := by
  unfold fX9_putUnits at hf
  refine z_iload_n 1 dX9_putUnits_0 rfl rfl ?_
  refine z_ldc q1712 dX9_putUnits_1 ?_
  refine z_icmp_ge 12 dX9_putUnits_3 rfl hf (fun _ hf => ?_) (fun _ hf => ?_)
  · refine z_aload_n 0 dX9_putUnits_12 rfl rfl ?_
    refine z_iload_n 1 dX9_putUnits_13 rfl rfl ?_
    obtain ⟨v_2, hc_1, hf⟩ := zb1_some hf
    refine z_invSi ssX9_240 (ctX9_first hc_1) ⟨Nat.le_trans (by decide) hD, by decide⟩ rfl rfl (Nat.le_of_ble_eq_true rfl) dX9_putUnits_14 ?_
    obtain ⟨h_5, hc_3, hf⟩ := zb1_some hf
    have hct := ctX9_put (l := F.1) hL hc_3
    refine z_invVv svX9_275_7 hct (hL.t 0 rfl) ⟨Nat.le_trans (by decide) hD, by decide⟩ rfl rfl (Nat.le_of_ble_eq_true rfl) dX9_putUnits_17 ?_
    have hL := hL.ext mOk hct.1
    refine z_aload_n 0 dX9_putUnits_20 rfl rfl ?_
    refine z_iload_n 1 dX9_putUnits_21 rfl rfl ?_
    obtain ⟨v_7, hc_6, hf⟩ := zb1_some hf
    refine z_invSi ssX9_243 (ctX9_second hc_6) ⟨Nat.le_trans (by decide) hD, by decide⟩ rfl rfl (Nat.le_of_ble_eq_true rfl) dX9_putUnits_22 ?_
    obtain ⟨h_10, hc_8, hf⟩ := zb1_some hf
    have hct := ctX9_put (l := F.1) hL hc_8
    refine z_invVv svX9_275_7 hct (hL.t 0 rfl) ⟨Nat.le_trans (by decide) hD, by decide⟩ rfl rfl (Nat.le_of_ble_eq_true rfl) dX9_putUnits_25 ?_
    have hL := hL.ext mOk hct.1
    cases hf
    exact z_vret dX9_putUnits_28 rfl hM
  · refine z_aload_n 0 dX9_putUnits_6 rfl rfl ?_
    refine z_iload_n 1 dX9_putUnits_7 rfl rfl ?_
    obtain ⟨h_13, hc_11, hf⟩ := zb1_some hf
    have hct := ctX9_put (l := F.1) hL hc_11
    refine z_invVv svX9_275_7 hct (hL.t 0 rfl) ⟨Nat.le_trans (by decide) hD, by decide⟩ rfl rfl (Nat.le_of_ble_eq_true rfl) dX9_putUnits_8 ?_
    have hL := hL.ext mOk hct.1
    cases hf
    exact z_vret dX9_putUnits_11 rfl hM
theorem ctX9_putUnits {l : Launch} {h : zH} {a : Nat} {x1 : Int32} {h' : zH} (hL : zBlk mB mP h a) (hf : fX9_putUnits h a x1 = some h') : zC l yX9_putUnits (ws_ yX9_putUnits cX9_putUnits 2 none) 2 [.ref a, .int x1] h (.inl none, h') :=
  z_start (by decide) (Nat.le_of_ble_eq_true rfl) (zX9_putUnits (F := (l, 2, h, (.inl none, h'))) (Nat.le_refl _) hL hf rfl)
theorem svX9_307_7 : zIv RX9 307 yX9_look (ws_ yX9_look cX9_look 10 (some .int)) 10 7 4 := ⟨zGood_c q1760 q109, ⟨_, _, rfl, rfl, qs67⟩, Or.inl q1757, q1759, ⟨by decide, by decide⟩, by decide +kernel⟩
theorem fdX9_314_7 : zFd RX9 314 7 39 .int false := ⟨_, _, _, rfl, rfl, by decide, rfl, rfl, Or.inl q1431, Or.inl rfl⟩
noncomputable def fX9_readOne_J135 (h : zH) (a : Nat) (x2 : Int32) (x3 : Nat) (x4 : Int32) : Option (Int32 × zH) := if x2 = 3 then (zck (zAr h x3 x4) (zb1 (fX9_put h a ((56320 : Int32) + (zI h x3 x4.toNatClampNeg))) (fun h_9 => some ((1, h_9))))) else (some ((1, h)))
theorem zX9_readOne_J135 {F : zF} {h : zH} {a : Nat} {x2 : Int32} {x3 : Nat} {x4 : Int32} {y : Int32 × zH} (hD : 5 ≤ F.2.1) (hL : zBlk mB mP h a) (hf : fX9_readOne_J135 h a x2 x3 x4 = some y) (hM : ((.inl (some (.int y.1)), y.2) : zX) = zEnd F) : Z F 8 cX9_readOne RX9 "readOne" (some .int) [] h 135 [(0, .ref a), (2, .int x2), (3, .ref x3), (4, .int x4)] [] := by
  unfold fX9_readOne_J135 at hf
  refine z_iload_n 1 dX9_readOne_135 rfl rfl ?_
  refine z_iconst 3 dX9_readOne_136 rfl ?_
  refine z_icmp_ne 151 dX9_readOne_137 rfl hf (fun _ hf => ?_) (fun _ hf => ?_)
  · refine z_iconst 1 dX9_readOne_151 rfl ?_
    cases hf
    exact z_iret dX9_readOne_152 rfl hM
  · refine z_aload_n 0 dX9_readOne_140 rfl rfl ?_
    refine z_ldc q1724 dX9_readOne_141 ?_
    refine z_aload_n 2 dX9_readOne_143 rfl rfl ?_
    refine z_iload 3 dX9_readOne_144 rfl ?_
    obtain ⟨hi_6, hf⟩ := zck_some hf
    refine z_iald (zAr_t hi_6) hi_6.2 dX9_readOne_146 ?_
    refine z_iadd dX9_readOne_147 ?_
    obtain ⟨h_9, hc_7, hf⟩ := zb1_some hf
    have hct := ctX9_put (l := F.1) hL hc_7
    refine z_invVv svX9_275_7 hct (hL.t 0 rfl) ⟨Nat.le_trans (by decide) hD, by decide⟩ rfl rfl (Nat.le_of_ble_eq_true rfl) dX9_readOne_148 ?_
    have hL := hL.ext mOk hct.1
    refine z_iconst 1 dX9_readOne_151 rfl ?_
    cases hf
    exact z_iret dX9_readOne_152 rfl hM
theorem fdX9_60_7 : zFd RX9 60 7 21 (.array .int) true := ⟨_, _, _, rfl, rfl, by decide, rfl, rfl, Or.inl q1413, Or.inl rfl⟩
theorem svX9_311_7 : zIv RX9 311 yX9_putUnits (ws_ yX9_putUnits cX9_putUnits 2 none) 2 7 1 := ⟨zGood_c q1779 q109, ⟨_, _, rfl, rfl, qs70⟩, Or.inl q1776, q1778, ⟨by decide, by decide⟩, by decide +kernel⟩
noncomputable def fX9_readOne_J25 (h : zH) (a : Nat) (x2 : Int32) (x3 : Nat) (x4 : Int32) (x7 : Int32) : Option (Int32 × zH) := if x7 = 2 then (zb1 (fX9_putUnits h a (zI h a 41)) (fun h_21 => zlet (zsI h_21 a 35 4) (fun h_22 => some ((zI h_22 a 40, h_22))))) else (if x7 = 3 then (zck (vp_in (zI h a 42) 110) (if (zI h (a + 13) (zI h a 42).toNatClampNeg) = 0 then (zck (vp_in (zI h a 42) 110) (zlet (zsI h a 35 (zI h (a + 12) (zI h a 42).toNatClampNeg)) (fun h_16 => some ((1, h_16))))) else (zck (vp_in (zI h a 42) 110) (zlet (zsI h a 34 (zI h (a + 12) (zI h a 42).toNatClampNeg)) (fun h_18 => some ((1, h_18))))))) else (zlet (zsI h a 39 ((zI h a 39) + 1)) (fun h_4 => if x2 = 0 then (some (((-9), h_4))) else (zlet (zsI h_4 a 35 4) (fun h_5 => if x2 = 1 then (zck (vp_in 0 2) (zb1 (fX9_putUnits h_5 a (zI h_5 (a + 17) (0 : Int32).toNatClampNeg)) (fun h_13 => fX9_readOne_J135 h_13 a x2 x3 x4))) else (fX9_readOne_J135 h_5 a x2 x3 x4))))))
theorem zX9_readOne_J25 {F : zF} {h : zH} {a : Nat} {x2 : Int32} {x3 : Nat} {x4 : Int32} {x7 : Int32} {y : Int32 × zH} (hD : 5 ≤ F.2.1) (hL : zBlk mB mP h a) (hf : fX9_readOne_J25 h a x2 x3 x4 x7 = some y) (hM : ((.inl (some (.int y.1)), y.2) : zX) = zEnd F) : Z F 8 cX9_readOne RX9 "readOne" (some .int) [] h 25 [(0, .ref a), (2, .int x2), (3, .ref x3), (4, .int x4), (7, .int x7)] [] := by
  unfold fX9_readOne_J25 at hf
  refine z_iload 4 dX9_readOne_25 rfl ?_
  refine z_iconst 2 dX9_readOne_27 rfl ?_
  refine z_icmp_ne 49 dX9_readOne_28 rfl hf (fun _ hf => ?_) (fun _ hf => ?_)
  · refine z_iload 4 dX9_readOne_49 rfl ?_
    refine z_iconst 3 dX9_readOne_51 rfl ?_
    refine z_icmp_ne 98 dX9_readOne_52 rfl hf (fun _ hf => ?_) (fun _ hf => ?_)
    · refine z_aload_n 0 dX9_readOne_98 rfl rfl ?_
      refine z_dup dX9_readOne_99 rfl ?_
      refine z_geti fdX9_314_7 (hL.t 0 rfl) dX9_readOne_100 ?_
      refine z_iconst 1 dX9_readOne_103 rfl ?_
      refine z_iadd dX9_readOne_104 ?_
      obtain ⟨h_4, he, hf⟩ := zlet_some hf
      refine z_puti fdX9_314_7 (hL.t 0 rfl) (hL.nz 0) he dX9_readOne_105 ?_
      have hL := hL.I he
      refine z_iload_n 1 dX9_readOne_108 rfl rfl ?_
      refine z_if_ne 115 dX9_readOne_109 rfl hf (fun _ hf => ?_) (fun _ hf => ?_)
      · refine z_aload_n 0 dX9_readOne_115 rfl rfl ?_
        refine z_iconst 4 dX9_readOne_116 rfl ?_
        obtain ⟨h_5, he, hf⟩ := zlet_some hf
        refine z_puti fdX9_286_7 (hL.t 0 rfl) (hL.nz 0) he dX9_readOne_117 ?_
        have hL := hL.I he
        refine z_iload_n 1 dX9_readOne_120 rfl rfl ?_
        refine z_iconst 1 dX9_readOne_121 rfl ?_
        refine z_icmp_ne 135 dX9_readOne_122 rfl hf (fun _ hf => ?_) (fun _ hf => ?_)
        · refine z_sub [0, 1, 2, 3] rfl ?_
          exact zX9_readOne_J135 hD hL hf hM
        · refine z_aload_n 0 dX9_readOne_125 rfl rfl ?_
          refine z_aload_n 0 dX9_readOne_126 rfl rfl ?_
          refine z_getr fdX9_60_7 (Or.inr ⟨_, rfl⟩) (hL.t 0 rfl) (hL.p 16 rfl) dX9_readOne_127 ?_
          refine z_iconst 0 dX9_readOne_130 rfl ?_
          obtain ⟨hi_10, hf⟩ := zck_some hf
          refine z_iald (hL.t 17 rfl) hi_10 dX9_readOne_131 ?_
          obtain ⟨h_13, hc_11, hf⟩ := zb1_some hf
          have hct := ctX9_putUnits (l := F.1) hL hc_11
          refine z_invVv svX9_311_7 hct (hL.t 0 rfl) ⟨Nat.le_trans (by decide) hD, by decide⟩ rfl rfl (Nat.le_of_ble_eq_true rfl) dX9_readOne_132 ?_
          have hL := hL.ext mOk hct.1
          refine z_sub [0, 1, 2, 3] rfl ?_
          exact zX9_readOne_J135 hD hL hf hM
      · refine z_bipush (-9) dX9_readOne_112 rfl ?_
        cases hf
        exact z_iret dX9_readOne_114 rfl hM
    · refine z_aload_n 0 dX9_readOne_55 rfl rfl ?_
      refine z_getr fdX9_47_7 (Or.inr ⟨_, rfl⟩) (hL.t 0 rfl) (hL.p 12 rfl) dX9_readOne_56 ?_
      refine z_aload_n 0 dX9_readOne_59 rfl rfl ?_
      refine z_geti fdX9_298_7 (hL.t 0 rfl) dX9_readOne_60 ?_
      obtain ⟨hi_14, hf⟩ := zck_some hf
      refine z_zald (hL.t 13 rfl) hi_14 dX9_readOne_63 ?_
      refine z_if_eq 83 dX9_readOne_64 rfl hf (fun _ hf => ?_) (fun _ hf => ?_)
      · refine z_aload_n 0 dX9_readOne_83 rfl rfl ?_
        refine z_aload_n 0 dX9_readOne_84 rfl rfl ?_
        refine z_getr fdX9_44_7 (Or.inr ⟨_, rfl⟩) (hL.t 0 rfl) (hL.p 11 rfl) dX9_readOne_85 ?_
        refine z_aload_n 0 dX9_readOne_88 rfl rfl ?_
        refine z_geti fdX9_298_7 (hL.t 0 rfl) dX9_readOne_89 ?_
        obtain ⟨hi_15, hf⟩ := zck_some hf
        refine z_iald (hL.t 12 rfl) hi_15 dX9_readOne_92 ?_
        obtain ⟨h_16, he, hf⟩ := zlet_some hf
        refine z_puti fdX9_286_7 (hL.t 0 rfl) (hL.nz 0) he dX9_readOne_93 ?_
        have hL := hL.I he
        refine z_iconst 1 dX9_readOne_96 rfl ?_
        cases hf
        exact z_iret dX9_readOne_97 rfl hM
      · refine z_aload_n 0 dX9_readOne_67 rfl rfl ?_
        refine z_aload_n 0 dX9_readOne_68 rfl rfl ?_
        refine z_getr fdX9_44_7 (Or.inr ⟨_, rfl⟩) (hL.t 0 rfl) (hL.p 11 rfl) dX9_readOne_69 ?_
        refine z_aload_n 0 dX9_readOne_72 rfl rfl ?_
        refine z_geti fdX9_298_7 (hL.t 0 rfl) dX9_readOne_73 ?_
        obtain ⟨hi_17, hf⟩ := zck_some hf
        refine z_iald (hL.t 12 rfl) hi_17 dX9_readOne_76 ?_
        obtain ⟨h_18, he, hf⟩ := zlet_some hf
        refine z_puti fdX9_289_7 (hL.t 0 rfl) (hL.nz 0) he dX9_readOne_77 ?_
        have hL := hL.I he
        refine z_goto 96 dX9_readOne_80 rfl ?_
        refine z_iconst 1 dX9_readOne_96 rfl ?_
        cases hf
        exact z_iret dX9_readOne_97 rfl hM
  · refine z_aload_n 0 dX9_readOne_31 rfl rfl ?_
    refine z_aload_n 0 dX9_readOne_32 rfl rfl ?_
    refine z_geti fdX9_295_7 (hL.t 0 rfl) dX9_readOne_33 ?_
    obtain ⟨h_21, hc_19, hf⟩ := zb1_some hf
    have hct := ctX9_putUnits (l := F.1) hL hc_19
    refine z_invVv svX9_311_7 hct (hL.t 0 rfl) ⟨Nat.le_trans (by decide) hD, by decide⟩ rfl rfl (Nat.le_of_ble_eq_true rfl) dX9_readOne_36 ?_
    have hL := hL.ext mOk hct.1
    refine z_aload_n 0 dX9_readOne_39 rfl rfl ?_
    refine z_iconst 4 dX9_readOne_40 rfl ?_
    obtain ⟨h_22, he, hf⟩ := zlet_some hf
    refine z_puti fdX9_286_7 (hL.t 0 rfl) (hL.nz 0) he dX9_readOne_41 ?_
    have hL := hL.I he
    refine z_aload_n 0 dX9_readOne_44 rfl rfl ?_
    refine z_geti fdX9_292_7 (hL.t 0 rfl) dX9_readOne_45 ?_
    cases hf
    exact z_iret dX9_readOne_48 rfl hM
noncomputable def fX9_readOne (h : zH) (a : Nat) (x1 : Int32) (x2 : Int32) (x3 : Nat) (x4 : Int32) (x5 : Int32) (x6 : Int32) : Option (Int32 × zH) := zb2 (fX9_look h a x1 x3 x4 x5) (fun v_2 h_3 => if v_2 = 1 then (if x6 = 0 then (some ((0, h_3))) else (fX9_readOne_J25 h_3 a x2 x3 x4 v_2)) else (fX9_readOne_J25 h_3 a x2 x3 x4 v_2))
theorem zX9_readOne {F : zF} {h : zH} {a : Nat} {x1 : Int32} {x2 : Int32} {x3 : Nat} {x4 : Int32} {x5 : Int32} {x6 : Int32} {y : Int32 × zH} (hD : 5 ≤ F.2.1) (hL : zBlk mB mP h a) (hf : fX9_readOne h a x1 x2 x3 x4 x5 x6 = some y) (hM : ((.inl (some (.int y.1)), y.2) : zX) = zEnd F) : Z F 8 cX9_readOne RX9 "readOne" (some .int) [] h 0 [(0, .ref a), (1, .int x1), (2, .int x2), (3, .ref x3), (4, .int x4), (5, .int x5), (6, .int x6)] [] := by
  unfold fX9_readOne at hf
  refine z_aload_n 0 dX9_readOne_0 rfl rfl ?_
  refine z_iload_n 1 dX9_readOne_1 rfl rfl ?_
  refine z_aload_n 3 dX9_readOne_2 rfl rfl ?_
  refine z_iload 4 dX9_readOne_3 rfl ?_
  refine z_iload 5 dX9_readOne_5 rfl ?_
  obtain ⟨v_2, h_3, hc_1, hf⟩ := zb2_some hf
  have hct := ctX9_look (l := F.1) hL hc_1
  refine z_invVi svX9_307_7 hct (hL.t 0 rfl) ⟨Nat.le_trans (by decide) hD, by decide⟩ rfl rfl (Nat.le_of_ble_eq_true rfl) dX9_readOne_7 ?_
  have hL := hL.ext mOk hct.1
  refine z_istore dX9_readOne_10 (by decide) (lc' := [(0, .ref a), (1, .int x1), (2, .int x2), (3, .ref x3), (4, .int x4), (5, .int x5), (6, .int x6), (7, .int v_2)]) rfl ?_
  refine z_iload 7 dX9_readOne_12 rfl ?_
  refine z_iconst 1 dX9_readOne_14 rfl ?_
  refine z_icmp_ne 25 dX9_readOne_15 rfl hf (fun _ hf => ?_) (fun _ hf => ?_)
  · refine z_sub [0, 2, 3, 4, 7] rfl ?_
    exact zX9_readOne_J25 hD hL hf hM
  · refine z_iload 6 dX9_readOne_18 rfl ?_
    refine z_if_ne 25 dX9_readOne_20 rfl hf (fun _ hf => ?_) (fun _ hf => ?_)
    · refine z_sub [0, 2, 3, 4, 7] rfl ?_
      exact zX9_readOne_J25 hD hL hf hM
    · refine z_iconst 0 dX9_readOne_23 rfl ?_
      cases hf
      exact z_iret dX9_readOne_24 rfl hM
theorem ctX9_readOne {l : Launch} {h : zH} {a : Nat} {x1 : Int32} {x2 : Int32} {x3 : Nat} {x4 : Int32} {x5 : Int32} {x6 : Int32} {v : Int32} {h' : zH} (hL : zBlk mB mP h a) (hf : fX9_readOne h a x1 x2 x3 x4 x5 x6 = some (v, h')) : zC l yX9_readOne (ws_ yX9_readOne cX9_readOne 8 (some .int)) 5 [.ref a, .int x1, .int x2, .ref x3, .int x4, .int x5, .int x6] h (.inl (some (.int v)), h') :=
  z_start (by decide) (Nat.le_of_ble_eq_true rfl) (zX9_readOne (F := (l, 5, h, (.inl (some (.int v)), h'))) (Nat.le_refl _) hL hf rfl)
theorem svX9_317_7 : zIv RX9 317 yX9_readOne (ws_ yX9_readOne cX9_readOne 8 (some .int)) 8 7 6 := ⟨zGood_c q1756 q109, ⟨_, _, rfl, rfl, qs66⟩, Or.inl q1753, q1755, ⟨by decide, by decide⟩, by decide +kernel⟩
theorem fdX9_321_7 : zFd RX9 321 7 22 .int false := ⟨_, _, _, rfl, rfl, by decide, rfl, rfl, Or.inl q1414, Or.inl rfl⟩
noncomputable def fX9_readAll_L28 (h : zH) (a : Nat) (x1 : Int32) (x2 : Int32) (x4 : Int32) : Option ((zH × Int32) ⊕ ((Int32 × zH))) := if (zI h a 14) ≤ x4 then (some (.inr ((zI h a 37, h)))) else (zb2 (fX9_readOne h a x1 x2 (a + 14) x4 (zI h a 14) 1) (fun v_7 h_8 => if 0 ≤ v_7 then (some (.inl ((h_8, x4 + v_7)))) else (zlet (zsI h_8 a 22 x4) (fun h_9 => some (.inr ((v_7, h_9)))))))
theorem zX9_readAll_L28 {F : zF} {h : zH} {a : Nat} {x1 : Int32} {x2 : Int32} {x4 : Int32} {y : (zH × Int32) ⊕ ((Int32 × zH))} (hD : 6 ≤ F.2.1) (hL : zBlk mB mP h a) (hf : fX9_readAll_L28 h a x1 x2 x4 = some y) (hM : ((∀ s' : zH × Int32, y = .inl s' → (zBlk mB mP s'.1 a → Z F 6 cX9_readAll RX9 "readAll" (some .int) [] s'.1 28 [(0, .ref a), (1, .int x1), (2, .int x2), (4, .int s'.2)] [])) ∧ ∀ r : (Int32 × zH), y = .inr r → ((.inl (some (.int r.1)), r.2) : zX) = zEnd F)) : Z F 6 cX9_readAll RX9 "readAll" (some .int) [] h 28 [(0, .ref a), (1, .int x1), (2, .int x2), (4, .int x4)] [] := by
  unfold fX9_readAll_L28 at hf
  refine z_iload 3 dX9_readAll_28 rfl ?_
  refine z_aload_n 0 dX9_readAll_30 rfl rfl ?_
  refine z_geti fdX9_255_7 (hL.t 0 rfl) dX9_readAll_31 ?_
  refine z_icmp_ge 80 dX9_readAll_34 rfl hf (fun _ hf => ?_) (fun _ hf => ?_)
  · refine z_aload_n 0 dX9_readAll_80 rfl rfl ?_
    refine z_geti fdX9_272_7 (hL.t 0 rfl) dX9_readAll_81 ?_
    cases hf
    exact z_iret dX9_readAll_84 rfl (hM.2 _ rfl)
  · refine z_aload_n 0 dX9_readAll_37 rfl rfl ?_
    refine z_iload_n 1 dX9_readAll_38 rfl rfl ?_
    refine z_iload_n 2 dX9_readAll_39 rfl rfl ?_
    refine z_aload_n 0 dX9_readAll_40 rfl rfl ?_
    refine z_getr fdX9_50_7 (Or.inr ⟨_, rfl⟩) (hL.t 0 rfl) (hL.p 13 rfl) dX9_readAll_41 ?_
    refine z_iload 3 dX9_readAll_44 rfl ?_
    refine z_aload_n 0 dX9_readAll_46 rfl rfl ?_
    refine z_geti fdX9_255_7 (hL.t 0 rfl) dX9_readAll_47 ?_
    refine z_iconst 1 dX9_readAll_50 rfl ?_
    obtain ⟨v_7, h_8, hc_6, hf⟩ := zb2_some hf
    have hct := ctX9_readOne (l := F.1) hL hc_6
    refine z_invVi svX9_317_7 hct (hL.t 0 rfl) ⟨Nat.le_trans (by decide) hD, by decide⟩ rfl rfl (Nat.le_of_ble_eq_true rfl) dX9_readAll_51 ?_
    have hL := hL.ext mOk hct.1
    refine z_istore dX9_readAll_54 (by decide) (lc' := [(0, .ref a), (1, .int x1), (2, .int x2), (4, .int x4), (5, .int v_7)]) rfl ?_
    refine z_iload 4 dX9_readAll_56 rfl ?_
    refine z_if_ge 70 dX9_readAll_58 rfl hf (fun _ hf => ?_) (fun _ hf => ?_)
    · refine z_iload 3 dX9_readAll_70 rfl ?_
      refine z_iload 4 dX9_readAll_72 rfl ?_
      refine z_iadd dX9_readAll_74 ?_
      refine z_istore dX9_readAll_75 (by decide) (lc' := [(0, .ref a), (1, .int x1), (2, .int x2), (4, .int (x4 + v_7)), (5, .int v_7)]) rfl ?_
      refine z_goto 28 dX9_readAll_77 rfl ?_
      cases hf
      refine z_sub [0, 1, 2, 3] rfl ?_
      exact (hM.1 _ rfl) hL
    · refine z_aload_n 0 dX9_readAll_61 rfl rfl ?_
      refine z_iload 3 dX9_readAll_62 rfl ?_
      obtain ⟨h_9, he, hf⟩ := zlet_some hf
      refine z_puti fdX9_321_7 (hL.t 0 rfl) (hL.nz 0) he dX9_readAll_64 ?_
      have hL := hL.I he
      refine z_iload 4 dX9_readAll_67 rfl ?_
      cases hf
      exact z_iret dX9_readAll_69 rfl (hM.2 _ rfl)
noncomputable def fX9_readAll (h : zH) (a : Nat) (x1 : Int32) (x2 : Int32) (x3 : Nat) : Option (Int32 × zH) := zlet (zsI h a 34 0) (fun h_1 => zlet (zsI h_1 a 35 4) (fun h_2 => zlet (zsP h_2 a 36 (some x3)) (fun h_3 => zlet (zsI h_3 a 37 0) (fun h_4 => zlet (zsI h_4 a 39 0) (fun h_5 => zlp (fun s => fX9_readAll_L28 s.1 a x1 x2 s.2) (h_5, 0))))))
theorem zX9_readAll {F : zF} {h : zH} {a : Nat} {x1 : Int32} {x2 : Int32} {x3 : Nat} {y : Int32 × zH} (hD : 6 ≤ F.2.1) (hL : zBlk mB mP h a) (hf : fX9_readAll h a x1 x2 x3 = some y) (hM : ((.inl (some (.int y.1)), y.2) : zX) = zEnd F) : Z F 6 cX9_readAll RX9 "readAll" (some .int) [] h 0 [(0, .ref a), (1, .int x1), (2, .int x2), (3, .ref x3)] [] := by
  unfold fX9_readAll at hf
  refine z_aload_n 0 dX9_readAll_0 rfl rfl ?_
  refine z_iconst 0 dX9_readAll_1 rfl ?_
  obtain ⟨h_1, he, hf⟩ := zlet_some hf
  refine z_puti fdX9_289_7 (hL.t 0 rfl) (hL.nz 0) he dX9_readAll_2 ?_
  have hL := hL.I he
  refine z_aload_n 0 dX9_readAll_5 rfl rfl ?_
  refine z_iconst 4 dX9_readAll_6 rfl ?_
  obtain ⟨h_2, he, hf⟩ := zlet_some hf
  refine z_puti fdX9_286_7 (hL.t 0 rfl) (hL.nz 0) he dX9_readAll_7 ?_
  have hL := hL.I he
  refine z_aload_n 0 dX9_readAll_10 rfl rfl ?_
  refine z_aload_n 3 dX9_readAll_11 rfl rfl ?_
  obtain ⟨h_3, he, hf⟩ := zlet_some hf
  refine z_putr fdX9_269_7 (Or.inr ⟨_, rfl⟩) (hL.t 0 rfl) (hL.nz 0) he dX9_readAll_12 ?_
  have hL := hL.P he (hL.t 0 rfl) (by decide)
  refine z_aload_n 0 dX9_readAll_15 rfl rfl ?_
  refine z_iconst 0 dX9_readAll_16 rfl ?_
  obtain ⟨h_4, he, hf⟩ := zlet_some hf
  refine z_puti fdX9_272_7 (hL.t 0 rfl) (hL.nz 0) he dX9_readAll_17 ?_
  have hL := hL.I he
  refine z_aload_n 0 dX9_readAll_20 rfl rfl ?_
  refine z_iconst 0 dX9_readAll_21 rfl ?_
  obtain ⟨h_5, he, hf⟩ := zlet_some hf
  refine z_puti fdX9_314_7 (hL.t 0 rfl) (hL.nz 0) he dX9_readAll_22 ?_
  have hL := hL.I he
  refine z_iconst 0 dX9_readAll_25 rfl ?_
  refine z_istore dX9_readAll_26 (by decide) (lc' := [(0, .ref a), (1, .int x1), (2, .int x2), (3, .ref x3), (4, .int 0)]) rfl ?_
  refine z_sub [0, 1, 2, 4] rfl ?_
  exact z_loop (fun (s : zH × Int32) => (zBlk mB mP s.1 a → Z F 6 cX9_readAll RX9 "readAll" (some .int) [] s.1 28 [(0, .ref a), (1, .int x1), (2, .int x2), (4, .int s.2)] [])) (fun (r : (Int32 × zH)) => ((.inl (some (.int r.1)), r.2) : zX) = zEnd F) (fun s y hb hs hr hL => zX9_readAll_L28 hD hL hb ⟨hs, hr⟩) hf hM hL
theorem ctX9_readAll {l : Launch} {h : zH} {a : Nat} {x1 : Int32} {x2 : Int32} {x3 : Nat} {v : Int32} {h' : zH} (hL : zBlk mB mP h a) (hf : fX9_readAll h a x1 x2 x3 = some (v, h')) : zC l yX9_readAll (ws_ yX9_readAll cX9_readAll 6 (some .int)) 6 [.ref a, .int x1, .int x2, .ref x3] h (.inl (some (.int v)), h') :=
  z_start (by decide) (Nat.le_of_ble_eq_true rfl) (zX9_readAll (F := (l, 6, h, (.inl (some (.int v)), h'))) (Nat.le_refl _) hL hf rfl)
noncomputable def fX9_resultOf_L3 (h : zH) (a : Nat) (x1 : Nat) (x2 : Int32) (x3 : Int32) (x4 : Int32) : Option ((zH × Int32) ⊕ ((Int32 × zH))) := if x2 ≤ x4 then (zlet (zsI h a 18 x2) (fun h_1 => zlet (zsI h_1 a 19 x3) (fun h_2 => some (.inr ((x2, h_2)))))) else (zck (zAr h x1 x4) (zck (vp_in x4 6000) (zlet (zsI h (a + 16) x4.toNatClampNeg (zI h x1 x4.toNatClampNeg)) (fun h_5 => some (.inl ((h_5, x4 + 1)))))))
theorem zX9_resultOf_L3 {F : zF} {h : zH} {a : Nat} {x1 : Nat} {x2 : Int32} {x3 : Int32} {x4 : Int32} {y : (zH × Int32) ⊕ ((Int32 × zH))} (hD : 1 ≤ F.2.1) (hL : zBlk mB mP h a) (hf : fX9_resultOf_L3 h a x1 x2 x3 x4 = some y) (hM : ((∀ s' : zH × Int32, y = .inl s' → (zBlk mB mP s'.1 a → Z F 5 cX9_resultOf RX9 "resultOf" (some .int) [] s'.1 3 [(0, .ref a), (1, .ref x1), (2, .int x2), (3, .int x3), (4, .int s'.2)] [])) ∧ ∀ r : (Int32 × zH), y = .inr r → ((.inl (some (.int r.1)), r.2) : zX) = zEnd F)) : Z F 5 cX9_resultOf RX9 "resultOf" (some .int) [] h 3 [(0, .ref a), (1, .ref x1), (2, .int x2), (3, .int x3), (4, .int x4)] [] := by
  unfold fX9_resultOf_L3 at hf
  refine z_iload 4 dX9_resultOf_3 rfl ?_
  refine z_iload_n 2 dX9_resultOf_5 rfl rfl ?_
  refine z_icmp_ge 26 dX9_resultOf_6 rfl hf (fun _ hf => ?_) (fun _ hf => ?_)
  · refine z_aload_n 0 dX9_resultOf_26 rfl rfl ?_
    refine z_iload_n 2 dX9_resultOf_27 rfl rfl ?_
    obtain ⟨h_1, he, hf⟩ := zlet_some hf
    refine z_puti fdX9_266_7 (hL.t 0 rfl) (hL.nz 0) he dX9_resultOf_28 ?_
    have hL := hL.I he
    refine z_aload_n 0 dX9_resultOf_31 rfl rfl ?_
    refine z_iload_n 3 dX9_resultOf_32 rfl rfl ?_
    obtain ⟨h_2, he, hf⟩ := zlet_some hf
    refine z_puti fdX9_263_7 (hL.t 0 rfl) (hL.nz 0) he dX9_resultOf_33 ?_
    have hL := hL.I he
    refine z_iload_n 2 dX9_resultOf_36 rfl rfl ?_
    cases hf
    exact z_iret dX9_resultOf_37 rfl (hM.2 _ rfl)
  · refine z_aload_n 0 dX9_resultOf_9 rfl rfl ?_
    refine z_getr fdX9_56_7 (Or.inr ⟨_, rfl⟩) (hL.t 0 rfl) (hL.p 15 rfl) dX9_resultOf_10 ?_
    refine z_iload 4 dX9_resultOf_13 rfl ?_
    refine z_aload_n 1 dX9_resultOf_15 rfl rfl ?_
    refine z_iload 4 dX9_resultOf_16 rfl ?_
    obtain ⟨hi_3, hf⟩ := zck_some hf
    refine z_iald (zAr_t hi_3) hi_3.2 dX9_resultOf_18 ?_
    obtain ⟨hi_4, hf⟩ := zck_some hf
    obtain ⟨h_5, he, hf⟩ := zlet_some hf
    refine z_iast (hL.t 16 rfl) (hL.nz 16) hi_4 he dX9_resultOf_19 ?_
    have hL := hL.I he
    refine z_iinc 4 (x4 + 1) dX9_resultOf_20 rfl rfl (by decide) (lc' := [(0, .ref a), (1, .ref x1), (2, .int x2), (3, .int x3), (4, .int (x4 + 1))]) rfl ?_
    refine z_goto 3 dX9_resultOf_23 rfl ?_
    cases hf
    exact (hM.1 _ rfl) hL
noncomputable def fX9_resultOf (h : zH) (a : Nat) (x1 : Nat) (x2 : Int32) (x3 : Int32) : Option (Int32 × zH) := zlp (fun s => fX9_resultOf_L3 s.1 a x1 x2 x3 s.2) (h, 0)
theorem zX9_resultOf {F : zF} {h : zH} {a : Nat} {x1 : Nat} {x2 : Int32} {x3 : Int32} {y : Int32 × zH} (hD : 1 ≤ F.2.1) (hL : zBlk mB mP h a) (hf : fX9_resultOf h a x1 x2 x3 = some y) (hM : ((.inl (some (.int y.1)), y.2) : zX) = zEnd F) : Z F 5 cX9_resultOf RX9 "resultOf" (some .int) [] h 0 [(0, .ref a), (1, .ref x1), (2, .int x2), (3, .int x3)] [] := by
  unfold fX9_resultOf at hf
  refine z_iconst 0 dX9_resultOf_0 rfl ?_
  refine z_istore dX9_resultOf_1 (by decide) (lc' := [(0, .ref a), (1, .ref x1), (2, .int x2), (3, .int x3), (4, .int 0)]) rfl ?_
  exact z_loop (fun (s : zH × Int32) => (zBlk mB mP s.1 a → Z F 5 cX9_resultOf RX9 "resultOf" (some .int) [] s.1 3 [(0, .ref a), (1, .ref x1), (2, .int x2), (3, .int x3), (4, .int s.2)] [])) (fun (r : (Int32 × zH)) => ((.inl (some (.int r.1)), r.2) : zX) = zEnd F) (fun s y hb hs hr hL => zX9_resultOf_L3 hD hL hb ⟨hs, hr⟩) hf hM hL
theorem ctX9_resultOf {l : Launch} {h : zH} {a : Nat} {x1 : Nat} {x2 : Int32} {x3 : Int32} {v : Int32} {h' : zH} (hL : zBlk mB mP h a) (hf : fX9_resultOf h a x1 x2 x3 = some (v, h')) : zC l yX9_resultOf (ws_ yX9_resultOf cX9_resultOf 5 (some .int)) 1 [.ref a, .ref x1, .int x2, .int x3] h (.inl (some (.int v)), h') :=
  z_start (by decide) (Nat.le_of_ble_eq_true rfl) (zX9_resultOf (F := (l, 1, h, (.inl (some (.int v)), h'))) (Nat.le_refl _) hL hf rfl)
theorem fdX9_84_7 : zFd RX9 84 7 43 (.array .int) true := ⟨_, _, _, rfl, rfl, by decide, rfl, rfl, Or.inl q1435, Or.inl rfl⟩
theorem svX9_370_7 : zIv RX9 370 yX9_readAll (ws_ yX9_readAll cX9_readAll 6 (some .int)) 6 7 3 := ⟨zGood_c q1752 q109, ⟨_, _, rfl, rfl, qs65⟩, Or.inl q1749, q1751, ⟨by decide, by decide⟩, by decide +kernel⟩
theorem svX9_374_7 : zIv RX9 374 yX9_resultOf (ws_ yX9_resultOf cX9_resultOf 5 (some .int)) 5 7 3 := ⟨zGood_c q1787 q109, ⟨_, _, rfl, rfl, qs72⟩, Or.inl q1784, q1786, ⟨by decide, by decide⟩, by decide +kernel⟩
noncomputable def fX9_decode (h : zH) (a : Nat) (x1 : Int32) (x2 : Int32) : Option (Int32 × zH) := zb1 (fX9_isPage h a x1) (fun v_2 => if v_2 = 0 then (zb2 (fX9_tell h a ((-1))) (fun v_22 h_23 => some ((v_22, h_23)))) else (zck (vp_in x1 11) (if (zI h (a + 2) x1.toNatClampNeg) = 0 then (zb2 (fX9_tell h a ((-5))) (fun v_19 h_20 => some ((v_19, h_20)))) else (zb1 (fX9_in x2 0 3) (fun v_5 => if v_5 = 0 then (zb2 (fX9_tell h a ((-1))) (fun v_16 h_17 => some ((v_16, h_17)))) else (zb2 (fX9_readAll h a x1 x2 (a + 25)) (fun v_7 h_8 => if 0 ≤ v_7 then (zb2 (fX9_resultOf h_8 a (a + 25) v_7 1) (fun v_10 h_11 => some ((v_10, h_11)))) else (zb2 (fX9_tell h_8 a v_7) (fun v_13 h_14 => some ((v_13, h_14)))))))))))
theorem zX9_decode {F : zF} {h : zH} {a : Nat} {x1 : Int32} {x2 : Int32} {y : Int32 × zH} (hD : 7 ≤ F.2.1) (hL : zBlk mB mP h a) (hf : fX9_decode h a x1 x2 = some y) (hM : ((.inl (some (.int y.1)), y.2) : zX) = zEnd F) : Z F 4 cX9_decode RX9 "decode" (some .int) [] h 0 [(0, .ref a), (1, .int x1), (2, .int x2)] [] := by
  unfold fX9_decode at hf
  refine z_aload_n 0 dX9_decode_0 rfl rfl ?_
  refine z_iload_n 1 dX9_decode_1 rfl rfl ?_
  obtain ⟨v_2, hc_1, hf⟩ := zb1_some hf
  refine z_invVi svX9_170_7 (ctX9_isPage hL hc_1) (hL.t 0 rfl) ⟨Nat.le_trans (by decide) hD, by decide⟩ rfl rfl (Nat.le_of_ble_eq_true rfl) dX9_decode_2 ?_
  refine z_if_ne 14 dX9_decode_5 rfl hf (fun _ hf => ?_) (fun _ hf => ?_)
  · refine z_aload_n 0 dX9_decode_14 rfl rfl ?_
    refine z_getr fdX9_13_7 (Or.inr ⟨_, rfl⟩) (hL.t 0 rfl) (hL.p 1 rfl) dX9_decode_15 ?_
    refine z_iload_n 1 dX9_decode_18 rfl rfl ?_
    obtain ⟨hi_3, hf⟩ := zck_some hf
    refine z_zald (hL.t 2 rfl) hi_3 dX9_decode_19 ?_
    refine z_if_ne 30 dX9_decode_20 rfl hf (fun _ hf => ?_) (fun _ hf => ?_)
    · refine z_iload_n 2 dX9_decode_30 rfl rfl ?_
      refine z_iconst 0 dX9_decode_31 rfl ?_
      refine z_iconst 3 dX9_decode_32 rfl ?_
      obtain ⟨v_5, hc_4, hf⟩ := zb1_some hf
      refine z_invSi ssX9_156 (ctX9_in hc_4) ⟨Nat.le_trans (by decide) hD, by decide⟩ rfl rfl (Nat.le_of_ble_eq_true rfl) dX9_decode_33 ?_
      refine z_if_ne 45 dX9_decode_36 rfl hf (fun _ hf => ?_) (fun _ hf => ?_)
      · refine z_aload_n 0 dX9_decode_45 rfl rfl ?_
        refine z_iload_n 1 dX9_decode_46 rfl rfl ?_
        refine z_iload_n 2 dX9_decode_47 rfl rfl ?_
        refine z_aload_n 0 dX9_decode_48 rfl rfl ?_
        refine z_getr fdX9_84_7 (Or.inr ⟨_, rfl⟩) (hL.t 0 rfl) (hL.p 24 rfl) dX9_decode_49 ?_
        obtain ⟨v_7, h_8, hc_6, hf⟩ := zb2_some hf
        have hct := ctX9_readAll (l := F.1) hL hc_6
        refine z_invVi svX9_370_7 hct (hL.t 0 rfl) ⟨Nat.le_trans (by decide) hD, by decide⟩ rfl rfl (Nat.le_of_ble_eq_true rfl) dX9_decode_52 ?_
        have hL := hL.ext mOk hct.1
        refine z_istore_n dX9_decode_55 rfl (by decide) (lc' := [(0, .ref a), (1, .int x1), (2, .int x2), (3, .int v_7)]) rfl ?_
        refine z_iload_n 3 dX9_decode_56 rfl rfl ?_
        refine z_if_ge 68 dX9_decode_57 rfl hf (fun _ hf => ?_) (fun _ hf => ?_)
        · refine z_aload_n 0 dX9_decode_68 rfl rfl ?_
          refine z_aload_n 0 dX9_decode_69 rfl rfl ?_
          refine z_getr fdX9_84_7 (Or.inr ⟨_, rfl⟩) (hL.t 0 rfl) (hL.p 24 rfl) dX9_decode_70 ?_
          refine z_iload_n 3 dX9_decode_73 rfl rfl ?_
          refine z_iconst 1 dX9_decode_74 rfl ?_
          obtain ⟨v_10, h_11, hc_9, hf⟩ := zb2_some hf
          have hct := ctX9_resultOf (l := F.1) hL hc_9
          refine z_invVi svX9_374_7 hct (hL.t 0 rfl) ⟨Nat.le_trans (by decide) hD, by decide⟩ rfl rfl (Nat.le_of_ble_eq_true rfl) dX9_decode_75 ?_
          have hL := hL.ext mOk hct.1
          cases hf
          exact z_iret dX9_decode_78 rfl hM
        · refine z_aload_n 0 dX9_decode_60 rfl rfl ?_
          refine z_iload_n 3 dX9_decode_61 rfl rfl ?_
          obtain ⟨v_13, h_14, hc_12, hf⟩ := zb2_some hf
          have hct := ctX9_tell (l := F.1) hL hc_12
          refine z_invVi svX9_166_7 hct (hL.t 0 rfl) ⟨Nat.le_trans (by decide) hD, by decide⟩ rfl rfl (Nat.le_of_ble_eq_true rfl) dX9_decode_62 ?_
          have hL := hL.ext mOk hct.1
          refine z_goto 78 dX9_decode_65 rfl ?_
          cases hf
          exact z_iret dX9_decode_78 rfl hM
      · refine z_aload_n 0 dX9_decode_39 rfl rfl ?_
        refine z_iconst (-1) dX9_decode_40 rfl ?_
        obtain ⟨v_16, h_17, hc_15, hf⟩ := zb2_some hf
        have hct := ctX9_tell (l := F.1) hL hc_15
        refine z_invVi svX9_166_7 hct (hL.t 0 rfl) ⟨Nat.le_trans (by decide) hD, by decide⟩ rfl rfl (Nat.le_of_ble_eq_true rfl) dX9_decode_41 ?_
        have hL := hL.ext mOk hct.1
        cases hf
        exact z_iret dX9_decode_44 rfl hM
    · refine z_aload_n 0 dX9_decode_23 rfl rfl ?_
      refine z_bipush (-5) dX9_decode_24 rfl ?_
      obtain ⟨v_19, h_20, hc_18, hf⟩ := zb2_some hf
      have hct := ctX9_tell (l := F.1) hL hc_18
      refine z_invVi svX9_166_7 hct (hL.t 0 rfl) ⟨Nat.le_trans (by decide) hD, by decide⟩ rfl rfl (Nat.le_of_ble_eq_true rfl) dX9_decode_26 ?_
      have hL := hL.ext mOk hct.1
      cases hf
      exact z_iret dX9_decode_29 rfl hM
  · refine z_aload_n 0 dX9_decode_8 rfl rfl ?_
    refine z_iconst (-1) dX9_decode_9 rfl ?_
    obtain ⟨v_22, h_23, hc_21, hf⟩ := zb2_some hf
    have hct := ctX9_tell (l := F.1) hL hc_21
    refine z_invVi svX9_166_7 hct (hL.t 0 rfl) ⟨Nat.le_trans (by decide) hD, by decide⟩ rfl rfl (Nat.le_of_ble_eq_true rfl) dX9_decode_10 ?_
    have hL := hL.ext mOk hct.1
    cases hf
    exact z_iret dX9_decode_13 rfl hM
theorem ctX9_decode {l : Launch} {h : zH} {a : Nat} {x1 : Int32} {x2 : Int32} {v : Int32} {h' : zH} (hL : zBlk mB mP h a) (hf : fX9_decode h a x1 x2 = some (v, h')) : zC l yX9_decode (ws_ yX9_decode cX9_decode 4 (some .int)) 7 [.ref a, .int x1, .int x2] h (.inl (some (.int v)), h') :=
  z_start (by decide) (Nat.le_of_ble_eq_true rfl) (zX9_decode (F := (l, 7, h, (.inl (some (.int v)), h'))) (Nat.le_refl _) hL hf rfl)
theorem fdX9_93_7 : zFd RX9 93 7 46 (.array .int) true := ⟨_, _, _, rfl, rfl, by decide, rfl, rfl, Or.inl q1438, Or.inl rfl⟩
noncomputable def fX9_leads_J122 (g : (zH → Nat → Int32 → Int32 → Int32 → Int32 → Int32 → Option (Int32 × zH))) (h : zH) (a : Nat) (x1 : Int32) (x2 : Int32) (x3 : Int32) (x4 : Int32) (x5 : Int32) (x6 : Int32) (x7 : Int32) (k0 : Int32) : Option ((zH × Int32) ⊕ ((Int32 × zH))) := if k0 = 0 then (some (.inl ((h, x6 + 1)))) else (zck (vp_in (x4 - 1) 8) (zlet (zsI h (a + 28) (x4 - 1).toNatClampNeg x7) (fun h_5 => some (.inr ((1, h_5))))))
theorem zX9_leads_J122 {F : zF} {g : (zH → Nat → Int32 → Int32 → Int32 → Int32 → Int32 → Option (Int32 × zH))} {h : zH} {a : Nat} {x1 : Int32} {x2 : Int32} {x3 : Int32} {x4 : Int32} {x5 : Int32} {x6 : Int32} {x7 : Int32} {k0 : Int32} {y : (zH × Int32) ⊕ ((Int32 × zH))} {dg : Nat} (hD : dg + 1 ≤ F.2.1 ∧ 2 ≤ F.2.1) (hg : ∀ {l : Launch} {h : zH} {a : Nat} {x1 : Int32} {x2 : Int32} {x3 : Int32} {x4 : Int32} {x5 : Int32} {v : Int32} {h' : zH}, zBlk mB mP h a → g h a x1 x2 x3 x4 x5 = some (v, h') → zC l yX9_leads (ws_ yX9_leads cX9_leads 9 (some .boolean)) dg [.ref a, .int x1, .int x2, .int x3, .int x4, .int x5] h (.inl (some (.int v)), h')) (hL : zBlk mB mP h a) (hf : fX9_leads_J122 g h a x1 x2 x3 x4 x5 x6 x7 k0 = some y) (hM : ((∀ s' : zH × Int32, y = .inl s' → (zBlk mB mP s'.1 a → Z F 9 cX9_leads RX9 "leads" (some .boolean) [] s'.1 19 [(0, .ref a), (1, .int x1), (2, .int x2), (3, .int x3), (4, .int x4), (5, .int x5), (6, .int s'.2)] [])) ∧ ∀ r : (Int32 × zH), y = .inr r → ((.inl (some (.int r.1)), r.2) : zX) = zEnd F)) : Z F 9 cX9_leads RX9 "leads" (some .boolean) [] h 122 [(0, .ref a), (1, .int x1), (2, .int x2), (3, .int x3), (4, .int x4), (5, .int x5), (6, .int x6), (7, .int x7)] [.int k0] := by
  unfold fX9_leads_J122 at hf
  refine z_istore dX9_leads_122 (by decide) (lc' := [(0, .ref a), (1, .int x1), (2, .int x2), (3, .int x3), (4, .int x4), (5, .int x5), (6, .int x6), (7, .int x7), (8, .int k0)]) rfl ?_
  refine z_iload 8 dX9_leads_124 rfl ?_
  refine z_if_ne 132 dX9_leads_126 rfl hf (fun _ hf => ?_) (fun _ hf => ?_)
  · refine z_aload_n 0 dX9_leads_132 rfl rfl ?_
    refine z_getr fdX9_93_7 (Or.inr ⟨_, rfl⟩) (hL.t 0 rfl) (hL.p 27 rfl) dX9_leads_133 ?_
    refine z_iload 4 dX9_leads_136 rfl ?_
    refine z_iconst 1 dX9_leads_138 rfl ?_
    refine z_isub dX9_leads_139 ?_
    refine z_iload 7 dX9_leads_140 rfl ?_
    obtain ⟨hi_4, hf⟩ := zck_some hf
    obtain ⟨h_5, he, hf⟩ := zlet_some hf
    refine z_iast (hL.t 28 rfl) (hL.nz 28) hi_4 he dX9_leads_142 ?_
    have hL := hL.I he
    refine z_iconst 1 dX9_leads_143 rfl ?_
    cases hf
    exact z_zret dX9_leads_144 rfl (Or.inr rfl) (hM.2 _ rfl)
  · refine z_goto 145 dX9_leads_129 rfl ?_
    refine z_iinc 6 (x6 + 1) dX9_leads_145 rfl rfl (by decide) (lc' := [(0, .ref a), (1, .int x1), (2, .int x2), (3, .int x3), (4, .int x4), (5, .int x5), (6, .int (x6 + 1)), (7, .int x7), (8, .int k0)]) rfl ?_
    refine z_goto 19 dX9_leads_148 rfl ?_
    cases hf
    refine z_sub [0, 1, 2, 3, 4, 5, 6] rfl ?_
    exact (hM.1 _ rfl) hL
noncomputable def fX9_leads_J121 (g : (zH → Nat → Int32 → Int32 → Int32 → Int32 → Int32 → Option (Int32 × zH))) (h : zH) (a : Nat) (x1 : Int32) (x2 : Int32) (x3 : Int32) (x4 : Int32) (x5 : Int32) (x6 : Int32) (x7 : Int32) : Option ((zH × Int32) ⊕ ((Int32 × zH))) := fX9_leads_J122 g h a x1 x2 x3 x4 x5 x6 x7 0
theorem zX9_leads_J121 {F : zF} {g : (zH → Nat → Int32 → Int32 → Int32 → Int32 → Int32 → Option (Int32 × zH))} {h : zH} {a : Nat} {x1 : Int32} {x2 : Int32} {x3 : Int32} {x4 : Int32} {x5 : Int32} {x6 : Int32} {x7 : Int32} {y : (zH × Int32) ⊕ ((Int32 × zH))} {dg : Nat} (hD : dg + 1 ≤ F.2.1 ∧ 2 ≤ F.2.1) (hg : ∀ {l : Launch} {h : zH} {a : Nat} {x1 : Int32} {x2 : Int32} {x3 : Int32} {x4 : Int32} {x5 : Int32} {v : Int32} {h' : zH}, zBlk mB mP h a → g h a x1 x2 x3 x4 x5 = some (v, h') → zC l yX9_leads (ws_ yX9_leads cX9_leads 9 (some .boolean)) dg [.ref a, .int x1, .int x2, .int x3, .int x4, .int x5] h (.inl (some (.int v)), h')) (hL : zBlk mB mP h a) (hf : fX9_leads_J121 g h a x1 x2 x3 x4 x5 x6 x7 = some y) (hM : ((∀ s' : zH × Int32, y = .inl s' → (zBlk mB mP s'.1 a → Z F 9 cX9_leads RX9 "leads" (some .boolean) [] s'.1 19 [(0, .ref a), (1, .int x1), (2, .int x2), (3, .int x3), (4, .int x4), (5, .int x5), (6, .int s'.2)] [])) ∧ ∀ r : (Int32 × zH), y = .inr r → ((.inl (some (.int r.1)), r.2) : zX) = zEnd F)) : Z F 9 cX9_leads RX9 "leads" (some .boolean) [] h 121 [(0, .ref a), (1, .int x1), (2, .int x2), (3, .int x3), (4, .int x4), (5, .int x5), (6, .int x6), (7, .int x7)] [] := by
  unfold fX9_leads_J121 at hf
  refine z_iconst 0 dX9_leads_121 rfl ?_
  exact zX9_leads_J122 hD hg hL hf hM
theorem svX9_324_7 : zIv RX9 324 yX9_leads (ws_ yX9_leads cX9_leads 9 (some .boolean)) 9 7 5 := ⟨zGood_c q1811 q109, ⟨_, _, rfl, rfl, qs77⟩, Or.inl q1808, q1810, ⟨by decide, by decide⟩, by decide +kernel⟩
noncomputable def fX9_leads_J81 (g : (zH → Nat → Int32 → Int32 → Int32 → Int32 → Int32 → Option (Int32 × zH))) (h : zH) (a : Nat) (x1 : Int32) (x2 : Int32) (x3 : Int32) (x4 : Int32) (x5 : Int32) (x6 : Int32) (x7 : Int32) : Option ((zH × Int32) ⊕ ((Int32 × zH))) := fX9_leads_J122 g h a x1 x2 x3 x4 x5 x6 x7 0
theorem zX9_leads_J81 {F : zF} {g : (zH → Nat → Int32 → Int32 → Int32 → Int32 → Int32 → Option (Int32 × zH))} {h : zH} {a : Nat} {x1 : Int32} {x2 : Int32} {x3 : Int32} {x4 : Int32} {x5 : Int32} {x6 : Int32} {x7 : Int32} {y : (zH × Int32) ⊕ ((Int32 × zH))} {dg : Nat} (hD : dg + 1 ≤ F.2.1 ∧ 2 ≤ F.2.1) (hg : ∀ {l : Launch} {h : zH} {a : Nat} {x1 : Int32} {x2 : Int32} {x3 : Int32} {x4 : Int32} {x5 : Int32} {v : Int32} {h' : zH}, zBlk mB mP h a → g h a x1 x2 x3 x4 x5 = some (v, h') → zC l yX9_leads (ws_ yX9_leads cX9_leads 9 (some .boolean)) dg [.ref a, .int x1, .int x2, .int x3, .int x4, .int x5] h (.inl (some (.int v)), h')) (hL : zBlk mB mP h a) (hf : fX9_leads_J81 g h a x1 x2 x3 x4 x5 x6 x7 = some y) (hM : ((∀ s' : zH × Int32, y = .inl s' → (zBlk mB mP s'.1 a → Z F 9 cX9_leads RX9 "leads" (some .boolean) [] s'.1 19 [(0, .ref a), (1, .int x1), (2, .int x2), (3, .int x3), (4, .int x4), (5, .int x5), (6, .int s'.2)] [])) ∧ ∀ r : (Int32 × zH), y = .inr r → ((.inl (some (.int r.1)), r.2) : zX) = zEnd F)) : Z F 9 cX9_leads RX9 "leads" (some .boolean) [] h 81 [(0, .ref a), (1, .int x1), (2, .int x2), (3, .int x3), (4, .int x4), (5, .int x5), (6, .int x6), (7, .int x7)] [] := by
  unfold fX9_leads_J81 at hf
  refine z_iconst 0 dX9_leads_81 rfl ?_
  refine z_goto 122 dX9_leads_82 rfl ?_
  exact zX9_leads_J122 hD hg hL hf hM
noncomputable def fX9_leads_J77 (g : (zH → Nat → Int32 → Int32 → Int32 → Int32 → Int32 → Option (Int32 × zH))) (h : zH) (a : Nat) (x1 : Int32) (x2 : Int32) (x3 : Int32) (x4 : Int32) (x5 : Int32) (x6 : Int32) (x7 : Int32) : Option ((zH × Int32) ⊕ ((Int32 × zH))) := fX9_leads_J122 g h a x1 x2 x3 x4 x5 x6 x7 1
theorem zX9_leads_J77 {F : zF} {g : (zH → Nat → Int32 → Int32 → Int32 → Int32 → Int32 → Option (Int32 × zH))} {h : zH} {a : Nat} {x1 : Int32} {x2 : Int32} {x3 : Int32} {x4 : Int32} {x5 : Int32} {x6 : Int32} {x7 : Int32} {y : (zH × Int32) ⊕ ((Int32 × zH))} {dg : Nat} (hD : dg + 1 ≤ F.2.1 ∧ 2 ≤ F.2.1) (hg : ∀ {l : Launch} {h : zH} {a : Nat} {x1 : Int32} {x2 : Int32} {x3 : Int32} {x4 : Int32} {x5 : Int32} {v : Int32} {h' : zH}, zBlk mB mP h a → g h a x1 x2 x3 x4 x5 = some (v, h') → zC l yX9_leads (ws_ yX9_leads cX9_leads 9 (some .boolean)) dg [.ref a, .int x1, .int x2, .int x3, .int x4, .int x5] h (.inl (some (.int v)), h')) (hL : zBlk mB mP h a) (hf : fX9_leads_J77 g h a x1 x2 x3 x4 x5 x6 x7 = some y) (hM : ((∀ s' : zH × Int32, y = .inl s' → (zBlk mB mP s'.1 a → Z F 9 cX9_leads RX9 "leads" (some .boolean) [] s'.1 19 [(0, .ref a), (1, .int x1), (2, .int x2), (3, .int x3), (4, .int x4), (5, .int x5), (6, .int s'.2)] [])) ∧ ∀ r : (Int32 × zH), y = .inr r → ((.inl (some (.int r.1)), r.2) : zX) = zEnd F)) : Z F 9 cX9_leads RX9 "leads" (some .boolean) [] h 77 [(0, .ref a), (1, .int x1), (2, .int x2), (3, .int x3), (4, .int x4), (5, .int x5), (6, .int x6), (7, .int x7)] [] := by
  unfold fX9_leads_J77 at hf
  refine z_iconst 1 dX9_leads_77 rfl ?_
  refine z_goto 122 dX9_leads_78 rfl ?_
  exact zX9_leads_J122 hD hg hL hf hM
noncomputable def fX9_leads_L19 (g : (zH → Nat → Int32 → Int32 → Int32 → Int32 → Int32 → Option (Int32 × zH))) (h : zH) (a : Nat) (x1 : Int32) (x2 : Int32) (x3 : Int32) (x4 : Int32) (x5 : Int32) (x6 : Int32) : Option ((zH × Int32) ⊕ ((Int32 × zH))) := if 256 ≤ x6 then (some (.inr ((0, h)))) else (zb1 (fX9_shiftOf h a x1 x2 x6) (fun v_2 => if 0 ≤ v_2 then (if x4 = 1 then (zck (vp_in v_2 110) (if (zI h (a + 12) v_2.toNatClampNeg) = x3 then (zck (vp_in v_2 110) (if (zI h (a + 13) v_2.toNatClampNeg) = 0 then (if x5 = 0 then (fX9_leads_J81 g h a x1 x2 x3 x4 x5 x6 v_2) else (fX9_leads_J77 g h a x1 x2 x3 x4 x5 x6 v_2)) else (fX9_leads_J77 g h a x1 x2 x3 x4 x5 x6 v_2))) else (fX9_leads_J81 g h a x1 x2 x3 x4 x5 x6 v_2))) else (zck (vp_in v_2 110) (if (zI h (a + 13) v_2.toNatClampNeg) = 0 then (fX9_leads_J121 g h a x1 x2 x3 x4 x5 x6 v_2) else (zck (vp_in v_2 110) (zb2 (g h a x1 (zI h (a + 12) v_2.toNatClampNeg) x3 (x4 - 1) x5) (fun v_8 h_9 => if v_8 = 0 then (fX9_leads_J121 g h_9 a x1 x2 x3 x4 x5 x6 v_2) else (fX9_leads_J122 g h_9 a x1 x2 x3 x4 x5 x6 v_2 1))))))) else (some (.inl ((h, x6 + 1))))))
theorem zX9_leads_L19 {F : zF} {g : (zH → Nat → Int32 → Int32 → Int32 → Int32 → Int32 → Option (Int32 × zH))} {h : zH} {a : Nat} {x1 : Int32} {x2 : Int32} {x3 : Int32} {x4 : Int32} {x5 : Int32} {x6 : Int32} {y : (zH × Int32) ⊕ ((Int32 × zH))} {dg : Nat} (hD : dg + 1 ≤ F.2.1 ∧ 2 ≤ F.2.1) (hg : ∀ {l : Launch} {h : zH} {a : Nat} {x1 : Int32} {x2 : Int32} {x3 : Int32} {x4 : Int32} {x5 : Int32} {v : Int32} {h' : zH}, zBlk mB mP h a → g h a x1 x2 x3 x4 x5 = some (v, h') → zC l yX9_leads (ws_ yX9_leads cX9_leads 9 (some .boolean)) dg [.ref a, .int x1, .int x2, .int x3, .int x4, .int x5] h (.inl (some (.int v)), h')) (hL : zBlk mB mP h a) (hf : fX9_leads_L19 g h a x1 x2 x3 x4 x5 x6 = some y) (hM : ((∀ s' : zH × Int32, y = .inl s' → (zBlk mB mP s'.1 a → Z F 9 cX9_leads RX9 "leads" (some .boolean) [] s'.1 19 [(0, .ref a), (1, .int x1), (2, .int x2), (3, .int x3), (4, .int x4), (5, .int x5), (6, .int s'.2)] [])) ∧ ∀ r : (Int32 × zH), y = .inr r → ((.inl (some (.int r.1)), r.2) : zX) = zEnd F)) : Z F 9 cX9_leads RX9 "leads" (some .boolean) [] h 19 [(0, .ref a), (1, .int x1), (2, .int x2), (3, .int x3), (4, .int x4), (5, .int x5), (6, .int x6)] [] := by
  unfold fX9_leads_L19 at hf
  refine z_iload 6 dX9_leads_19 rfl ?_
  refine z_sipush 256 dX9_leads_21 rfl ?_
  refine z_icmp_ge 151 dX9_leads_24 rfl hf (fun _ hf => ?_) (fun _ hf => ?_)
  · refine z_iconst 0 dX9_leads_151 rfl ?_
    cases hf
    exact z_zret dX9_leads_152 rfl (Or.inl rfl) (hM.2 _ rfl)
  · refine z_aload_n 0 dX9_leads_27 rfl rfl ?_
    refine z_iload_n 1 dX9_leads_28 rfl rfl ?_
    refine z_iload_n 2 dX9_leads_29 rfl rfl ?_
    refine z_iload 6 dX9_leads_30 rfl ?_
    obtain ⟨v_2, hc_1, hf⟩ := zb1_some hf
    refine z_invVi svX9_194_7 (ctX9_shiftOf hL hc_1) (hL.t 0 rfl) ⟨Nat.le_trans (by decide) hD.2, by decide⟩ rfl rfl (Nat.le_of_ble_eq_true rfl) dX9_leads_32 ?_
    refine z_istore dX9_leads_35 (by decide) (lc' := [(0, .ref a), (1, .int x1), (2, .int x2), (3, .int x3), (4, .int x4), (5, .int x5), (6, .int x6), (7, .int v_2)]) rfl ?_
    refine z_iload 7 dX9_leads_37 rfl ?_
    refine z_if_ge 45 dX9_leads_39 rfl hf (fun _ hf => ?_) (fun _ hf => ?_)
    · refine z_iload 4 dX9_leads_45 rfl ?_
      refine z_iconst 1 dX9_leads_47 rfl ?_
      refine z_icmp_ne 85 dX9_leads_48 rfl hf (fun _ hf => ?_) (fun _ hf => ?_)
      · refine z_aload_n 0 dX9_leads_85 rfl rfl ?_
        refine z_getr fdX9_47_7 (Or.inr ⟨_, rfl⟩) (hL.t 0 rfl) (hL.p 12 rfl) dX9_leads_86 ?_
        refine z_iload 7 dX9_leads_89 rfl ?_
        obtain ⟨hi_3, hf⟩ := zck_some hf
        refine z_zald (hL.t 13 rfl) hi_3 dX9_leads_91 ?_
        refine z_if_eq 121 dX9_leads_92 rfl hf (fun _ hf => ?_) (fun _ hf => ?_)
        · exact zX9_leads_J121 hD hg hL hf hM
        · refine z_aload_n 0 dX9_leads_95 rfl rfl ?_
          refine z_iload_n 1 dX9_leads_96 rfl rfl ?_
          refine z_aload_n 0 dX9_leads_97 rfl rfl ?_
          refine z_getr fdX9_44_7 (Or.inr ⟨_, rfl⟩) (hL.t 0 rfl) (hL.p 11 rfl) dX9_leads_98 ?_
          refine z_iload 7 dX9_leads_101 rfl ?_
          obtain ⟨hi_6, hf⟩ := zck_some hf
          refine z_iald (hL.t 12 rfl) hi_6 dX9_leads_103 ?_
          refine z_iload_n 3 dX9_leads_104 rfl rfl ?_
          refine z_iload 4 dX9_leads_105 rfl ?_
          refine z_iconst 1 dX9_leads_107 rfl ?_
          refine z_isub dX9_leads_108 ?_
          refine z_iload 5 dX9_leads_109 rfl ?_
          obtain ⟨v_8, h_9, hc_7, hf⟩ := zb2_some hf
          have hct := hg (l := F.1) hL hc_7
          refine z_invVi svX9_324_7 hct (hL.t 0 rfl) ⟨hD.1, by decide⟩ rfl rfl (Nat.le_of_ble_eq_true rfl) dX9_leads_111 ?_
          have hL := hL.ext mOk hct.1
          refine z_if_eq 121 dX9_leads_114 rfl hf (fun _ hf => ?_) (fun _ hf => ?_)
          · exact zX9_leads_J121 hD hg hL hf hM
          · refine z_iconst 1 dX9_leads_117 rfl ?_
            refine z_goto 122 dX9_leads_118 rfl ?_
            exact zX9_leads_J122 hD hg hL hf hM
      · refine z_aload_n 0 dX9_leads_51 rfl rfl ?_
        refine z_getr fdX9_44_7 (Or.inr ⟨_, rfl⟩) (hL.t 0 rfl) (hL.p 11 rfl) dX9_leads_52 ?_
        refine z_iload 7 dX9_leads_55 rfl ?_
        obtain ⟨hi_10, hf⟩ := zck_some hf
        refine z_iald (hL.t 12 rfl) hi_10 dX9_leads_57 ?_
        refine z_iload_n 3 dX9_leads_58 rfl rfl ?_
        refine z_icmp_ne 81 dX9_leads_59 rfl hf (fun _ hf => ?_) (fun _ hf => ?_)
        · exact zX9_leads_J81 hD hg hL hf hM
        · refine z_aload_n 0 dX9_leads_62 rfl rfl ?_
          refine z_getr fdX9_47_7 (Or.inr ⟨_, rfl⟩) (hL.t 0 rfl) (hL.p 12 rfl) dX9_leads_63 ?_
          refine z_iload 7 dX9_leads_66 rfl ?_
          obtain ⟨hi_11, hf⟩ := zck_some hf
          refine z_zald (hL.t 13 rfl) hi_11 dX9_leads_68 ?_
          refine z_if_ne 77 dX9_leads_69 rfl hf (fun _ hf => ?_) (fun _ hf => ?_)
          · exact zX9_leads_J77 hD hg hL hf hM
          · refine z_iload 5 dX9_leads_72 rfl ?_
            refine z_if_eq 81 dX9_leads_74 rfl hf (fun _ hf => ?_) (fun _ hf => ?_)
            · exact zX9_leads_J81 hD hg hL hf hM
            · exact zX9_leads_J77 hD hg hL hf hM
    · refine z_goto 145 dX9_leads_42 rfl ?_
      refine z_iinc 6 (x6 + 1) dX9_leads_145 rfl rfl (by decide) (lc' := [(0, .ref a), (1, .int x1), (2, .int x2), (3, .int x3), (4, .int x4), (5, .int x5), (6, .int (x6 + 1)), (7, .int v_2)]) rfl ?_
      refine z_goto 19 dX9_leads_148 rfl ?_
      cases hf
      refine z_sub [0, 1, 2, 3, 4, 5, 6] rfl ?_
      exact (hM.1 _ rfl) hL
noncomputable def fX9_leads_B (g : (zH → Nat → Int32 → Int32 → Int32 → Int32 → Int32 → Option (Int32 × zH))) (h : zH) (a : Nat) (x1 : Int32) (x2 : Int32) (x3 : Int32) (x4 : Int32) (x5 : Int32) : Option (Int32 × zH) := if x4 = 0 then (if x2 = x3 then (some ((1, h))) else (some ((0, h)))) else (zlp (fun s => fX9_leads_L19 g s.1 a x1 x2 x3 x4 x5 s.2) (h, 0))
theorem zX9_leads_B {F : zF} {g : (zH → Nat → Int32 → Int32 → Int32 → Int32 → Int32 → Option (Int32 × zH))} {h : zH} {a : Nat} {x1 : Int32} {x2 : Int32} {x3 : Int32} {x4 : Int32} {x5 : Int32} {y : Int32 × zH} {dg : Nat} (hD : dg + 1 ≤ F.2.1 ∧ 2 ≤ F.2.1) (hg : ∀ {l : Launch} {h : zH} {a : Nat} {x1 : Int32} {x2 : Int32} {x3 : Int32} {x4 : Int32} {x5 : Int32} {v : Int32} {h' : zH}, zBlk mB mP h a → g h a x1 x2 x3 x4 x5 = some (v, h') → zC l yX9_leads (ws_ yX9_leads cX9_leads 9 (some .boolean)) dg [.ref a, .int x1, .int x2, .int x3, .int x4, .int x5] h (.inl (some (.int v)), h')) (hL : zBlk mB mP h a) (hf : fX9_leads_B g h a x1 x2 x3 x4 x5 = some y) (hM : ((.inl (some (.int y.1)), y.2) : zX) = zEnd F) : Z F 9 cX9_leads RX9 "leads" (some .boolean) [] h 0 [(0, .ref a), (1, .int x1), (2, .int x2), (3, .int x3), (4, .int x4), (5, .int x5)] [] := by
  unfold fX9_leads_B at hf
  refine z_iload 4 dX9_leads_0 rfl ?_
  refine z_if_ne 16 dX9_leads_2 rfl hf (fun _ hf => ?_) (fun _ hf => ?_)
  · refine z_iconst 0 dX9_leads_16 rfl ?_
    refine z_istore dX9_leads_17 (by decide) (lc' := [(0, .ref a), (1, .int x1), (2, .int x2), (3, .int x3), (4, .int x4), (5, .int x5), (6, .int 0)]) rfl ?_
    exact z_loop (fun (s : zH × Int32) => (zBlk mB mP s.1 a → Z F 9 cX9_leads RX9 "leads" (some .boolean) [] s.1 19 [(0, .ref a), (1, .int x1), (2, .int x2), (3, .int x3), (4, .int x4), (5, .int x5), (6, .int s.2)] [])) (fun (r : (Int32 × zH)) => ((.inl (some (.int r.1)), r.2) : zX) = zEnd F) (fun s y hb hs hr hL => zX9_leads_L19 hD hg hL hb ⟨hs, hr⟩) hf hM hL
  · refine z_iload_n 2 dX9_leads_5 rfl rfl ?_
    refine z_iload_n 3 dX9_leads_6 rfl rfl ?_
    refine z_icmp_ne 14 dX9_leads_7 rfl hf (fun _ hf => ?_) (fun _ hf => ?_)
    · refine z_iconst 0 dX9_leads_14 rfl ?_
      cases hf
      exact z_zret dX9_leads_15 rfl (Or.inl rfl) hM
    · refine z_iconst 1 dX9_leads_10 rfl ?_
      refine z_goto 15 dX9_leads_11 rfl ?_
      cases hf
      exact z_zret dX9_leads_15 rfl (Or.inr rfl) hM
noncomputable def fX9_leads : Nat → zH → Nat → Int32 → Int32 → Int32 → Int32 → Int32 → Option (Int32 × zH)
  | 0 => fun _ _ _ _ _ _ _ => none
  | n + 1 => fX9_leads_B (fX9_leads n)
theorem ctX9_leads (n : Nat) : ∀ {l : Launch} {h : zH} {a : Nat} {x1 : Int32} {x2 : Int32} {x3 : Int32} {x4 : Int32} {x5 : Int32} {v : Int32} {h' : zH}, zBlk mB mP h a → fX9_leads n h a x1 x2 x3 x4 x5 = some (v, h') → zC l yX9_leads (ws_ yX9_leads cX9_leads 9 (some .boolean)) (n + 2) [.ref a, .int x1, .int x2, .int x3, .int x4, .int x5] h (.inl (some (.int v)), h') := by
  induction n with
  | zero => intro l h a x1 x2 x3 x4 x5 v h' hL hf; cases hf
  | succ n ih =>
    intro l h a x1 x2 x3 x4 x5 v h' hL hf
    exact z_start (by decide) (Nat.le_of_ble_eq_true rfl) (zX9_leads_B (F := (l, n + 1 + 2, h, (.inl (some (.int v)), h'))) (dg := n + 2) ⟨by show n + 2 + 1 ≤ n + 1 + 2; omega, by show 2 ≤ n + 1 + 2; omega⟩ ih hL hf rfl)
theorem fdX9_328_7 : zFd RX9 328 7 38 .int false := ⟨_, _, _, rfl, rfl, by decide, rfl, rfl, Or.inl q1430, Or.inl rfl⟩
theorem fdX9_331_7 : zFd RX9 331 7 48 .boolean false := ⟨_, _, _, rfl, rfl, by decide, rfl, rfl, Or.inl q1440, Or.inl rfl⟩
noncomputable def fX9_putByte (h : zH) (a : Nat) (x1 : Int32) : Option (Int32 × zH) := if (zI h a 37) = (zI h a 38) then (some (((-6), h))) else (if (zI h a 48) = 0 then (zb1 (fX9_put h a x1) (fun h_3 => some ((0, h_3)))) else (zlet (zsI h a 37 ((zI h a 37) + 1)) (fun h_4 => some ((0, h_4)))))
theorem zX9_putByte {F : zF} {h : zH} {a : Nat} {x1 : Int32} {y : Int32 × zH} (hD : 2 ≤ F.2.1) (hL : zBlk mB mP h a) (hf : fX9_putByte h a x1 = some y) (hM : ((.inl (some (.int y.1)), y.2) : zX) = zEnd F) : Z F 2 cX9_putByte RX9 "putByte" (some .int) [] h 0 [(0, .ref a), (1, .int x1)] [] := by
  unfold fX9_putByte at hf
  refine z_aload_n 0 dX9_putByte_0 rfl rfl ?_
  refine z_geti fdX9_272_7 (hL.t 0 rfl) dX9_putByte_1 ?_
  refine z_aload_n 0 dX9_putByte_4 rfl rfl ?_
  refine z_geti fdX9_328_7 (hL.t 0 rfl) dX9_putByte_5 ?_
  refine z_icmp_ne 14 dX9_putByte_8 rfl hf (fun _ hf => ?_) (fun _ hf => ?_)
  · refine z_aload_n 0 dX9_putByte_14 rfl rfl ?_
    refine z_getz fdX9_331_7 (hL.t 0 rfl) dX9_putByte_15 ?_
    refine z_if_eq 34 dX9_putByte_18 rfl hf (fun _ hf => ?_) (fun _ hf => ?_)
    · refine z_aload_n 0 dX9_putByte_34 rfl rfl ?_
      refine z_iload_n 1 dX9_putByte_35 rfl rfl ?_
      obtain ⟨h_3, hc_1, hf⟩ := zb1_some hf
      have hct := ctX9_put (l := F.1) hL hc_1
      refine z_invVv svX9_275_7 hct (hL.t 0 rfl) ⟨Nat.le_trans (by decide) hD, by decide⟩ rfl rfl (Nat.le_of_ble_eq_true rfl) dX9_putByte_36 ?_
      have hL := hL.ext mOk hct.1
      refine z_iconst 0 dX9_putByte_39 rfl ?_
      cases hf
      exact z_iret dX9_putByte_40 rfl hM
    · refine z_aload_n 0 dX9_putByte_21 rfl rfl ?_
      refine z_dup dX9_putByte_22 rfl ?_
      refine z_geti fdX9_272_7 (hL.t 0 rfl) dX9_putByte_23 ?_
      refine z_iconst 1 dX9_putByte_26 rfl ?_
      refine z_iadd dX9_putByte_27 ?_
      obtain ⟨h_4, he, hf⟩ := zlet_some hf
      refine z_puti fdX9_272_7 (hL.t 0 rfl) (hL.nz 0) he dX9_putByte_28 ?_
      have hL := hL.I he
      refine z_goto 39 dX9_putByte_31 rfl ?_
      refine z_iconst 0 dX9_putByte_39 rfl ?_
      cases hf
      exact z_iret dX9_putByte_40 rfl hM
  · refine z_bipush (-6) dX9_putByte_11 rfl ?_
    cases hf
    exact z_iret dX9_putByte_13 rfl hM
theorem ctX9_putByte {l : Launch} {h : zH} {a : Nat} {x1 : Int32} {v : Int32} {h' : zH} (hL : zBlk mB mP h a) (hf : fX9_putByte h a x1 = some (v, h')) : zC l yX9_putByte (ws_ yX9_putByte cX9_putByte 2 (some .int)) 2 [.ref a, .int x1] h (.inl (some (.int v)), h') :=
  z_start (by decide) (Nat.le_of_ble_eq_true rfl) (zX9_putByte (F := (l, 2, h, (.inl (some (.int v)), h'))) (Nat.le_refl _) hL hf rfl)
theorem fdX9_335_7 : zFd RX9 335 7 47 .int false := ⟨_, _, _, rfl, rfl, by decide, rfl, rfl, Or.inl q1439, Or.inl rfl⟩
noncomputable def fX9_go_L5 (h : zH) (a : Nat) (x1 : Int32) (x2 : Int32) (x3 : Int32) : Option ((zH) ⊕ (zH)) := if 7 ≤ (zI h a 47) then (some (.inr h)) else (zb2 (fX9_leads 9 h a x1 (zI h a 34) x2 (zI h a 47) x3) (fun v_3 h_4 => if v_3 = 0 then (zlet (zsI h_4 a 47 ((zI h_4 a 47) + 1)) (fun h_5 => some (.inl h_5))) else (some (.inr h_4))))
theorem zX9_go_L5 {F : zF} {h : zH} {a : Nat} {x1 : Int32} {x2 : Int32} {x3 : Int32} {y : (zH) ⊕ (zH)} (hD : 12 ≤ F.2.1) (hL : zBlk mB mP h a) (hf : fX9_go_L5 h a x1 x2 x3 = some y) (hM : ((∀ s' : zH, y = .inl s' → (zBlk mB mP s' a → Z F 6 cX9_go RX9 "go" (some .int) [] s' 5 [(0, .ref a), (1, .int x1), (2, .int x2), (3, .int x3)] [])) ∧ ∀ r : zH, y = .inr r → (zBlk mB mP r a → Z F 6 cX9_go RX9 "go" (some .int) [] r 45 [(0, .ref a)] []))) : Z F 6 cX9_go RX9 "go" (some .int) [] h 5 [(0, .ref a), (1, .int x1), (2, .int x2), (3, .int x3)] [] := by
  unfold fX9_go_L5 at hf
  refine z_aload_n 0 dX9_go_5 rfl rfl ?_
  refine z_geti fdX9_335_7 (hL.t 0 rfl) dX9_go_6 ?_
  refine z_bipush 7 dX9_go_9 rfl ?_
  refine z_icmp_ge 45 dX9_go_11 rfl hf (fun _ hf => ?_) (fun _ hf => ?_)
  · cases hf
    refine z_sub [0] rfl ?_
    exact (hM.2 _ rfl) hL
  · refine z_aload_n 0 dX9_go_14 rfl rfl ?_
    refine z_iload_n 1 dX9_go_15 rfl rfl ?_
    refine z_aload_n 0 dX9_go_16 rfl rfl ?_
    refine z_geti fdX9_289_7 (hL.t 0 rfl) dX9_go_17 ?_
    refine z_iload_n 2 dX9_go_20 rfl rfl ?_
    refine z_aload_n 0 dX9_go_21 rfl rfl ?_
    refine z_geti fdX9_335_7 (hL.t 0 rfl) dX9_go_22 ?_
    refine z_iload_n 3 dX9_go_25 rfl rfl ?_
    obtain ⟨v_3, h_4, hc_2, hf⟩ := zb2_some hf
    have hct := ctX9_leads 9 (l := F.1) hL hc_2
    refine z_invVi svX9_324_7 hct (hL.t 0 rfl) ⟨Nat.le_trans (by decide) hD, by decide⟩ rfl rfl (Nat.le_of_ble_eq_true rfl) dX9_go_26 ?_
    have hL := hL.ext mOk hct.1
    refine z_if_ne 45 dX9_go_29 rfl hf (fun _ hf => ?_) (fun _ hf => ?_)
    · cases hf
      refine z_sub [0] rfl ?_
      exact (hM.2 _ rfl) hL
    · refine z_aload_n 0 dX9_go_32 rfl rfl ?_
      refine z_dup dX9_go_33 rfl ?_
      refine z_geti fdX9_335_7 (hL.t 0 rfl) dX9_go_34 ?_
      refine z_iconst 1 dX9_go_37 rfl ?_
      refine z_iadd dX9_go_38 ?_
      obtain ⟨h_5, he, hf⟩ := zlet_some hf
      refine z_puti fdX9_335_7 (hL.t 0 rfl) (hL.nz 0) he dX9_go_39 ?_
      have hL := hL.I he
      refine z_goto 5 dX9_go_42 rfl ?_
      cases hf
      exact (hM.1 _ rfl) hL
theorem svX9_338_7 : zIv RX9 338 yX9_putByte (ws_ yX9_putByte cX9_putByte 2 (some .int)) 2 7 1 := ⟨zGood_c q1815 q109, ⟨_, _, rfl, rfl, qs78⟩, Or.inl q1812, q1814, ⟨by decide, by decide⟩, by decide +kernel⟩
noncomputable def fX9_go_L53 (h : zH) (a : Nat) (x4 : Int32) : Option ((zH × Int32) ⊕ ((Int32 × zH))) := if x4 < 0 then (some (.inr ((0, h)))) else (zck (vp_in x4 8) (zck (vp_in (zI h (a + 28) x4.toNatClampNeg) 110) (zb2 (fX9_putByte h a (zI h (a + 11) (zI h (a + 28) x4.toNatClampNeg).toNatClampNeg)) (fun v_10 h_11 => if v_10 = 0 then (zck (vp_in x4 8) (zck (vp_in (zI h_11 (a + 28) x4.toNatClampNeg) 110) (if (zI h_11 (a + 13) (zI h_11 (a + 28) x4.toNatClampNeg).toNatClampNeg) = 0 then (some (.inl ((h_11, x4 + (-1))))) else (zck (vp_in x4 8) (zck (vp_in (zI h_11 (a + 28) x4.toNatClampNeg) 110) (zlet (zsI h_11 a 34 (zI h_11 (a + 12) (zI h_11 (a + 28) x4.toNatClampNeg).toNatClampNeg)) (fun h_16 => some (.inl ((h_16, x4 + (-1))))))))))) else (some (.inr ((v_10, h_11))))))))
theorem zX9_go_L53 {F : zF} {h : zH} {a : Nat} {x4 : Int32} {y : (zH × Int32) ⊕ ((Int32 × zH))} (hD : 12 ≤ F.2.1) (hL : zBlk mB mP h a) (hf : fX9_go_L53 h a x4 = some y) (hM : ((∀ s' : zH × Int32, y = .inl s' → (zBlk mB mP s'.1 a → Z F 6 cX9_go RX9 "go" (some .int) [] s'.1 53 [(0, .ref a), (4, .int s'.2)] [])) ∧ ∀ r : (Int32 × zH), y = .inr r → ((.inl (some (.int r.1)), r.2) : zX) = zEnd F)) : Z F 6 cX9_go RX9 "go" (some .int) [] h 53 [(0, .ref a), (4, .int x4)] [] := by
  unfold fX9_go_L53 at hf
  refine z_iload 1 dX9_go_53 rfl ?_
  refine z_if_lt 121 dX9_go_55 rfl hf (fun _ hf => ?_) (fun _ hf => ?_)
  · refine z_iconst 0 dX9_go_121 rfl ?_
    cases hf
    exact z_iret dX9_go_122 rfl (hM.2 _ rfl)
  · refine z_aload_n 0 dX9_go_58 rfl rfl ?_
    refine z_aload_n 0 dX9_go_59 rfl rfl ?_
    refine z_getr fdX9_41_7 (Or.inr ⟨_, rfl⟩) (hL.t 0 rfl) (hL.p 10 rfl) dX9_go_60 ?_
    refine z_aload_n 0 dX9_go_63 rfl rfl ?_
    refine z_getr fdX9_93_7 (Or.inr ⟨_, rfl⟩) (hL.t 0 rfl) (hL.p 27 rfl) dX9_go_64 ?_
    refine z_iload 1 dX9_go_67 rfl ?_
    obtain ⟨hi_7, hf⟩ := zck_some hf
    refine z_iald (hL.t 28 rfl) hi_7 dX9_go_69 ?_
    obtain ⟨hi_8, hf⟩ := zck_some hf
    refine z_iald (hL.t 11 rfl) hi_8 dX9_go_70 ?_
    obtain ⟨v_10, h_11, hc_9, hf⟩ := zb2_some hf
    have hct := ctX9_putByte (l := F.1) hL hc_9
    refine z_invVi svX9_338_7 hct (hL.t 0 rfl) ⟨Nat.le_trans (by decide) hD, by decide⟩ rfl rfl (Nat.le_of_ble_eq_true rfl) dX9_go_71 ?_
    have hL := hL.ext mOk hct.1
    refine z_istore dX9_go_74 (by decide) (lc' := [(0, .ref a), (4, .int x4), (5, .int v_10)]) rfl ?_
    refine z_iload 2 dX9_go_76 rfl ?_
    refine z_if_eq 84 dX9_go_78 rfl hf (fun _ hf => ?_) (fun _ hf => ?_)
    · refine z_aload_n 0 dX9_go_84 rfl rfl ?_
      refine z_getr fdX9_47_7 (Or.inr ⟨_, rfl⟩) (hL.t 0 rfl) (hL.p 12 rfl) dX9_go_85 ?_
      refine z_aload_n 0 dX9_go_88 rfl rfl ?_
      refine z_getr fdX9_93_7 (Or.inr ⟨_, rfl⟩) (hL.t 0 rfl) (hL.p 27 rfl) dX9_go_89 ?_
      refine z_iload 1 dX9_go_92 rfl ?_
      obtain ⟨hi_12, hf⟩ := zck_some hf
      refine z_iald (hL.t 28 rfl) hi_12 dX9_go_94 ?_
      obtain ⟨hi_13, hf⟩ := zck_some hf
      refine z_zald (hL.t 13 rfl) hi_13 dX9_go_95 ?_
      refine z_if_eq 115 dX9_go_96 rfl hf (fun _ hf => ?_) (fun _ hf => ?_)
      · refine z_iinc 1 (x4 + (-1)) dX9_go_115 rfl rfl (by decide) (lc' := [(0, .ref a), (4, .int (x4 + (-1))), (5, .int v_10)]) rfl ?_
        refine z_goto 53 dX9_go_118 rfl ?_
        cases hf
        refine z_sub [0, 1] rfl ?_
        exact (hM.1 _ rfl) hL
      · refine z_aload_n 0 dX9_go_99 rfl rfl ?_
        refine z_aload_n 0 dX9_go_100 rfl rfl ?_
        refine z_getr fdX9_44_7 (Or.inr ⟨_, rfl⟩) (hL.t 0 rfl) (hL.p 11 rfl) dX9_go_101 ?_
        refine z_aload_n 0 dX9_go_104 rfl rfl ?_
        refine z_getr fdX9_93_7 (Or.inr ⟨_, rfl⟩) (hL.t 0 rfl) (hL.p 27 rfl) dX9_go_105 ?_
        refine z_iload 1 dX9_go_108 rfl ?_
        obtain ⟨hi_14, hf⟩ := zck_some hf
        refine z_iald (hL.t 28 rfl) hi_14 dX9_go_110 ?_
        obtain ⟨hi_15, hf⟩ := zck_some hf
        refine z_iald (hL.t 12 rfl) hi_15 dX9_go_111 ?_
        obtain ⟨h_16, he, hf⟩ := zlet_some hf
        refine z_puti fdX9_289_7 (hL.t 0 rfl) (hL.nz 0) he dX9_go_112 ?_
        have hL := hL.I he
        refine z_iinc 1 (x4 + (-1)) dX9_go_115 rfl rfl (by decide) (lc' := [(0, .ref a), (4, .int (x4 + (-1))), (5, .int v_10)]) rfl ?_
        refine z_goto 53 dX9_go_118 rfl ?_
        cases hf
        refine z_sub [0, 1] rfl ?_
        exact (hM.1 _ rfl) hL
    · refine z_iload 2 dX9_go_81 rfl ?_
      cases hf
      exact z_iret dX9_go_83 rfl (hM.2 _ rfl)
noncomputable def fX9_go_J45 (h : zH) (a : Nat) : Option (Int32 × zH) := zlp (fun s => fX9_go_L53 s.1 a s.2) (h, (zI h a 47) - 1)
theorem zX9_go_J45 {F : zF} {h : zH} {a : Nat} {y : Int32 × zH} (hD : 12 ≤ F.2.1) (hL : zBlk mB mP h a) (hf : fX9_go_J45 h a = some y) (hM : ((.inl (some (.int y.1)), y.2) : zX) = zEnd F) : Z F 6 cX9_go RX9 "go" (some .int) [] h 45 [(0, .ref a)] [] := by
  unfold fX9_go_J45 at hf
  refine z_aload_n 0 dX9_go_45 rfl rfl ?_
  refine z_geti fdX9_335_7 (hL.t 0 rfl) dX9_go_46 ?_
  refine z_iconst 1 dX9_go_49 rfl ?_
  refine z_isub dX9_go_50 ?_
  refine z_istore dX9_go_51 (by decide) (lc' := [(0, .ref a), (4, .int ((zI h a 47) - 1))]) rfl ?_
  exact z_loop (fun (s : zH × Int32) => (zBlk mB mP s.1 a → Z F 6 cX9_go RX9 "go" (some .int) [] s.1 53 [(0, .ref a), (4, .int s.2)] [])) (fun (r : (Int32 × zH)) => ((.inl (some (.int r.1)), r.2) : zX) = zEnd F) (fun s y hb hs hr hL => zX9_go_L53 hD hL hb ⟨hs, hr⟩) hf hM hL
noncomputable def fX9_go (h : zH) (a : Nat) (x1 : Int32) (x2 : Int32) (x3 : Int32) : Option (Int32 × zH) := zlet (zsI h a 47 0) (fun h_1 => zb1 (zlp (fun s => fX9_go_L5 s a x1 x2 x3) h_1) (fun t_6 => fX9_go_J45 t_6 a))
theorem zX9_go {F : zF} {h : zH} {a : Nat} {x1 : Int32} {x2 : Int32} {x3 : Int32} {y : Int32 × zH} (hD : 12 ≤ F.2.1) (hL : zBlk mB mP h a) (hf : fX9_go h a x1 x2 x3 = some y) (hM : ((.inl (some (.int y.1)), y.2) : zX) = zEnd F) : Z F 6 cX9_go RX9 "go" (some .int) [] h 0 [(0, .ref a), (1, .int x1), (2, .int x2), (3, .int x3)] [] := by
  unfold fX9_go at hf
  refine z_aload_n 0 dX9_go_0 rfl rfl ?_
  refine z_iconst 0 dX9_go_1 rfl ?_
  obtain ⟨h_1, he, hf⟩ := zlet_some hf
  refine z_puti fdX9_335_7 (hL.t 0 rfl) (hL.nz 0) he dX9_go_2 ?_
  have hL := hL.I he
  obtain ⟨t_6, hl, hf⟩ := zb1_some hf
  refine z_loop (fun (s : zH) => (zBlk mB mP s a → Z F 6 cX9_go RX9 "go" (some .int) [] s 5 [(0, .ref a), (1, .int x1), (2, .int x2), (3, .int x3)] [])) (fun (r : zH) => (zBlk mB mP r a → Z F 6 cX9_go RX9 "go" (some .int) [] r 45 [(0, .ref a)] [])) (fun s y hb hs hr hL => zX9_go_L5 hD hL hb ⟨hs, hr⟩) hl ?_ hL
  intro hL
  show Z F 6 cX9_go RX9 "go" (some .int) [] t_6 45 [(0, .ref a)] []
  exact zX9_go_J45 hD hL hf hM
theorem ctX9_go {l : Launch} {h : zH} {a : Nat} {x1 : Int32} {x2 : Int32} {x3 : Int32} {v : Int32} {h' : zH} (hL : zBlk mB mP h a) (hf : fX9_go h a x1 x2 x3 = some (v, h')) : zC l yX9_go (ws_ yX9_go cX9_go 6 (some .int)) 12 [.ref a, .int x1, .int x2, .int x3] h (.inl (some (.int v)), h') :=
  z_start (by decide) (Nat.le_of_ble_eq_true rfl) (zX9_go (F := (l, 12, h, (.inl (some (.int v)), h'))) (Nat.le_refl _) hL hf rfl)
noncomputable def fX9_putPoint_L26 (h : zH) (a : Nat) (x2 : Int32) (x3 : Int32) : Option ((zH × Int32 × Int32) ⊕ ((Int32 × zH))) := if (zI h a 32) ≤ x3 then (some (.inr ((x2, h)))) else (if x2 = 0 then (zck (vp_in x3 4) (zb2 (fX9_putByte h a (zI h (a + 24) x3.toNatClampNeg)) (fun v_4 h_5 => some (.inl ((h_5, v_4, x3 + 1)))))) else (some (.inr ((x2, h)))))
theorem zX9_putPoint_L26 {F : zF} {h : zH} {a : Nat} {x2 : Int32} {x3 : Int32} {y : (zH × Int32 × Int32) ⊕ ((Int32 × zH))} (hD : 13 ≤ F.2.1) (hL : zBlk mB mP h a) (hf : fX9_putPoint_L26 h a x2 x3 = some y) (hM : ((∀ s' : zH × Int32 × Int32, y = .inl s' → (zBlk mB mP s'.1 a → Z F 4 cX9_putPoint RX9 "putPoint" (some .int) [] s'.1 26 [(0, .ref a), (2, .int s'.2.1), (3, .int s'.2.2)] [])) ∧ ∀ r : (Int32 × zH), y = .inr r → ((.inl (some (.int r.1)), r.2) : zX) = zEnd F)) : Z F 4 cX9_putPoint RX9 "putPoint" (some .int) [] h 26 [(0, .ref a), (2, .int x2), (3, .int x3)] [] := by
  unfold fX9_putPoint_L26 at hf
  refine z_iload_n 2 dX9_putPoint_26 rfl rfl ?_
  refine z_aload_n 0 dX9_putPoint_27 rfl rfl ?_
  refine z_geti fdX9_228_7 (hL.t 0 rfl) dX9_putPoint_28 ?_
  refine z_icmp_ge 55 dX9_putPoint_31 rfl hf (fun _ hf => ?_) (fun _ hf => ?_)
  · refine z_iload_n 1 dX9_putPoint_55 rfl rfl ?_
    cases hf
    exact z_iret dX9_putPoint_56 rfl (hM.2 _ rfl)
  · refine z_iload_n 1 dX9_putPoint_34 rfl rfl ?_
    refine z_if_ne 55 dX9_putPoint_35 rfl hf (fun _ hf => ?_) (fun _ hf => ?_)
    · refine z_iload_n 1 dX9_putPoint_55 rfl rfl ?_
      cases hf
      exact z_iret dX9_putPoint_56 rfl (hM.2 _ rfl)
    · refine z_aload_n 0 dX9_putPoint_38 rfl rfl ?_
      refine z_aload_n 0 dX9_putPoint_39 rfl rfl ?_
      refine z_getr fdX9_81_7 (Or.inr ⟨_, rfl⟩) (hL.t 0 rfl) (hL.p 23 rfl) dX9_putPoint_40 ?_
      refine z_iload_n 2 dX9_putPoint_43 rfl rfl ?_
      obtain ⟨hi_2, hf⟩ := zck_some hf
      refine z_iald (hL.t 24 rfl) hi_2 dX9_putPoint_44 ?_
      obtain ⟨v_4, h_5, hc_3, hf⟩ := zb2_some hf
      have hct := ctX9_putByte (l := F.1) hL hc_3
      refine z_invVi svX9_338_7 hct (hL.t 0 rfl) ⟨Nat.le_trans (by decide) hD, by decide⟩ rfl rfl (Nat.le_of_ble_eq_true rfl) dX9_putPoint_45 ?_
      have hL := hL.ext mOk hct.1
      refine z_istore_n dX9_putPoint_48 rfl (by decide) (lc' := [(0, .ref a), (2, .int v_4), (3, .int x3)]) rfl ?_
      refine z_iinc 2 (x3 + 1) dX9_putPoint_49 rfl rfl (by decide) (lc' := [(0, .ref a), (2, .int v_4), (3, .int (x3 + 1))]) rfl ?_
      refine z_goto 26 dX9_putPoint_52 rfl ?_
      cases hf
      exact (hM.1 _ rfl) hL
noncomputable def fX9_putPoint_J23 (h : zH) (a : Nat) (k0 : Int32) : Option (Int32 × zH) := zlp (fun s => fX9_putPoint_L26 s.1 a s.2.1 s.2.2) (h, k0, 0)
theorem zX9_putPoint_J23 {F : zF} {h : zH} {a : Nat} {k0 : Int32} {y : Int32 × zH} (hD : 13 ≤ F.2.1) (hL : zBlk mB mP h a) (hf : fX9_putPoint_J23 h a k0 = some y) (hM : ((.inl (some (.int y.1)), y.2) : zX) = zEnd F) : Z F 4 cX9_putPoint RX9 "putPoint" (some .int) [] h 23 [(0, .ref a)] [.int k0] := by
  unfold fX9_putPoint_J23 at hf
  refine z_istore_n dX9_putPoint_23 rfl (by decide) (lc' := [(0, .ref a), (2, .int k0)]) rfl ?_
  refine z_iconst 0 dX9_putPoint_24 rfl ?_
  refine z_istore_n dX9_putPoint_25 rfl (by decide) (lc' := [(0, .ref a), (2, .int k0), (3, .int 0)]) rfl ?_
  exact z_loop (fun (s : zH × Int32 × Int32) => (zBlk mB mP s.1 a → Z F 4 cX9_putPoint RX9 "putPoint" (some .int) [] s.1 26 [(0, .ref a), (2, .int s.2.1), (3, .int s.2.2)] [])) (fun (r : (Int32 × zH)) => ((.inl (some (.int r.1)), r.2) : zX) = zEnd F) (fun s y hb hs hr hL => zX9_putPoint_L26 hD hL hb ⟨hs, hr⟩) hf hM hL
theorem svX9_341_7 : zIv RX9 341 yX9_go (ws_ yX9_go cX9_go 6 (some .int)) 6 7 3 := ⟨zGood_c q1807 q109, ⟨_, _, rfl, rfl, qs76⟩, Or.inl q1804, q1806, ⟨by decide, by decide⟩, by decide +kernel⟩
noncomputable def fX9_putPoint (h : zH) (a : Nat) (x1 : Int32) : Option (Int32 × zH) := zck (vp_in x1 11) (if (zI h (a + 1) x1.toNatClampNeg) = 0 then (zb2 (fX9_go h a x1 (zI h a 31) 1) (fun v_7 h_8 => fX9_putPoint_J23 h_8 a v_7)) else (fX9_putPoint_J23 h a 0))
theorem zX9_putPoint {F : zF} {h : zH} {a : Nat} {x1 : Int32} {y : Int32 × zH} (hD : 13 ≤ F.2.1) (hL : zBlk mB mP h a) (hf : fX9_putPoint h a x1 = some y) (hM : ((.inl (some (.int y.1)), y.2) : zX) = zEnd F) : Z F 4 cX9_putPoint RX9 "putPoint" (some .int) [] h 0 [(0, .ref a), (1, .int x1)] [] := by
  unfold fX9_putPoint at hf
  refine z_aload_n 0 dX9_putPoint_0 rfl rfl ?_
  refine z_getr fdX9_9_7 (Or.inr ⟨_, rfl⟩) (hL.t 0 rfl) (hL.p 0 rfl) dX9_putPoint_1 ?_
  refine z_iload_n 1 dX9_putPoint_4 rfl rfl ?_
  obtain ⟨hi_1, hf⟩ := zck_some hf
  refine z_iald (hL.t 1 rfl) hi_1 dX9_putPoint_5 ?_
  refine z_if_ne 22 dX9_putPoint_6 rfl hf (fun _ hf => ?_) (fun _ hf => ?_)
  · refine z_iconst 0 dX9_putPoint_22 rfl ?_
    refine z_sub [0] rfl ?_
    exact zX9_putPoint_J23 hD hL hf hM
  · refine z_aload_n 0 dX9_putPoint_9 rfl rfl ?_
    refine z_iload_n 1 dX9_putPoint_10 rfl rfl ?_
    refine z_aload_n 0 dX9_putPoint_11 rfl rfl ?_
    refine z_geti fdX9_233_7 (hL.t 0 rfl) dX9_putPoint_12 ?_
    refine z_iconst 1 dX9_putPoint_15 rfl ?_
    obtain ⟨v_7, h_8, hc_6, hf⟩ := zb2_some hf
    have hct := ctX9_go (l := F.1) hL hc_6
    refine z_invVi svX9_341_7 hct (hL.t 0 rfl) ⟨Nat.le_trans (by decide) hD, by decide⟩ rfl rfl (Nat.le_of_ble_eq_true rfl) dX9_putPoint_16 ?_
    have hL := hL.ext mOk hct.1
    refine z_goto 23 dX9_putPoint_19 rfl ?_
    refine z_sub [0] rfl ?_
    exact zX9_putPoint_J23 hD hL hf hM
theorem ctX9_putPoint {l : Launch} {h : zH} {a : Nat} {x1 : Int32} {v : Int32} {h' : zH} (hL : zBlk mB mP h a) (hf : fX9_putPoint h a x1 = some (v, h')) : zC l yX9_putPoint (ws_ yX9_putPoint cX9_putPoint 4 (some .int)) 13 [.ref a, .int x1] h (.inl (some (.int v)), h') :=
  z_start (by decide) (Nat.le_of_ble_eq_true rfl) (zX9_putPoint (F := (l, 13, h, (.inl (some (.int v)), h'))) (Nat.le_refl _) hL hf rfl)
theorem fdX9_345_7 : zFd RX9 345 7 25 .int false := ⟨_, _, _, rfl, rfl, by decide, rfl, rfl, Or.inl q1417, Or.inl rfl⟩
theorem fdX9_66_7 : zFd RX9 66 7 26 (.array .int) true := ⟨_, _, _, rfl, rfl, by decide, rfl, rfl, Or.inl q1418, Or.inl rfl⟩
noncomputable def fX9_fallbackOf_L2 (h : zH) (a : Nat) (x1 : Int32) (x2 : Int32) : Option ((Int32) ⊕ (Int32)) := if (zI h a 25) ≤ x2 then (some (.inr ((-1)))) else (zck (vp_in x2 40) (if (zI h (a + 19) x2.toNatClampNeg) = x1 then (some (.inr x2)) else (some (.inl (x2 + 1)))))
theorem zX9_fallbackOf_L2 {F : zF} {h : zH} {a : Nat} {x1 : Int32} {x2 : Int32} {y : (Int32) ⊕ (Int32)} (hD : 1 ≤ F.2.1) (hL : zBlk mB mP h a) (hf : fX9_fallbackOf_L2 h a x1 x2 = some y) (hM : ((∀ s' : Int32, y = .inl s' → Z F 3 cX9_fallbackOf RX9 "fallbackOf" (some .int) [] h 2 [(0, .ref a), (1, .int x1), (2, .int s')] []) ∧ ∀ r : Int32, y = .inr r → ((.inl (some (.int r)), h) : zX) = zEnd F)) : Z F 3 cX9_fallbackOf RX9 "fallbackOf" (some .int) [] h 2 [(0, .ref a), (1, .int x1), (2, .int x2)] [] := by
  unfold fX9_fallbackOf_L2 at hf
  refine z_iload_n 2 dX9_fallbackOf_2 rfl rfl ?_
  refine z_aload_n 0 dX9_fallbackOf_3 rfl rfl ?_
  refine z_geti fdX9_345_7 (hL.t 0 rfl) dX9_fallbackOf_4 ?_
  refine z_icmp_ge 28 dX9_fallbackOf_7 rfl hf (fun _ hf => ?_) (fun _ hf => ?_)
  · refine z_iconst (-1) dX9_fallbackOf_28 rfl ?_
    cases hf
    exact z_iret dX9_fallbackOf_29 rfl (hM.2 _ rfl)
  · refine z_aload_n 0 dX9_fallbackOf_10 rfl rfl ?_
    refine z_getr fdX9_66_7 (Or.inr ⟨_, rfl⟩) (hL.t 0 rfl) (hL.p 18 rfl) dX9_fallbackOf_11 ?_
    refine z_iload_n 2 dX9_fallbackOf_14 rfl rfl ?_
    obtain ⟨hi_1, hf⟩ := zck_some hf
    refine z_iald (hL.t 19 rfl) hi_1 dX9_fallbackOf_15 ?_
    refine z_iload_n 1 dX9_fallbackOf_16 rfl rfl ?_
    refine z_icmp_ne 22 dX9_fallbackOf_17 rfl hf (fun _ hf => ?_) (fun _ hf => ?_)
    · refine z_iinc 2 (x2 + 1) dX9_fallbackOf_22 rfl rfl (by decide) (lc' := [(0, .ref a), (1, .int x1), (2, .int (x2 + 1))]) rfl ?_
      refine z_goto 2 dX9_fallbackOf_25 rfl ?_
      cases hf
      exact (hM.1 _ rfl)
    · refine z_iload_n 2 dX9_fallbackOf_20 rfl rfl ?_
      cases hf
      exact z_iret dX9_fallbackOf_21 rfl (hM.2 _ rfl)
noncomputable def fX9_fallbackOf (h : zH) (a : Nat) (x1 : Int32) : Option (Int32) := zlp (fun s => fX9_fallbackOf_L2 h a x1 s) 0
theorem zX9_fallbackOf {F : zF} {h : zH} {a : Nat} {x1 : Int32} {y : Int32} (hD : 1 ≤ F.2.1) (hL : zBlk mB mP h a) (hf : fX9_fallbackOf h a x1 = some y) (hM : ((.inl (some (.int y)), h) : zX) = zEnd F) : Z F 3 cX9_fallbackOf RX9 "fallbackOf" (some .int) [] h 0 [(0, .ref a), (1, .int x1)] [] := by
  unfold fX9_fallbackOf at hf
  refine z_iconst 0 dX9_fallbackOf_0 rfl ?_
  refine z_istore_n dX9_fallbackOf_1 rfl (by decide) (lc' := [(0, .ref a), (1, .int x1), (2, .int 0)]) rfl ?_
  exact z_loop (fun (s : Int32) => Z F 3 cX9_fallbackOf RX9 "fallbackOf" (some .int) [] h 2 [(0, .ref a), (1, .int x1), (2, .int s)] []) (fun (r : Int32) => ((.inl (some (.int r)), h) : zX) = zEnd F) (fun s y hb hs hr => zX9_fallbackOf_L2 hD hL hb ⟨hs, hr⟩) hf hM
theorem ctX9_fallbackOf {l : Launch} {h : zH} {a : Nat} {x1 : Int32} {v : Int32} (hL : zBlk mB mP h a) (hf : fX9_fallbackOf h a x1 = some v) : zC l yX9_fallbackOf (ws_ yX9_fallbackOf cX9_fallbackOf 3 (some .int)) 1 [.ref a, .int x1] h (.inl (some (.int v)), h) :=
  z_start (by decide) (Nat.le_of_ble_eq_true rfl) (zX9_fallbackOf (F := (l, 1, h, (.inl (some (.int v)), h))) (Nat.le_refl _) hL hf rfl)
theorem svX9_357_7 : zIv RX9 357 yX9_fallbackOf (ws_ yX9_fallbackOf cX9_fallbackOf 3 (some .int)) 3 7 1 := ⟨zGood_c q1823 q109, ⟨_, _, rfl, rfl, qs80⟩, Or.inl q1820, q1822, ⟨by decide, by decide⟩, by decide +kernel⟩
theorem fdX9_69_7 : zFd RX9 69 7 27 (.array .int) true := ⟨_, _, _, rfl, rfl, by decide, rfl, rfl, Or.inl q1419, Or.inl rfl⟩
theorem fdX9_72_7 : zFd RX9 72 7 28 (.array .int) true := ⟨_, _, _, rfl, rfl, by decide, rfl, rfl, Or.inl q1420, Or.inl rfl⟩
theorem svX9_351_7 : zIv RX9 351 yX9_falls (ws_ yX9_falls cX9_falls 6 (some .boolean)) 6 7 2 := ⟨zGood_c q1819 q109, ⟨_, _, rfl, rfl, qs79⟩, Or.inl q1816, q1818, ⟨by decide, by decide⟩, by decide +kernel⟩
noncomputable def fX9_falls_L31 (g : (zH → Nat → Int32 → Int32 → Option (Int32 × zH))) (h : zH) (a : Nat) (x1 : Int32) (x3 : Int32) (x4 : Int32) (x5 : Int32) : Option ((zH × Int32 × Int32) ⊕ ((Int32 × zH))) := if x4 = 0 then (zck (zB x4) (some (.inr ((x4, h))))) else (zck (vp_in x3 40) (if (zI h (a + 20) x3.toNatClampNeg) ≤ x5 then (zck (zB x4) (some (.inr ((x4, h))))) else (zck (vp_in (((4 : Int32) * x3) + x5) 160) (zb2 (g h a x1 (zI h (a + 21) (((4 : Int32) * x3) + x5).toNatClampNeg)) (fun v_11 h_12 => some (.inl ((h_12, v_11, x5 + 1))))))))
theorem zX9_falls_L31 {F : zF} {g : (zH → Nat → Int32 → Int32 → Option (Int32 × zH))} {h : zH} {a : Nat} {x1 : Int32} {x3 : Int32} {x4 : Int32} {x5 : Int32} {y : (zH × Int32 × Int32) ⊕ ((Int32 × zH))} {dg : Nat} (hD : dg + 1 ≤ F.2.1 ∧ 3 ≤ F.2.1) (hg : ∀ {l : Launch} {h : zH} {a : Nat} {x1 : Int32} {x2 : Int32} {v : Int32} {h' : zH}, zBlk mB mP h a → g h a x1 x2 = some (v, h') → zC l yX9_falls (ws_ yX9_falls cX9_falls 6 (some .boolean)) dg [.ref a, .int x1, .int x2] h (.inl (some (.int v)), h')) (hL : zBlk mB mP h a) (hf : fX9_falls_L31 g h a x1 x3 x4 x5 = some y) (hM : ((∀ s' : zH × Int32 × Int32, y = .inl s' → (zBlk mB mP s'.1 a → Z F 6 cX9_falls RX9 "falls" (some .boolean) [] s'.1 31 [(0, .ref a), (1, .int x1), (3, .int x3), (4, .int s'.2.1), (5, .int s'.2.2)] [])) ∧ ∀ r : (Int32 × zH), y = .inr r → ((.inl (some (.int r.1)), r.2) : zX) = zEnd F)) : Z F 6 cX9_falls RX9 "falls" (some .boolean) [] h 31 [(0, .ref a), (1, .int x1), (3, .int x3), (4, .int x4), (5, .int x5)] [] := by
  unfold fX9_falls_L31 at hf
  refine z_iload 3 dX9_falls_31 rfl ?_
  refine z_if_eq 71 dX9_falls_33 rfl hf (fun _ hf => ?_) (fun _ hf => ?_)
  · refine z_iload 3 dX9_falls_71 rfl ?_
    obtain ⟨hz_6, hf⟩ := zck_some hf
    cases hf
    exact z_zret dX9_falls_73 rfl hz_6 (hM.2 _ rfl)
  · refine z_iload 4 dX9_falls_36 rfl ?_
    refine z_aload_n 0 dX9_falls_38 rfl rfl ?_
    refine z_getr fdX9_69_7 (Or.inr ⟨_, rfl⟩) (hL.t 0 rfl) (hL.p 19 rfl) dX9_falls_39 ?_
    refine z_iload_n 2 dX9_falls_42 rfl rfl ?_
    obtain ⟨hi_7, hf⟩ := zck_some hf
    refine z_iald (hL.t 20 rfl) hi_7 dX9_falls_43 ?_
    refine z_icmp_ge 71 dX9_falls_44 rfl hf (fun _ hf => ?_) (fun _ hf => ?_)
    · refine z_iload 3 dX9_falls_71 rfl ?_
      obtain ⟨hz_8, hf⟩ := zck_some hf
      cases hf
      exact z_zret dX9_falls_73 rfl hz_8 (hM.2 _ rfl)
    · refine z_aload_n 0 dX9_falls_47 rfl rfl ?_
      refine z_iload_n 1 dX9_falls_48 rfl rfl ?_
      refine z_aload_n 0 dX9_falls_49 rfl rfl ?_
      refine z_getr fdX9_72_7 (Or.inr ⟨_, rfl⟩) (hL.t 0 rfl) (hL.p 20 rfl) dX9_falls_50 ?_
      refine z_iconst 4 dX9_falls_53 rfl ?_
      refine z_iload_n 2 dX9_falls_54 rfl rfl ?_
      refine z_imul dX9_falls_55 ?_
      refine z_iload 4 dX9_falls_56 rfl ?_
      refine z_iadd dX9_falls_58 ?_
      obtain ⟨hi_9, hf⟩ := zck_some hf
      refine z_iald (hL.t 21 rfl) hi_9 dX9_falls_59 ?_
      obtain ⟨v_11, h_12, hc_10, hf⟩ := zb2_some hf
      have hct := hg (l := F.1) hL hc_10
      refine z_invVi svX9_351_7 hct (hL.t 0 rfl) ⟨hD.1, by decide⟩ rfl rfl (Nat.le_of_ble_eq_true rfl) dX9_falls_60 ?_
      have hL := hL.ext mOk hct.1
      refine z_istore dX9_falls_63 (by decide) (lc' := [(0, .ref a), (1, .int x1), (3, .int x3), (4, .int v_11), (5, .int x5)]) rfl ?_
      refine z_iinc 4 (x5 + 1) dX9_falls_65 rfl rfl (by decide) (lc' := [(0, .ref a), (1, .int x1), (3, .int x3), (4, .int v_11), (5, .int (x5 + 1))]) rfl ?_
      refine z_goto 31 dX9_falls_68 rfl ?_
      cases hf
      exact (hM.1 _ rfl) hL
noncomputable def fX9_falls_J26 (g : (zH → Nat → Int32 → Int32 → Option (Int32 × zH))) (h : zH) (a : Nat) (x1 : Int32) (x3 : Int32) (k0 : Int32) : Option (Int32 × zH) := zlp (fun s => fX9_falls_L31 g s.1 a x1 x3 s.2.1 s.2.2) (h, k0, 0)
theorem zX9_falls_J26 {F : zF} {g : (zH → Nat → Int32 → Int32 → Option (Int32 × zH))} {h : zH} {a : Nat} {x1 : Int32} {x3 : Int32} {k0 : Int32} {y : Int32 × zH} {dg : Nat} (hD : dg + 1 ≤ F.2.1 ∧ 3 ≤ F.2.1) (hg : ∀ {l : Launch} {h : zH} {a : Nat} {x1 : Int32} {x2 : Int32} {v : Int32} {h' : zH}, zBlk mB mP h a → g h a x1 x2 = some (v, h') → zC l yX9_falls (ws_ yX9_falls cX9_falls 6 (some .boolean)) dg [.ref a, .int x1, .int x2] h (.inl (some (.int v)), h')) (hL : zBlk mB mP h a) (hf : fX9_falls_J26 g h a x1 x3 k0 = some y) (hM : ((.inl (some (.int y.1)), y.2) : zX) = zEnd F) : Z F 6 cX9_falls RX9 "falls" (some .boolean) [] h 26 [(0, .ref a), (1, .int x1), (3, .int x3)] [.int k0] := by
  unfold fX9_falls_J26 at hf
  refine z_istore dX9_falls_26 (by decide) (lc' := [(0, .ref a), (1, .int x1), (3, .int x3), (4, .int k0)]) rfl ?_
  refine z_iconst 0 dX9_falls_28 rfl ?_
  refine z_istore dX9_falls_29 (by decide) (lc' := [(0, .ref a), (1, .int x1), (3, .int x3), (4, .int k0), (5, .int 0)]) rfl ?_
  exact z_loop (fun (s : zH × Int32 × Int32) => (zBlk mB mP s.1 a → Z F 6 cX9_falls RX9 "falls" (some .boolean) [] s.1 31 [(0, .ref a), (1, .int x1), (3, .int x3), (4, .int s.2.1), (5, .int s.2.2)] [])) (fun (r : (Int32 × zH)) => ((.inl (some (.int r.1)), r.2) : zX) = zEnd F) (fun s y hb hs hr hL => zX9_falls_L31 hD hg hL hb ⟨hs, hr⟩) hf hM hL
noncomputable def fX9_falls_B (g : (zH → Nat → Int32 → Int32 → Option (Int32 × zH))) (h : zH) (a : Nat) (x1 : Int32) (x2 : Int32) : Option (Int32 × zH) := zb2 (fX9_find h a x1 x2) (fun v_2 h_3 => if v_2 = 0 then (zb1 (fX9_fallbackOf h_3 a x2) (fun v_5 => if v_5 < 0 then (fX9_falls_J26 g h_3 a x1 v_5 0) else (fX9_falls_J26 g h_3 a x1 v_5 1))) else (some ((1, h_3))))
theorem zX9_falls_B {F : zF} {g : (zH → Nat → Int32 → Int32 → Option (Int32 × zH))} {h : zH} {a : Nat} {x1 : Int32} {x2 : Int32} {y : Int32 × zH} {dg : Nat} (hD : dg + 1 ≤ F.2.1 ∧ 3 ≤ F.2.1) (hg : ∀ {l : Launch} {h : zH} {a : Nat} {x1 : Int32} {x2 : Int32} {v : Int32} {h' : zH}, zBlk mB mP h a → g h a x1 x2 = some (v, h') → zC l yX9_falls (ws_ yX9_falls cX9_falls 6 (some .boolean)) dg [.ref a, .int x1, .int x2] h (.inl (some (.int v)), h')) (hL : zBlk mB mP h a) (hf : fX9_falls_B g h a x1 x2 = some y) (hM : ((.inl (some (.int y.1)), y.2) : zX) = zEnd F) : Z F 6 cX9_falls RX9 "falls" (some .boolean) [] h 0 [(0, .ref a), (1, .int x1), (2, .int x2)] [] := by
  unfold fX9_falls_B at hf
  refine z_aload_n 0 dX9_falls_0 rfl rfl ?_
  refine z_iload_n 1 dX9_falls_1 rfl rfl ?_
  refine z_iload_n 2 dX9_falls_2 rfl rfl ?_
  obtain ⟨v_2, h_3, hc_1, hf⟩ := zb2_some hf
  have hct := ctX9_find (l := F.1) hL hc_1
  refine z_invVi svX9_252_7 hct (hL.t 0 rfl) ⟨Nat.le_trans (by decide) hD.2, by decide⟩ rfl rfl (Nat.le_of_ble_eq_true rfl) dX9_falls_3 ?_
  have hL := hL.ext mOk hct.1
  refine z_if_eq 11 dX9_falls_6 rfl hf (fun _ hf => ?_) (fun _ hf => ?_)
  · refine z_aload_n 0 dX9_falls_11 rfl rfl ?_
    refine z_iload_n 2 dX9_falls_12 rfl rfl ?_
    obtain ⟨v_5, hc_4, hf⟩ := zb1_some hf
    refine z_invVi svX9_357_7 (ctX9_fallbackOf hL hc_4) (hL.t 0 rfl) ⟨Nat.le_trans (by decide) hD.2, by decide⟩ rfl rfl (Nat.le_of_ble_eq_true rfl) dX9_falls_13 ?_
    refine z_istore_n dX9_falls_16 rfl (by decide) (lc' := [(0, .ref a), (1, .int x1), (2, .int x2), (3, .int v_5)]) rfl ?_
    refine z_iload_n 3 dX9_falls_17 rfl rfl ?_
    refine z_if_lt 25 dX9_falls_18 rfl hf (fun _ hf => ?_) (fun _ hf => ?_)
    · refine z_iconst 0 dX9_falls_25 rfl ?_
      refine z_sub [0, 1, 3] rfl ?_
      exact zX9_falls_J26 hD hg hL hf hM
    · refine z_iconst 1 dX9_falls_21 rfl ?_
      refine z_goto 26 dX9_falls_22 rfl ?_
      refine z_sub [0, 1, 3] rfl ?_
      exact zX9_falls_J26 hD hg hL hf hM
  · refine z_iconst 1 dX9_falls_9 rfl ?_
    cases hf
    exact z_zret dX9_falls_10 rfl (Or.inr rfl) hM
noncomputable def fX9_falls : Nat → zH → Nat → Int32 → Int32 → Option (Int32 × zH)
  | 0 => fun _ _ _ _ => none
  | n + 1 => fX9_falls_B (fX9_falls n)
theorem ctX9_falls (n : Nat) : ∀ {l : Launch} {h : zH} {a : Nat} {x1 : Int32} {x2 : Int32} {v : Int32} {h' : zH}, zBlk mB mP h a → fX9_falls n h a x1 x2 = some (v, h') → zC l yX9_falls (ws_ yX9_falls cX9_falls 6 (some .boolean)) (n + 3) [.ref a, .int x1, .int x2] h (.inl (some (.int v)), h') := by
  induction n with
  | zero => intro l h a x1 x2 v h' hL hf; cases hf
  | succ n ih =>
    intro l h a x1 x2 v h' hL hf
    exact z_start (by decide) (Nat.le_of_ble_eq_true rfl) (zX9_falls_B (F := (l, n + 1 + 3, h, (.inl (some (.int v)), h'))) (dg := n + 3) ⟨by show n + 3 + 1 ≤ n + 1 + 3; omega, by show 3 ≤ n + 1 + 3; omega⟩ ih hL hf rfl)
theorem svX9_354_7 : zIv RX9 354 yX9_fall (ws_ yX9_fall cX9_fall 6 (some .int)) 6 7 2 := ⟨zGood_c q1827 q109, ⟨_, _, rfl, rfl, qs81⟩, Or.inl q1824, q1826, ⟨by decide, by decide⟩, by decide +kernel⟩
noncomputable def fX9_fall_L27 (g : (zH → Nat → Int32 → Int32 → Option (Int32 × zH))) (h : zH) (a : Nat) (x1 : Int32) (x3 : Int32) (x4 : Int32) (x5 : Int32) : Option ((zH × Int32 × Int32) ⊕ ((Int32 × zH))) := zck (vp_in x3 40) (if (zI h (a + 20) x3.toNatClampNeg) ≤ x5 then (some (.inr ((x4, h)))) else (if x4 = 0 then (zck (vp_in (((4 : Int32) * x3) + x5) 160) (zb2 (g h a x1 (zI h (a + 21) (((4 : Int32) * x3) + x5).toNatClampNeg)) (fun v_9 h_10 => some (.inl ((h_10, v_9, x5 + 1)))))) else (some (.inr ((x4, h))))))
theorem zX9_fall_L27 {F : zF} {g : (zH → Nat → Int32 → Int32 → Option (Int32 × zH))} {h : zH} {a : Nat} {x1 : Int32} {x3 : Int32} {x4 : Int32} {x5 : Int32} {y : (zH × Int32 × Int32) ⊕ ((Int32 × zH))} {dg : Nat} (hD : dg + 1 ≤ F.2.1 ∧ 14 ≤ F.2.1) (hg : ∀ {l : Launch} {h : zH} {a : Nat} {x1 : Int32} {x2 : Int32} {v : Int32} {h' : zH}, zBlk mB mP h a → g h a x1 x2 = some (v, h') → zC l yX9_fall (ws_ yX9_fall cX9_fall 6 (some .int)) dg [.ref a, .int x1, .int x2] h (.inl (some (.int v)), h')) (hL : zBlk mB mP h a) (hf : fX9_fall_L27 g h a x1 x3 x4 x5 = some y) (hM : ((∀ s' : zH × Int32 × Int32, y = .inl s' → (zBlk mB mP s'.1 a → Z F 6 cX9_fall RX9 "fall" (some .int) [] s'.1 27 [(0, .ref a), (1, .int x1), (3, .int x3), (4, .int s'.2.1), (5, .int s'.2.2)] [])) ∧ ∀ r : (Int32 × zH), y = .inr r → ((.inl (some (.int r.1)), r.2) : zX) = zEnd F)) : Z F 6 cX9_fall RX9 "fall" (some .int) [] h 27 [(0, .ref a), (1, .int x1), (3, .int x3), (4, .int x4), (5, .int x5)] [] := by
  unfold fX9_fall_L27 at hf
  refine z_iload 4 dX9_fall_27 rfl ?_
  refine z_aload_n 0 dX9_fall_29 rfl rfl ?_
  refine z_getr fdX9_69_7 (Or.inr ⟨_, rfl⟩) (hL.t 0 rfl) (hL.p 19 rfl) dX9_fall_30 ?_
  refine z_iload_n 2 dX9_fall_33 rfl rfl ?_
  obtain ⟨hi_6, hf⟩ := zck_some hf
  refine z_iald (hL.t 20 rfl) hi_6 dX9_fall_34 ?_
  refine z_icmp_ge 67 dX9_fall_35 rfl hf (fun _ hf => ?_) (fun _ hf => ?_)
  · refine z_iload 3 dX9_fall_67 rfl ?_
    cases hf
    exact z_iret dX9_fall_69 rfl (hM.2 _ rfl)
  · refine z_iload 3 dX9_fall_38 rfl ?_
    refine z_if_ne 67 dX9_fall_40 rfl hf (fun _ hf => ?_) (fun _ hf => ?_)
    · refine z_iload 3 dX9_fall_67 rfl ?_
      cases hf
      exact z_iret dX9_fall_69 rfl (hM.2 _ rfl)
    · refine z_aload_n 0 dX9_fall_43 rfl rfl ?_
      refine z_iload_n 1 dX9_fall_44 rfl rfl ?_
      refine z_aload_n 0 dX9_fall_45 rfl rfl ?_
      refine z_getr fdX9_72_7 (Or.inr ⟨_, rfl⟩) (hL.t 0 rfl) (hL.p 20 rfl) dX9_fall_46 ?_
      refine z_iconst 4 dX9_fall_49 rfl ?_
      refine z_iload_n 2 dX9_fall_50 rfl rfl ?_
      refine z_imul dX9_fall_51 ?_
      refine z_iload 4 dX9_fall_52 rfl ?_
      refine z_iadd dX9_fall_54 ?_
      obtain ⟨hi_7, hf⟩ := zck_some hf
      refine z_iald (hL.t 21 rfl) hi_7 dX9_fall_55 ?_
      obtain ⟨v_9, h_10, hc_8, hf⟩ := zb2_some hf
      have hct := hg (l := F.1) hL hc_8
      refine z_invVi svX9_354_7 hct (hL.t 0 rfl) ⟨hD.1, by decide⟩ rfl rfl (Nat.le_of_ble_eq_true rfl) dX9_fall_56 ?_
      have hL := hL.ext mOk hct.1
      refine z_istore dX9_fall_59 (by decide) (lc' := [(0, .ref a), (1, .int x1), (3, .int x3), (4, .int v_9), (5, .int x5)]) rfl ?_
      refine z_iinc 4 (x5 + 1) dX9_fall_61 rfl rfl (by decide) (lc' := [(0, .ref a), (1, .int x1), (3, .int x3), (4, .int v_9), (5, .int (x5 + 1))]) rfl ?_
      refine z_goto 27 dX9_fall_64 rfl ?_
      cases hf
      exact (hM.1 _ rfl) hL
theorem svX9_348_7 : zIv RX9 348 yX9_putPoint (ws_ yX9_putPoint cX9_putPoint 4 (some .int)) 4 7 1 := ⟨zGood_c q1803 q109, ⟨_, _, rfl, rfl, qs75⟩, Or.inl q1800, q1802, ⟨by decide, by decide⟩, by decide +kernel⟩
noncomputable def fX9_fall_B (g : (zH → Nat → Int32 → Int32 → Option (Int32 × zH))) (h : zH) (a : Nat) (x1 : Int32) (x2 : Int32) : Option (Int32 × zH) := zb2 (fX9_find h a x1 x2) (fun v_2 h_3 => if v_2 = 0 then (zb1 (fX9_fallbackOf h_3 a x2) (fun v_5 => zlp (fun s => fX9_fall_L27 g s.1 a x1 v_5 s.2.1 s.2.2) (h_3, 0, 0))) else (zb2 (fX9_putPoint h_3 a x1) (fun v_12 h_13 => some ((v_12, h_13)))))
theorem zX9_fall_B {F : zF} {g : (zH → Nat → Int32 → Int32 → Option (Int32 × zH))} {h : zH} {a : Nat} {x1 : Int32} {x2 : Int32} {y : Int32 × zH} {dg : Nat} (hD : dg + 1 ≤ F.2.1 ∧ 14 ≤ F.2.1) (hg : ∀ {l : Launch} {h : zH} {a : Nat} {x1 : Int32} {x2 : Int32} {v : Int32} {h' : zH}, zBlk mB mP h a → g h a x1 x2 = some (v, h') → zC l yX9_fall (ws_ yX9_fall cX9_fall 6 (some .int)) dg [.ref a, .int x1, .int x2] h (.inl (some (.int v)), h')) (hL : zBlk mB mP h a) (hf : fX9_fall_B g h a x1 x2 = some y) (hM : ((.inl (some (.int y.1)), y.2) : zX) = zEnd F) : Z F 6 cX9_fall RX9 "fall" (some .int) [] h 0 [(0, .ref a), (1, .int x1), (2, .int x2)] [] := by
  unfold fX9_fall_B at hf
  refine z_aload_n 0 dX9_fall_0 rfl rfl ?_
  refine z_iload_n 1 dX9_fall_1 rfl rfl ?_
  refine z_iload_n 2 dX9_fall_2 rfl rfl ?_
  obtain ⟨v_2, h_3, hc_1, hf⟩ := zb2_some hf
  have hct := ctX9_find (l := F.1) hL hc_1
  refine z_invVi svX9_252_7 hct (hL.t 0 rfl) ⟨Nat.le_trans (by decide) hD.2, by decide⟩ rfl rfl (Nat.le_of_ble_eq_true rfl) dX9_fall_3 ?_
  have hL := hL.ext mOk hct.1
  refine z_if_eq 15 dX9_fall_6 rfl hf (fun _ hf => ?_) (fun _ hf => ?_)
  · refine z_aload_n 0 dX9_fall_15 rfl rfl ?_
    refine z_iload_n 2 dX9_fall_16 rfl rfl ?_
    obtain ⟨v_5, hc_4, hf⟩ := zb1_some hf
    refine z_invVi svX9_357_7 (ctX9_fallbackOf hL hc_4) (hL.t 0 rfl) ⟨Nat.le_trans (by decide) hD.2, by decide⟩ rfl rfl (Nat.le_of_ble_eq_true rfl) dX9_fall_17 ?_
    refine z_istore_n dX9_fall_20 rfl (by decide) (lc' := [(0, .ref a), (1, .int x1), (2, .int x2), (3, .int v_5)]) rfl ?_
    refine z_iconst 0 dX9_fall_21 rfl ?_
    refine z_istore dX9_fall_22 (by decide) (lc' := [(0, .ref a), (1, .int x1), (2, .int x2), (3, .int v_5), (4, .int 0)]) rfl ?_
    refine z_iconst 0 dX9_fall_24 rfl ?_
    refine z_istore dX9_fall_25 (by decide) (lc' := [(0, .ref a), (1, .int x1), (2, .int x2), (3, .int v_5), (4, .int 0), (5, .int 0)]) rfl ?_
    refine z_sub [0, 1, 3, 4, 5] rfl ?_
    exact z_loop (fun (s : zH × Int32 × Int32) => (zBlk mB mP s.1 a → Z F 6 cX9_fall RX9 "fall" (some .int) [] s.1 27 [(0, .ref a), (1, .int x1), (3, .int v_5), (4, .int s.2.1), (5, .int s.2.2)] [])) (fun (r : (Int32 × zH)) => ((.inl (some (.int r.1)), r.2) : zX) = zEnd F) (fun s y hb hs hr hL => zX9_fall_L27 hD hg hL hb ⟨hs, hr⟩) hf hM hL
  · refine z_aload_n 0 dX9_fall_9 rfl rfl ?_
    refine z_iload_n 1 dX9_fall_10 rfl rfl ?_
    obtain ⟨v_12, h_13, hc_11, hf⟩ := zb2_some hf
    have hct := ctX9_putPoint (l := F.1) hL hc_11
    refine z_invVi svX9_348_7 hct (hL.t 0 rfl) ⟨Nat.le_trans (by decide) hD.2, by decide⟩ rfl rfl (Nat.le_of_ble_eq_true rfl) dX9_fall_11 ?_
    have hL := hL.ext mOk hct.1
    cases hf
    exact z_iret dX9_fall_14 rfl hM
noncomputable def fX9_fall : Nat → zH → Nat → Int32 → Int32 → Option (Int32 × zH)
  | 0 => fun _ _ _ _ => none
  | n + 1 => fX9_fall_B (fX9_fall n)
theorem ctX9_fall (n : Nat) : ∀ {l : Launch} {h : zH} {a : Nat} {x1 : Int32} {x2 : Int32} {v : Int32} {h' : zH}, zBlk mB mP h a → fX9_fall n h a x1 x2 = some (v, h') → zC l yX9_fall (ws_ yX9_fall cX9_fall 6 (some .int)) (n + 14) [.ref a, .int x1, .int x2] h (.inl (some (.int v)), h') := by
  induction n with
  | zero => intro l h a x1 x2 v h' hL hf; cases hf
  | succ n ih =>
    intro l h a x1 x2 v h' hL hf
    exact z_start (by decide) (Nat.le_of_ble_eq_true rfl) (zX9_fall_B (F := (l, n + 1 + 14, h, (.inl (some (.int v)), h'))) (dg := n + 14) ⟨by show n + 14 + 1 ≤ n + 1 + 14; omega, by show 14 ≤ n + 1 + 14; omega⟩ ih hL hf rfl)
noncomputable def fX9_writePoint (h : zH) (a : Nat) (x1 : Int32) (x2 : Int32) (x3 : Int32) : Option (Int32 × zH) := zb2 (fX9_find h a x1 x3) (fun v_2 h_3 => if v_2 = 0 then (if x2 = 1 then (zck (vp_in 1 2) (zb2 (fX9_find h_3 a x1 (zI h_3 (a + 17) (1 : Int32).toNatClampNeg)) (fun v_12 h_13 => if v_12 = 0 then (some ((0, h_13))) else (zb2 (fX9_putPoint h_13 a x1) (fun v_15 h_16 => some ((v_15, h_16))))))) else (if x2 = 2 then (some ((0, h_3))) else (if x2 = 4 then (zb2 (fX9_falls 50 h_3 a x1 x3) (fun v_5 h_6 => if v_5 = 0 then (some (((-10), h_6))) else (zb2 (fX9_fall 50 h_6 a x1 x3) (fun v_8 h_9 => some ((v_8, h_9)))))) else (some (((-10), h_3)))))) else (zb2 (fX9_putPoint h_3 a x1) (fun v_18 h_19 => some ((v_18, h_19)))))
theorem zX9_writePoint {F : zF} {h : zH} {a : Nat} {x1 : Int32} {x2 : Int32} {x3 : Int32} {y : Int32 × zH} (hD : 65 ≤ F.2.1) (hL : zBlk mB mP h a) (hf : fX9_writePoint h a x1 x2 x3 = some y) (hM : ((.inl (some (.int y.1)), y.2) : zX) = zEnd F) : Z F 4 cX9_writePoint RX9 "writePoint" (some .int) [] h 0 [(0, .ref a), (1, .int x1), (2, .int x2), (3, .int x3)] [] := by
  unfold fX9_writePoint at hf
  refine z_aload_n 0 dX9_writePoint_0 rfl rfl ?_
  refine z_iload_n 1 dX9_writePoint_1 rfl rfl ?_
  refine z_iload_n 3 dX9_writePoint_2 rfl rfl ?_
  obtain ⟨v_2, h_3, hc_1, hf⟩ := zb2_some hf
  have hct := ctX9_find (l := F.1) hL hc_1
  refine z_invVi svX9_252_7 hct (hL.t 0 rfl) ⟨Nat.le_trans (by decide) hD, by decide⟩ rfl rfl (Nat.le_of_ble_eq_true rfl) dX9_writePoint_3 ?_
  have hL := hL.ext mOk hct.1
  refine z_if_eq 15 dX9_writePoint_6 rfl hf (fun _ hf => ?_) (fun _ hf => ?_)
  · refine z_iload_n 2 dX9_writePoint_15 rfl rfl ?_
    refine z_iconst 1 dX9_writePoint_16 rfl ?_
    refine z_icmp_ne 44 dX9_writePoint_17 rfl hf (fun _ hf => ?_) (fun _ hf => ?_)
    · refine z_iload_n 2 dX9_writePoint_44 rfl rfl ?_
      refine z_iconst 2 dX9_writePoint_45 rfl ?_
      refine z_icmp_ne 51 dX9_writePoint_46 rfl hf (fun _ hf => ?_) (fun _ hf => ?_)
      · refine z_iload_n 2 dX9_writePoint_51 rfl rfl ?_
        refine z_iconst 4 dX9_writePoint_52 rfl ?_
        refine z_icmp_ne 74 dX9_writePoint_53 rfl hf (fun _ hf => ?_) (fun _ hf => ?_)
        · refine z_bipush (-10) dX9_writePoint_74 rfl ?_
          cases hf
          exact z_iret dX9_writePoint_76 rfl hM
        · refine z_aload_n 0 dX9_writePoint_56 rfl rfl ?_
          refine z_iload_n 1 dX9_writePoint_57 rfl rfl ?_
          refine z_iload_n 3 dX9_writePoint_58 rfl rfl ?_
          obtain ⟨v_5, h_6, hc_4, hf⟩ := zb2_some hf
          have hct := ctX9_falls 50 (l := F.1) hL hc_4
          refine z_invVi svX9_351_7 hct (hL.t 0 rfl) ⟨Nat.le_trans (by decide) hD, by decide⟩ rfl rfl (Nat.le_of_ble_eq_true rfl) dX9_writePoint_59 ?_
          have hL := hL.ext mOk hct.1
          refine z_if_eq 74 dX9_writePoint_62 rfl hf (fun _ hf => ?_) (fun _ hf => ?_)
          · refine z_bipush (-10) dX9_writePoint_74 rfl ?_
            cases hf
            exact z_iret dX9_writePoint_76 rfl hM
          · refine z_aload_n 0 dX9_writePoint_65 rfl rfl ?_
            refine z_iload_n 1 dX9_writePoint_66 rfl rfl ?_
            refine z_iload_n 3 dX9_writePoint_67 rfl rfl ?_
            obtain ⟨v_8, h_9, hc_7, hf⟩ := zb2_some hf
            have hct := ctX9_fall 50 (l := F.1) hL hc_7
            refine z_invVi svX9_354_7 hct (hL.t 0 rfl) ⟨Nat.le_trans (by decide) hD, by decide⟩ rfl rfl (Nat.le_of_ble_eq_true rfl) dX9_writePoint_68 ?_
            have hL := hL.ext mOk hct.1
            refine z_goto 76 dX9_writePoint_71 rfl ?_
            cases hf
            exact z_iret dX9_writePoint_76 rfl hM
      · refine z_iconst 0 dX9_writePoint_49 rfl ?_
        cases hf
        exact z_iret dX9_writePoint_50 rfl hM
    · refine z_aload_n 0 dX9_writePoint_20 rfl rfl ?_
      refine z_iload_n 1 dX9_writePoint_21 rfl rfl ?_
      refine z_aload_n 0 dX9_writePoint_22 rfl rfl ?_
      refine z_getr fdX9_60_7 (Or.inr ⟨_, rfl⟩) (hL.t 0 rfl) (hL.p 16 rfl) dX9_writePoint_23 ?_
      refine z_iconst 1 dX9_writePoint_26 rfl ?_
      obtain ⟨hi_10, hf⟩ := zck_some hf
      refine z_iald (hL.t 17 rfl) hi_10 dX9_writePoint_27 ?_
      obtain ⟨v_12, h_13, hc_11, hf⟩ := zb2_some hf
      have hct := ctX9_find (l := F.1) hL hc_11
      refine z_invVi svX9_252_7 hct (hL.t 0 rfl) ⟨Nat.le_trans (by decide) hD, by decide⟩ rfl rfl (Nat.le_of_ble_eq_true rfl) dX9_writePoint_28 ?_
      have hL := hL.ext mOk hct.1
      refine z_if_eq 42 dX9_writePoint_31 rfl hf (fun _ hf => ?_) (fun _ hf => ?_)
      · refine z_iconst 0 dX9_writePoint_42 rfl ?_
        cases hf
        exact z_iret dX9_writePoint_43 rfl hM
      · refine z_aload_n 0 dX9_writePoint_34 rfl rfl ?_
        refine z_iload_n 1 dX9_writePoint_35 rfl rfl ?_
        obtain ⟨v_15, h_16, hc_14, hf⟩ := zb2_some hf
        have hct := ctX9_putPoint (l := F.1) hL hc_14
        refine z_invVi svX9_348_7 hct (hL.t 0 rfl) ⟨Nat.le_trans (by decide) hD, by decide⟩ rfl rfl (Nat.le_of_ble_eq_true rfl) dX9_writePoint_36 ?_
        have hL := hL.ext mOk hct.1
        refine z_goto 43 dX9_writePoint_39 rfl ?_
        cases hf
        exact z_iret dX9_writePoint_43 rfl hM
  · refine z_aload_n 0 dX9_writePoint_9 rfl rfl ?_
    refine z_iload_n 1 dX9_writePoint_10 rfl rfl ?_
    obtain ⟨v_18, h_19, hc_17, hf⟩ := zb2_some hf
    have hct := ctX9_putPoint (l := F.1) hL hc_17
    refine z_invVi svX9_348_7 hct (hL.t 0 rfl) ⟨Nat.le_trans (by decide) hD, by decide⟩ rfl rfl (Nat.le_of_ble_eq_true rfl) dX9_writePoint_11 ?_
    have hL := hL.ext mOk hct.1
    cases hf
    exact z_iret dX9_writePoint_14 rfl hM
theorem ctX9_writePoint {l : Launch} {h : zH} {a : Nat} {x1 : Int32} {x2 : Int32} {x3 : Int32} {v : Int32} {h' : zH} (hL : zBlk mB mP h a) (hf : fX9_writePoint h a x1 x2 x3 = some (v, h')) : zC l yX9_writePoint (ws_ yX9_writePoint cX9_writePoint 4 (some .int)) 65 [.ref a, .int x1, .int x2, .int x3] h (.inl (some (.int v)), h') :=
  z_start (by decide) (Nat.le_of_ble_eq_true rfl) (zX9_writePoint (F := (l, 65, h, (.inl (some (.int v)), h'))) (Nat.le_refl _) hL hf rfl)
noncomputable def fX9_writeLone (h : zH) (a : Nat) (x1 : Int32) (x2 : Int32) (x3 : Int32) : Option (Int32 × zH) := if x2 = 1 then (zck (vp_in 1 2) (zb2 (fX9_find h a x1 (zI h (a + 17) (1 : Int32).toNatClampNeg)) (fun v_8 h_9 => if v_8 = 0 then (some ((0, h_9))) else (zb2 (fX9_putPoint h_9 a x1) (fun v_11 h_12 => some ((v_11, h_12))))))) else (if x2 = 2 then (some ((0, h))) else (if x2 = 3 then (zb1 (fX9_in x3 56320 56575) (fun v_2 => if v_2 = 0 then (some (((-10), h))) else (zb2 (fX9_putByte h a (x3 - 56320)) (fun v_4 h_5 => some ((v_4, h_5)))))) else (some (((-10), h)))))
theorem zX9_writeLone {F : zF} {h : zH} {a : Nat} {x1 : Int32} {x2 : Int32} {x3 : Int32} {y : Int32 × zH} (hD : 14 ≤ F.2.1) (hL : zBlk mB mP h a) (hf : fX9_writeLone h a x1 x2 x3 = some y) (hM : ((.inl (some (.int y.1)), y.2) : zX) = zEnd F) : Z F 4 cX9_writeLone RX9 "writeLone" (some .int) [] h 0 [(0, .ref a), (1, .int x1), (2, .int x2), (3, .int x3)] [] := by
  unfold fX9_writeLone at hf
  refine z_iload_n 2 dX9_writeLone_0 rfl rfl ?_
  refine z_iconst 1 dX9_writeLone_1 rfl ?_
  refine z_icmp_ne 29 dX9_writeLone_2 rfl hf (fun _ hf => ?_) (fun _ hf => ?_)
  · refine z_iload_n 2 dX9_writeLone_29 rfl rfl ?_
    refine z_iconst 2 dX9_writeLone_30 rfl ?_
    refine z_icmp_ne 36 dX9_writeLone_31 rfl hf (fun _ hf => ?_) (fun _ hf => ?_)
    · refine z_iload_n 2 dX9_writeLone_36 rfl rfl ?_
      refine z_iconst 3 dX9_writeLone_37 rfl ?_
      refine z_icmp_ne 64 dX9_writeLone_38 rfl hf (fun _ hf => ?_) (fun _ hf => ?_)
      · refine z_bipush (-10) dX9_writeLone_64 rfl ?_
        cases hf
        exact z_iret dX9_writeLone_66 rfl hM
      · refine z_iload_n 3 dX9_writeLone_41 rfl rfl ?_
        refine z_ldc q1724 dX9_writeLone_42 ?_
        refine z_ldcw q1832 dX9_writeLone_44 ?_
        obtain ⟨v_2, hc_1, hf⟩ := zb1_some hf
        refine z_invSi ssX9_156 (ctX9_in hc_1) ⟨Nat.le_trans (by decide) hD, by decide⟩ rfl rfl (Nat.le_of_ble_eq_true rfl) dX9_writeLone_47 ?_
        refine z_if_eq 64 dX9_writeLone_50 rfl hf (fun _ hf => ?_) (fun _ hf => ?_)
        · refine z_bipush (-10) dX9_writeLone_64 rfl ?_
          cases hf
          exact z_iret dX9_writeLone_66 rfl hM
        · refine z_aload_n 0 dX9_writeLone_53 rfl rfl ?_
          refine z_iload_n 3 dX9_writeLone_54 rfl rfl ?_
          refine z_ldc q1724 dX9_writeLone_55 ?_
          refine z_isub dX9_writeLone_57 ?_
          obtain ⟨v_4, h_5, hc_3, hf⟩ := zb2_some hf
          have hct := ctX9_putByte (l := F.1) hL hc_3
          refine z_invVi svX9_338_7 hct (hL.t 0 rfl) ⟨Nat.le_trans (by decide) hD, by decide⟩ rfl rfl (Nat.le_of_ble_eq_true rfl) dX9_writeLone_58 ?_
          have hL := hL.ext mOk hct.1
          refine z_goto 66 dX9_writeLone_61 rfl ?_
          cases hf
          exact z_iret dX9_writeLone_66 rfl hM
    · refine z_iconst 0 dX9_writeLone_34 rfl ?_
      cases hf
      exact z_iret dX9_writeLone_35 rfl hM
  · refine z_aload_n 0 dX9_writeLone_5 rfl rfl ?_
    refine z_iload_n 1 dX9_writeLone_6 rfl rfl ?_
    refine z_aload_n 0 dX9_writeLone_7 rfl rfl ?_
    refine z_getr fdX9_60_7 (Or.inr ⟨_, rfl⟩) (hL.t 0 rfl) (hL.p 16 rfl) dX9_writeLone_8 ?_
    refine z_iconst 1 dX9_writeLone_11 rfl ?_
    obtain ⟨hi_6, hf⟩ := zck_some hf
    refine z_iald (hL.t 17 rfl) hi_6 dX9_writeLone_12 ?_
    obtain ⟨v_8, h_9, hc_7, hf⟩ := zb2_some hf
    have hct := ctX9_find (l := F.1) hL hc_7
    refine z_invVi svX9_252_7 hct (hL.t 0 rfl) ⟨Nat.le_trans (by decide) hD, by decide⟩ rfl rfl (Nat.le_of_ble_eq_true rfl) dX9_writeLone_13 ?_
    have hL := hL.ext mOk hct.1
    refine z_if_eq 27 dX9_writeLone_16 rfl hf (fun _ hf => ?_) (fun _ hf => ?_)
    · refine z_iconst 0 dX9_writeLone_27 rfl ?_
      cases hf
      exact z_iret dX9_writeLone_28 rfl hM
    · refine z_aload_n 0 dX9_writeLone_19 rfl rfl ?_
      refine z_iload_n 1 dX9_writeLone_20 rfl rfl ?_
      obtain ⟨v_11, h_12, hc_10, hf⟩ := zb2_some hf
      have hct := ctX9_putPoint (l := F.1) hL hc_10
      refine z_invVi svX9_348_7 hct (hL.t 0 rfl) ⟨Nat.le_trans (by decide) hD, by decide⟩ rfl rfl (Nat.le_of_ble_eq_true rfl) dX9_writeLone_21 ?_
      have hL := hL.ext mOk hct.1
      refine z_goto 28 dX9_writeLone_24 rfl ?_
      cases hf
      exact z_iret dX9_writeLone_28 rfl hM
theorem ctX9_writeLone {l : Launch} {h : zH} {a : Nat} {x1 : Int32} {x2 : Int32} {x3 : Int32} {v : Int32} {h' : zH} (hL : zBlk mB mP h a) (hf : fX9_writeLone h a x1 x2 x3 = some (v, h')) : zC l yX9_writeLone (ws_ yX9_writeLone cX9_writeLone 4 (some .int)) 14 [.ref a, .int x1, .int x2, .int x3] h (.inl (some (.int v)), h') :=
  z_start (by decide) (Nat.le_of_ble_eq_true rfl) (zX9_writeLone (F := (l, 14, h, (.inl (some (.int v)), h'))) (Nat.le_refl _) hL hf rfl)
noncomputable def fX9_goHome (h : zH) (a : Nat) (x1 : Int32) : Option (Int32 × zH) := zck (vp_in x1 11) (if (zI h (a + 1) x1.toNatClampNeg) = 0 then (zb2 (fX9_go h a x1 0 0) (fun v_3 h_4 => some ((v_3, h_4)))) else (some ((0, h))))
theorem zX9_goHome {F : zF} {h : zH} {a : Nat} {x1 : Int32} {y : Int32 × zH} (hD : 13 ≤ F.2.1) (hL : zBlk mB mP h a) (hf : fX9_goHome h a x1 = some y) (hM : ((.inl (some (.int y.1)), y.2) : zX) = zEnd F) : Z F 2 cX9_goHome RX9 "goHome" (some .int) [] h 0 [(0, .ref a), (1, .int x1)] [] := by
  unfold fX9_goHome at hf
  refine z_aload_n 0 dX9_goHome_0 rfl rfl ?_
  refine z_getr fdX9_9_7 (Or.inr ⟨_, rfl⟩) (hL.t 0 rfl) (hL.p 0 rfl) dX9_goHome_1 ?_
  refine z_iload_n 1 dX9_goHome_4 rfl rfl ?_
  obtain ⟨hi_1, hf⟩ := zck_some hf
  refine z_iald (hL.t 1 rfl) hi_1 dX9_goHome_5 ?_
  refine z_if_ne 19 dX9_goHome_6 rfl hf (fun _ hf => ?_) (fun _ hf => ?_)
  · refine z_iconst 0 dX9_goHome_19 rfl ?_
    cases hf
    exact z_iret dX9_goHome_20 rfl hM
  · refine z_aload_n 0 dX9_goHome_9 rfl rfl ?_
    refine z_iload_n 1 dX9_goHome_10 rfl rfl ?_
    refine z_iconst 0 dX9_goHome_11 rfl ?_
    refine z_iconst 0 dX9_goHome_12 rfl ?_
    obtain ⟨v_3, h_4, hc_2, hf⟩ := zb2_some hf
    have hct := ctX9_go (l := F.1) hL hc_2
    refine z_invVi svX9_341_7 hct (hL.t 0 rfl) ⟨Nat.le_trans (by decide) hD, by decide⟩ rfl rfl (Nat.le_of_ble_eq_true rfl) dX9_goHome_13 ?_
    have hL := hL.ext mOk hct.1
    refine z_goto 20 dX9_goHome_16 rfl ?_
    cases hf
    exact z_iret dX9_goHome_20 rfl hM
theorem ctX9_goHome {l : Launch} {h : zH} {a : Nat} {x1 : Int32} {v : Int32} {h' : zH} (hL : zBlk mB mP h a) (hf : fX9_goHome h a x1 = some (v, h')) : zC l yX9_goHome (ws_ yX9_goHome cX9_goHome 2 (some .int)) 13 [.ref a, .int x1] h (.inl (some (.int v)), h') :=
  z_start (by decide) (Nat.le_of_ble_eq_true rfl) (zX9_goHome (F := (l, 13, h, (.inl (some (.int v)), h'))) (Nat.le_refl _) hL hf rfl)
theorem fdX9_90_7 : zFd RX9 90 7 45 (.array .int) true := ⟨_, _, _, rfl, rfl, by decide, rfl, rfl, Or.inl q1437, Or.inl rfl⟩
theorem svX9_367_7 : zIv RX9 367 yX9_goHome (ws_ yX9_goHome cX9_goHome 2 (some .int)) 2 7 1 := ⟨zGood_c q1836 q109, ⟨_, _, rfl, rfl, qs83⟩, Or.inl q1833, q1835, ⟨by decide, by decide⟩, by decide +kernel⟩
theorem svX9_364_7 : zIv RX9 364 yX9_writeLone (ws_ yX9_writeLone cX9_writeLone 4 (some .int)) 4 7 3 := ⟨zGood_c q1831 q109, ⟨_, _, rfl, rfl, qs82⟩, Or.inl q1828, q1830, ⟨by decide, by decide⟩, by decide +kernel⟩
noncomputable def fX9_writeAll_J162 (h : zH) (a : Nat) (x1 : Int32) (x2 : Int32) (x3 : Nat) (x4 : Int32) (x7 : Int32) (x9 : Int32) (x10 : Int32) : Option ((zH × Int32) ⊕ ((Int32 × zH))) := if x10 = 0 then (if x9 = 0 then (some (.inl ((h, x7 + 1)))) else (some (.inl ((h, x7 + 2))))) else (some (.inr ((x10, h))))
theorem zX9_writeAll_J162 {F : zF} {h : zH} {a : Nat} {x1 : Int32} {x2 : Int32} {x3 : Nat} {x4 : Int32} {x7 : Int32} {x9 : Int32} {x10 : Int32} {y : (zH × Int32) ⊕ ((Int32 × zH))} (hD : 66 ≤ F.2.1) (hL : zBlk mB mP h a) (hf : fX9_writeAll_J162 h a x1 x2 x3 x4 x7 x9 x10 = some y) (hM : ((∀ s' : zH × Int32, y = .inl s' → (zBlk mB mP s'.1 a → Z F 11 cX9_writeAll RX9 "writeAll" (some .int) [] s'.1 28 [(0, .ref a), (1, .int x1), (2, .int x2), (3, .ref x3), (4, .int x4), (7, .int s'.2)] [])) ∧ ∀ r : (Int32 × zH), y = .inr r → ((.inl (some (.int r.1)), r.2) : zX) = zEnd F)) : Z F 11 cX9_writeAll RX9 "writeAll" (some .int) [] h 162 [(0, .ref a), (1, .int x1), (2, .int x2), (3, .ref x3), (4, .int x4), (7, .int x7), (9, .int x9), (10, .int x10)] [] := by
  unfold fX9_writeAll_J162 at hf
  refine z_iload 7 dX9_writeAll_162 rfl ?_
  refine z_if_eq 170 dX9_writeAll_164 rfl hf (fun _ hf => ?_) (fun _ hf => ?_)
  · refine z_iload 5 dX9_writeAll_170 rfl ?_
    refine z_iload 6 dX9_writeAll_172 rfl ?_
    refine z_if_eq 181 dX9_writeAll_174 rfl hf (fun _ hf => ?_) (fun _ hf => ?_)
    · refine z_iconst 1 dX9_writeAll_181 rfl ?_
      refine z_iadd dX9_writeAll_182 ?_
      refine z_istore dX9_writeAll_183 (by decide) (lc' := [(0, .ref a), (1, .int x1), (2, .int x2), (3, .ref x3), (4, .int x4), (7, .int (x7 + 1)), (9, .int x9), (10, .int x10)]) rfl ?_
      refine z_goto 28 dX9_writeAll_185 rfl ?_
      cases hf
      refine z_sub [0, 1, 2, 3, 4, 5] rfl ?_
      exact (hM.1 _ rfl) hL
    · refine z_iconst 2 dX9_writeAll_177 rfl ?_
      refine z_goto 182 dX9_writeAll_178 rfl ?_
      refine z_iadd dX9_writeAll_182 ?_
      refine z_istore dX9_writeAll_183 (by decide) (lc' := [(0, .ref a), (1, .int x1), (2, .int x2), (3, .ref x3), (4, .int x4), (7, .int (x7 + 2)), (9, .int x9), (10, .int x10)]) rfl ?_
      refine z_goto 28 dX9_writeAll_185 rfl ?_
      cases hf
      refine z_sub [0, 1, 2, 3, 4, 5] rfl ?_
      exact (hM.1 _ rfl) hL
  · refine z_iload 7 dX9_writeAll_167 rfl ?_
    cases hf
    exact z_iret dX9_writeAll_169 rfl (hM.2 _ rfl)
noncomputable def fX9_writeAll_J147 (h : zH) (a : Nat) (x1 : Int32) (x2 : Int32) (x3 : Nat) (x4 : Int32) (x7 : Int32) (x9 : Int32) (k0 : Int32) : Option ((zH × Int32) ⊕ ((Int32 × zH))) := if k0 = ((-10)) then (zlet (zsI h a 22 x7) (fun h_16 => fX9_writeAll_J162 h_16 a x1 x2 x3 x4 x7 x9 k0)) else (fX9_writeAll_J162 h a x1 x2 x3 x4 x7 x9 k0)
theorem zX9_writeAll_J147 {F : zF} {h : zH} {a : Nat} {x1 : Int32} {x2 : Int32} {x3 : Nat} {x4 : Int32} {x7 : Int32} {x9 : Int32} {k0 : Int32} {y : (zH × Int32) ⊕ ((Int32 × zH))} (hD : 66 ≤ F.2.1) (hL : zBlk mB mP h a) (hf : fX9_writeAll_J147 h a x1 x2 x3 x4 x7 x9 k0 = some y) (hM : ((∀ s' : zH × Int32, y = .inl s' → (zBlk mB mP s'.1 a → Z F 11 cX9_writeAll RX9 "writeAll" (some .int) [] s'.1 28 [(0, .ref a), (1, .int x1), (2, .int x2), (3, .ref x3), (4, .int x4), (7, .int s'.2)] [])) ∧ ∀ r : (Int32 × zH), y = .inr r → ((.inl (some (.int r.1)), r.2) : zX) = zEnd F)) : Z F 11 cX9_writeAll RX9 "writeAll" (some .int) [] h 147 [(0, .ref a), (1, .int x1), (2, .int x2), (3, .ref x3), (4, .int x4), (7, .int x7), (9, .int x9)] [.int k0] := by
  unfold fX9_writeAll_J147 at hf
  refine z_istore dX9_writeAll_147 (by decide) (lc' := [(0, .ref a), (1, .int x1), (2, .int x2), (3, .ref x3), (4, .int x4), (7, .int x7), (9, .int x9), (10, .int k0)]) rfl ?_
  refine z_iload 7 dX9_writeAll_149 rfl ?_
  refine z_bipush (-10) dX9_writeAll_151 rfl ?_
  refine z_icmp_ne 162 dX9_writeAll_153 rfl hf (fun _ hf => ?_) (fun _ hf => ?_)
  · exact zX9_writeAll_J162 hD hL hf hM
  · refine z_aload_n 0 dX9_writeAll_156 rfl rfl ?_
    refine z_iload 5 dX9_writeAll_157 rfl ?_
    obtain ⟨h_16, he, hf⟩ := zlet_some hf
    refine z_puti fdX9_321_7 (hL.t 0 rfl) (hL.nz 0) he dX9_writeAll_159 ?_
    have hL := hL.I he
    exact zX9_writeAll_J162 hD hL hf hM
noncomputable def fX9_writeAll_J128 (h : zH) (a : Nat) (x1 : Int32) (x2 : Int32) (x3 : Nat) (x4 : Int32) (x7 : Int32) (x8 : Int32) (x9 : Int32) : Option ((zH × Int32) ⊕ ((Int32 × zH))) := zb2 (fX9_writeLone h a x1 x2 x8) (fun v_14 h_15 => fX9_writeAll_J147 h_15 a x1 x2 x3 x4 x7 x9 v_14)
theorem zX9_writeAll_J128 {F : zF} {h : zH} {a : Nat} {x1 : Int32} {x2 : Int32} {x3 : Nat} {x4 : Int32} {x7 : Int32} {x8 : Int32} {x9 : Int32} {y : (zH × Int32) ⊕ ((Int32 × zH))} (hD : 66 ≤ F.2.1) (hL : zBlk mB mP h a) (hf : fX9_writeAll_J128 h a x1 x2 x3 x4 x7 x8 x9 = some y) (hM : ((∀ s' : zH × Int32, y = .inl s' → (zBlk mB mP s'.1 a → Z F 11 cX9_writeAll RX9 "writeAll" (some .int) [] s'.1 28 [(0, .ref a), (1, .int x1), (2, .int x2), (3, .ref x3), (4, .int x4), (7, .int s'.2)] [])) ∧ ∀ r : (Int32 × zH), y = .inr r → ((.inl (some (.int r.1)), r.2) : zX) = zEnd F)) : Z F 11 cX9_writeAll RX9 "writeAll" (some .int) [] h 128 [(0, .ref a), (1, .int x1), (2, .int x2), (3, .ref x3), (4, .int x4), (7, .int x7), (8, .int x8), (9, .int x9)] [] := by
  unfold fX9_writeAll_J128 at hf
  refine z_aload_n 0 dX9_writeAll_128 rfl rfl ?_
  refine z_iload_n 1 dX9_writeAll_129 rfl rfl ?_
  refine z_iload_n 2 dX9_writeAll_130 rfl rfl ?_
  refine z_iload 6 dX9_writeAll_131 rfl ?_
  obtain ⟨v_14, h_15, hc_13, hf⟩ := zb2_some hf
  have hct := ctX9_writeLone (l := F.1) hL hc_13
  refine z_invVi svX9_364_7 hct (hL.t 0 rfl) ⟨Nat.le_trans (by decide) hD, by decide⟩ rfl rfl (Nat.le_of_ble_eq_true rfl) dX9_writeAll_133 ?_
  have hL := hL.ext mOk hct.1
  refine z_goto 147 dX9_writeAll_136 rfl ?_
  refine z_sub [0, 1, 2, 3, 4, 5, 7] rfl ?_
  exact zX9_writeAll_J147 hD hL hf hM
theorem svX9_361_7 : zIv RX9 361 yX9_writePoint (ws_ yX9_writePoint cX9_writePoint 4 (some .int)) 4 7 3 := ⟨zGood_c q1799 q109, ⟨_, _, rfl, rfl, qs74⟩, Or.inl q1796, q1798, ⟨by decide, by decide⟩, by decide +kernel⟩
noncomputable def fX9_writeAll_J75 (h : zH) (a : Nat) (x1 : Int32) (x2 : Int32) (x3 : Nat) (x4 : Int32) (x7 : Int32) (x8 : Int32) (k0 : Int32) : Option ((zH × Int32) ⊕ ((Int32 × zH))) := if k0 = 0 then (zb1 (fX9_isHigh x8) (fun v_12 => if v_12 = 0 then (zb1 (fX9_isLow x8) (fun v_18 => if v_18 = 0 then (zb2 (fX9_writePoint h a x1 x2 x8) (fun v_20 h_21 => fX9_writeAll_J147 h_21 a x1 x2 x3 x4 x7 k0 v_20)) else (fX9_writeAll_J128 h a x1 x2 x3 x4 x7 x8 k0))) else (fX9_writeAll_J128 h a x1 x2 x3 x4 x7 x8 k0))) else (zck (zAr h x3 (x7 + 1)) (zb2 (fX9_writePoint h a x1 x2 ((((65536 : Int32) + ((x8 - 55296) <<< (10 &&& 31))) + (zI h x3 (x7 + 1).toNatClampNeg)) - 56320)) (fun v_24 h_25 => fX9_writeAll_J147 h_25 a x1 x2 x3 x4 x7 k0 v_24)))
theorem zX9_writeAll_J75 {F : zF} {h : zH} {a : Nat} {x1 : Int32} {x2 : Int32} {x3 : Nat} {x4 : Int32} {x7 : Int32} {x8 : Int32} {k0 : Int32} {y : (zH × Int32) ⊕ ((Int32 × zH))} (hD : 66 ≤ F.2.1) (hL : zBlk mB mP h a) (hf : fX9_writeAll_J75 h a x1 x2 x3 x4 x7 x8 k0 = some y) (hM : ((∀ s' : zH × Int32, y = .inl s' → (zBlk mB mP s'.1 a → Z F 11 cX9_writeAll RX9 "writeAll" (some .int) [] s'.1 28 [(0, .ref a), (1, .int x1), (2, .int x2), (3, .ref x3), (4, .int x4), (7, .int s'.2)] [])) ∧ ∀ r : (Int32 × zH), y = .inr r → ((.inl (some (.int r.1)), r.2) : zX) = zEnd F)) : Z F 11 cX9_writeAll RX9 "writeAll" (some .int) [] h 75 [(0, .ref a), (1, .int x1), (2, .int x2), (3, .ref x3), (4, .int x4), (7, .int x7), (8, .int x8)] [.int k0] := by
  unfold fX9_writeAll_J75 at hf
  refine z_istore dX9_writeAll_75 (by decide) (lc' := [(0, .ref a), (1, .int x1), (2, .int x2), (3, .ref x3), (4, .int x4), (7, .int x7), (8, .int x8), (9, .int k0)]) rfl ?_
  refine z_iload 7 dX9_writeAll_77 rfl ?_
  refine z_if_eq 112 dX9_writeAll_79 rfl hf (fun _ hf => ?_) (fun _ hf => ?_)
  · refine z_iload 6 dX9_writeAll_112 rfl ?_
    obtain ⟨v_12, hc_11, hf⟩ := zb1_some hf
    refine z_invSi ssX9_304 (ctX9_isHigh hc_11) ⟨Nat.le_trans (by decide) hD, by decide⟩ rfl rfl (Nat.le_of_ble_eq_true rfl) dX9_writeAll_114 ?_
    refine z_if_ne 128 dX9_writeAll_117 rfl hf (fun _ hf => ?_) (fun _ hf => ?_)
    · exact zX9_writeAll_J128 hD hL hf hM
    · refine z_iload 6 dX9_writeAll_120 rfl ?_
      obtain ⟨v_18, hc_17, hf⟩ := zb1_some hf
      refine z_invSi ssX9_301 (ctX9_isLow hc_17) ⟨Nat.le_trans (by decide) hD, by decide⟩ rfl rfl (Nat.le_of_ble_eq_true rfl) dX9_writeAll_122 ?_
      refine z_if_eq 139 dX9_writeAll_125 rfl hf (fun _ hf => ?_) (fun _ hf => ?_)
      · refine z_aload_n 0 dX9_writeAll_139 rfl rfl ?_
        refine z_iload_n 1 dX9_writeAll_140 rfl rfl ?_
        refine z_iload_n 2 dX9_writeAll_141 rfl rfl ?_
        refine z_iload 6 dX9_writeAll_142 rfl ?_
        obtain ⟨v_20, h_21, hc_19, hf⟩ := zb2_some hf
        have hct := ctX9_writePoint (l := F.1) hL hc_19
        refine z_invVi svX9_361_7 hct (hL.t 0 rfl) ⟨Nat.le_trans (by decide) hD, by decide⟩ rfl rfl (Nat.le_of_ble_eq_true rfl) dX9_writeAll_144 ?_
        have hL := hL.ext mOk hct.1
        refine z_sub [0, 1, 2, 3, 4, 5, 7] rfl ?_
        exact zX9_writeAll_J147 hD hL hf hM
      · exact zX9_writeAll_J128 hD hL hf hM
  · refine z_aload_n 0 dX9_writeAll_82 rfl rfl ?_
    refine z_iload_n 1 dX9_writeAll_83 rfl rfl ?_
    refine z_iload_n 2 dX9_writeAll_84 rfl rfl ?_
    refine z_ldc q1712 dX9_writeAll_85 ?_
    refine z_iload 6 dX9_writeAll_87 rfl ?_
    refine z_ldc q1642 dX9_writeAll_89 ?_
    refine z_isub dX9_writeAll_91 ?_
    refine z_bipush 10 dX9_writeAll_92 rfl ?_
    refine z_ishl dX9_writeAll_94 ?_
    refine z_iadd dX9_writeAll_95 ?_
    refine z_aload_n 3 dX9_writeAll_96 rfl rfl ?_
    refine z_iload 5 dX9_writeAll_97 rfl ?_
    refine z_iconst 1 dX9_writeAll_99 rfl ?_
    refine z_iadd dX9_writeAll_100 ?_
    obtain ⟨hi_22, hf⟩ := zck_some hf
    refine z_iald (zAr_t hi_22) hi_22.2 dX9_writeAll_101 ?_
    refine z_iadd dX9_writeAll_102 ?_
    refine z_ldc q1724 dX9_writeAll_103 ?_
    refine z_isub dX9_writeAll_105 ?_
    obtain ⟨v_24, h_25, hc_23, hf⟩ := zb2_some hf
    have hct := ctX9_writePoint (l := F.1) hL hc_23
    refine z_invVi svX9_361_7 hct (hL.t 0 rfl) ⟨Nat.le_trans (by decide) hD, by decide⟩ rfl rfl (Nat.le_of_ble_eq_true rfl) dX9_writeAll_106 ?_
    have hL := hL.ext mOk hct.1
    refine z_goto 147 dX9_writeAll_109 rfl ?_
    refine z_sub [0, 1, 2, 3, 4, 5, 7] rfl ?_
    exact zX9_writeAll_J147 hD hL hf hM
noncomputable def fX9_writeAll_J74 (h : zH) (a : Nat) (x1 : Int32) (x2 : Int32) (x3 : Nat) (x4 : Int32) (x7 : Int32) (x8 : Int32) : Option ((zH × Int32) ⊕ ((Int32 × zH))) := fX9_writeAll_J75 h a x1 x2 x3 x4 x7 x8 0
theorem zX9_writeAll_J74 {F : zF} {h : zH} {a : Nat} {x1 : Int32} {x2 : Int32} {x3 : Nat} {x4 : Int32} {x7 : Int32} {x8 : Int32} {y : (zH × Int32) ⊕ ((Int32 × zH))} (hD : 66 ≤ F.2.1) (hL : zBlk mB mP h a) (hf : fX9_writeAll_J74 h a x1 x2 x3 x4 x7 x8 = some y) (hM : ((∀ s' : zH × Int32, y = .inl s' → (zBlk mB mP s'.1 a → Z F 11 cX9_writeAll RX9 "writeAll" (some .int) [] s'.1 28 [(0, .ref a), (1, .int x1), (2, .int x2), (3, .ref x3), (4, .int x4), (7, .int s'.2)] [])) ∧ ∀ r : (Int32 × zH), y = .inr r → ((.inl (some (.int r.1)), r.2) : zX) = zEnd F)) : Z F 11 cX9_writeAll RX9 "writeAll" (some .int) [] h 74 [(0, .ref a), (1, .int x1), (2, .int x2), (3, .ref x3), (4, .int x4), (7, .int x7), (8, .int x8)] [] := by
  unfold fX9_writeAll_J74 at hf
  refine z_iconst 0 dX9_writeAll_74 rfl ?_
  exact zX9_writeAll_J75 hD hL hf hM
noncomputable def fX9_writeAll_L28 (h : zH) (a : Nat) (x1 : Int32) (x2 : Int32) (x3 : Nat) (x4 : Int32) (x7 : Int32) : Option ((zH × Int32) ⊕ ((Int32 × zH))) := if x4 ≤ x7 then (zb2 (fX9_goHome h a x1) (fun v_6 h_7 => if v_6 = 0 then (some (.inr ((zI h_7 a 37, h_7)))) else (some (.inr ((v_6, h_7)))))) else (zck (zAr h x3 x7) (zb1 (fX9_isHigh (zI h x3 x7.toNatClampNeg)) (fun v_10 => if v_10 = 0 then (fX9_writeAll_J74 h a x1 x2 x3 x4 x7 (zI h x3 x7.toNatClampNeg)) else (if x4 ≤ (x7 + 1) then (fX9_writeAll_J74 h a x1 x2 x3 x4 x7 (zI h x3 x7.toNatClampNeg)) else (zck (zAr h x3 (x7 + 1)) (zb1 (fX9_isLow (zI h x3 (x7 + 1).toNatClampNeg)) (fun v_28 => if v_28 = 0 then (fX9_writeAll_J74 h a x1 x2 x3 x4 x7 (zI h x3 x7.toNatClampNeg)) else (fX9_writeAll_J75 h a x1 x2 x3 x4 x7 (zI h x3 x7.toNatClampNeg) 1))))))))
theorem zX9_writeAll_L28 {F : zF} {h : zH} {a : Nat} {x1 : Int32} {x2 : Int32} {x3 : Nat} {x4 : Int32} {x7 : Int32} {y : (zH × Int32) ⊕ ((Int32 × zH))} (hD : 66 ≤ F.2.1) (hL : zBlk mB mP h a) (hf : fX9_writeAll_L28 h a x1 x2 x3 x4 x7 = some y) (hM : ((∀ s' : zH × Int32, y = .inl s' → (zBlk mB mP s'.1 a → Z F 11 cX9_writeAll RX9 "writeAll" (some .int) [] s'.1 28 [(0, .ref a), (1, .int x1), (2, .int x2), (3, .ref x3), (4, .int x4), (7, .int s'.2)] [])) ∧ ∀ r : (Int32 × zH), y = .inr r → ((.inl (some (.int r.1)), r.2) : zX) = zEnd F)) : Z F 11 cX9_writeAll RX9 "writeAll" (some .int) [] h 28 [(0, .ref a), (1, .int x1), (2, .int x2), (3, .ref x3), (4, .int x4), (7, .int x7)] [] := by
  unfold fX9_writeAll_L28 at hf
  refine z_iload 5 dX9_writeAll_28 rfl ?_
  refine z_iload 4 dX9_writeAll_30 rfl ?_
  refine z_icmp_ge 188 dX9_writeAll_32 rfl hf (fun _ hf => ?_) (fun _ hf => ?_)
  · refine z_aload_n 0 dX9_writeAll_188 rfl rfl ?_
    refine z_iload_n 1 dX9_writeAll_189 rfl rfl ?_
    obtain ⟨v_6, h_7, hc_5, hf⟩ := zb2_some hf
    have hct := ctX9_goHome (l := F.1) hL hc_5
    refine z_invVi svX9_367_7 hct (hL.t 0 rfl) ⟨Nat.le_trans (by decide) hD, by decide⟩ rfl rfl (Nat.le_of_ble_eq_true rfl) dX9_writeAll_190 ?_
    have hL := hL.ext mOk hct.1
    refine z_istore dX9_writeAll_193 (by decide) (lc' := [(0, .ref a), (1, .int x1), (2, .int x2), (3, .ref x3), (4, .int x4), (7, .int x7), (8, .int v_6)]) rfl ?_
    refine z_iload 6 dX9_writeAll_195 rfl ?_
    refine z_if_eq 205 dX9_writeAll_197 rfl hf (fun _ hf => ?_) (fun _ hf => ?_)
    · refine z_aload_n 0 dX9_writeAll_205 rfl rfl ?_
      refine z_geti fdX9_272_7 (hL.t 0 rfl) dX9_writeAll_206 ?_
      cases hf
      exact z_iret dX9_writeAll_209 rfl (hM.2 _ rfl)
    · refine z_iload 6 dX9_writeAll_200 rfl ?_
      refine z_goto 209 dX9_writeAll_202 rfl ?_
      cases hf
      exact z_iret dX9_writeAll_209 rfl (hM.2 _ rfl)
  · refine z_aload_n 3 dX9_writeAll_35 rfl rfl ?_
    refine z_iload 5 dX9_writeAll_36 rfl ?_
    obtain ⟨hi_8, hf⟩ := zck_some hf
    refine z_iald (zAr_t hi_8) hi_8.2 dX9_writeAll_38 ?_
    refine z_istore dX9_writeAll_39 (by decide) (lc' := [(0, .ref a), (1, .int x1), (2, .int x2), (3, .ref x3), (4, .int x4), (7, .int x7), (8, .int (zI h x3 x7.toNatClampNeg))]) rfl ?_
    refine z_iload 6 dX9_writeAll_41 rfl ?_
    obtain ⟨v_10, hc_9, hf⟩ := zb1_some hf
    refine z_invSi ssX9_304 (ctX9_isHigh hc_9) ⟨Nat.le_trans (by decide) hD, by decide⟩ rfl rfl (Nat.le_of_ble_eq_true rfl) dX9_writeAll_43 ?_
    refine z_if_eq 74 dX9_writeAll_46 rfl hf (fun _ hf => ?_) (fun _ hf => ?_)
    · exact zX9_writeAll_J74 hD hL hf hM
    · refine z_iload 5 dX9_writeAll_49 rfl ?_
      refine z_iconst 1 dX9_writeAll_51 rfl ?_
      refine z_iadd dX9_writeAll_52 ?_
      refine z_iload 4 dX9_writeAll_53 rfl ?_
      refine z_icmp_ge 74 dX9_writeAll_55 rfl hf (fun _ hf => ?_) (fun _ hf => ?_)
      · exact zX9_writeAll_J74 hD hL hf hM
      · refine z_aload_n 3 dX9_writeAll_58 rfl rfl ?_
        refine z_iload 5 dX9_writeAll_59 rfl ?_
        refine z_iconst 1 dX9_writeAll_61 rfl ?_
        refine z_iadd dX9_writeAll_62 ?_
        obtain ⟨hi_26, hf⟩ := zck_some hf
        refine z_iald (zAr_t hi_26) hi_26.2 dX9_writeAll_63 ?_
        obtain ⟨v_28, hc_27, hf⟩ := zb1_some hf
        refine z_invSi ssX9_301 (ctX9_isLow hc_27) ⟨Nat.le_trans (by decide) hD, by decide⟩ rfl rfl (Nat.le_of_ble_eq_true rfl) dX9_writeAll_64 ?_
        refine z_if_eq 74 dX9_writeAll_67 rfl hf (fun _ hf => ?_) (fun _ hf => ?_)
        · exact zX9_writeAll_J74 hD hL hf hM
        · refine z_iconst 1 dX9_writeAll_70 rfl ?_
          refine z_goto 75 dX9_writeAll_71 rfl ?_
          exact zX9_writeAll_J75 hD hL hf hM
noncomputable def fX9_writeAll (h : zH) (a : Nat) (x1 : Int32) (x2 : Int32) (x3 : Nat) (x4 : Int32) (x5 : Int32) (x6 : Int32) : Option (Int32 × zH) := zlet (zsI h a 34 x5) (fun h_1 => zlet (zsP h_1 a 36 (some (a + 27))) (fun h_2 => zlet (zsI h_2 a 37 0) (fun h_3 => zlet (zsI h_3 a 38 x6) (fun h_4 => zlp (fun s => fX9_writeAll_L28 s.1 a x1 x2 x3 x4 s.2) (h_4, 0)))))
theorem zX9_writeAll {F : zF} {h : zH} {a : Nat} {x1 : Int32} {x2 : Int32} {x3 : Nat} {x4 : Int32} {x5 : Int32} {x6 : Int32} {y : Int32 × zH} (hD : 66 ≤ F.2.1) (hL : zBlk mB mP h a) (hf : fX9_writeAll h a x1 x2 x3 x4 x5 x6 = some y) (hM : ((.inl (some (.int y.1)), y.2) : zX) = zEnd F) : Z F 11 cX9_writeAll RX9 "writeAll" (some .int) [] h 0 [(0, .ref a), (1, .int x1), (2, .int x2), (3, .ref x3), (4, .int x4), (5, .int x5), (6, .int x6)] [] := by
  unfold fX9_writeAll at hf
  refine z_aload_n 0 dX9_writeAll_0 rfl rfl ?_
  refine z_iload 5 dX9_writeAll_1 rfl ?_
  obtain ⟨h_1, he, hf⟩ := zlet_some hf
  refine z_puti fdX9_289_7 (hL.t 0 rfl) (hL.nz 0) he dX9_writeAll_3 ?_
  have hL := hL.I he
  refine z_aload_n 0 dX9_writeAll_6 rfl rfl ?_
  refine z_aload_n 0 dX9_writeAll_7 rfl rfl ?_
  refine z_getr fdX9_90_7 (Or.inr ⟨_, rfl⟩) (hL.t 0 rfl) (hL.p 26 rfl) dX9_writeAll_8 ?_
  obtain ⟨h_2, he, hf⟩ := zlet_some hf
  refine z_putr fdX9_269_7 (Or.inr ⟨_, rfl⟩) (hL.t 0 rfl) (hL.nz 0) he dX9_writeAll_11 ?_
  have hL := hL.P he (hL.t 0 rfl) (by decide)
  refine z_aload_n 0 dX9_writeAll_14 rfl rfl ?_
  refine z_iconst 0 dX9_writeAll_15 rfl ?_
  obtain ⟨h_3, he, hf⟩ := zlet_some hf
  refine z_puti fdX9_272_7 (hL.t 0 rfl) (hL.nz 0) he dX9_writeAll_16 ?_
  have hL := hL.I he
  refine z_aload_n 0 dX9_writeAll_19 rfl rfl ?_
  refine z_iload 6 dX9_writeAll_20 rfl ?_
  obtain ⟨h_4, he, hf⟩ := zlet_some hf
  refine z_puti fdX9_328_7 (hL.t 0 rfl) (hL.nz 0) he dX9_writeAll_22 ?_
  have hL := hL.I he
  refine z_iconst 0 dX9_writeAll_25 rfl ?_
  refine z_istore dX9_writeAll_26 (by decide) (lc' := [(0, .ref a), (1, .int x1), (2, .int x2), (3, .ref x3), (4, .int x4), (5, .int x5), (6, .int x6), (7, .int 0)]) rfl ?_
  refine z_sub [0, 1, 2, 3, 4, 7] rfl ?_
  exact z_loop (fun (s : zH × Int32) => (zBlk mB mP s.1 a → Z F 11 cX9_writeAll RX9 "writeAll" (some .int) [] s.1 28 [(0, .ref a), (1, .int x1), (2, .int x2), (3, .ref x3), (4, .int x4), (7, .int s.2)] [])) (fun (r : (Int32 × zH)) => ((.inl (some (.int r.1)), r.2) : zX) = zEnd F) (fun s y hb hs hr hL => zX9_writeAll_L28 hD hL hb ⟨hs, hr⟩) hf hM hL
theorem ctX9_writeAll {l : Launch} {h : zH} {a : Nat} {x1 : Int32} {x2 : Int32} {x3 : Nat} {x4 : Int32} {x5 : Int32} {x6 : Int32} {v : Int32} {h' : zH} (hL : zBlk mB mP h a) (hf : fX9_writeAll h a x1 x2 x3 x4 x5 x6 = some (v, h')) : zC l yX9_writeAll (ws_ yX9_writeAll cX9_writeAll 11 (some .int)) 66 [.ref a, .int x1, .int x2, .ref x3, .int x4, .int x5, .int x6] h (.inl (some (.int v)), h') :=
  z_start (by decide) (Nat.le_of_ble_eq_true rfl) (zX9_writeAll (F := (l, 66, h, (.inl (some (.int v)), h'))) (Nat.le_refl _) hL hf rfl)
theorem svX9_377_7 : zIv RX9 377 yX9_writeAll (ws_ yX9_writeAll cX9_writeAll 11 (some .int)) 11 7 6 := ⟨zGood_c q1795 q109, ⟨_, _, rfl, rfl, qs73⟩, Or.inl q1792, q1794, ⟨by decide, by decide⟩, by decide +kernel⟩
noncomputable def fX9_encode (h : zH) (a : Nat) (x1 : Int32) (x2 : Int32) : Option (Int32 × zH) := zb1 (fX9_isPage h a x1) (fun v_2 => if v_2 = 0 then (zb2 (fX9_tell h a ((-1))) (fun v_22 h_23 => some ((v_22, h_23)))) else (zck (vp_in x1 11) (if (zI h (a + 2) x1.toNatClampNeg) = 0 then (zb2 (fX9_tell h a ((-5))) (fun v_19 h_20 => some ((v_19, h_20)))) else (zb1 (fX9_in x2 0 4) (fun v_5 => if v_5 = 0 then (zb2 (fX9_tell h a ((-1))) (fun v_16 h_17 => some ((v_16, h_17)))) else (zb2 (fX9_writeAll h a x1 x2 (a + 15) (zI h a 16) 0 6000) (fun v_7 h_8 => if 0 ≤ v_7 then (zb2 (fX9_resultOf h_8 a (a + 27) v_7 2) (fun v_10 h_11 => some ((v_10, h_11)))) else (zb2 (fX9_tell h_8 a v_7) (fun v_13 h_14 => some ((v_13, h_14)))))))))))
theorem zX9_encode {F : zF} {h : zH} {a : Nat} {x1 : Int32} {x2 : Int32} {y : Int32 × zH} (hD : 67 ≤ F.2.1) (hL : zBlk mB mP h a) (hf : fX9_encode h a x1 x2 = some y) (hM : ((.inl (some (.int y.1)), y.2) : zX) = zEnd F) : Z F 4 cX9_encode RX9 "encode" (some .int) [] h 0 [(0, .ref a), (1, .int x1), (2, .int x2)] [] := by
  unfold fX9_encode at hf
  refine z_aload_n 0 dX9_encode_0 rfl rfl ?_
  refine z_iload_n 1 dX9_encode_1 rfl rfl ?_
  obtain ⟨v_2, hc_1, hf⟩ := zb1_some hf
  refine z_invVi svX9_170_7 (ctX9_isPage hL hc_1) (hL.t 0 rfl) ⟨Nat.le_trans (by decide) hD, by decide⟩ rfl rfl (Nat.le_of_ble_eq_true rfl) dX9_encode_2 ?_
  refine z_if_ne 14 dX9_encode_5 rfl hf (fun _ hf => ?_) (fun _ hf => ?_)
  · refine z_aload_n 0 dX9_encode_14 rfl rfl ?_
    refine z_getr fdX9_13_7 (Or.inr ⟨_, rfl⟩) (hL.t 0 rfl) (hL.p 1 rfl) dX9_encode_15 ?_
    refine z_iload_n 1 dX9_encode_18 rfl rfl ?_
    obtain ⟨hi_3, hf⟩ := zck_some hf
    refine z_zald (hL.t 2 rfl) hi_3 dX9_encode_19 ?_
    refine z_if_ne 30 dX9_encode_20 rfl hf (fun _ hf => ?_) (fun _ hf => ?_)
    · refine z_iload_n 2 dX9_encode_30 rfl rfl ?_
      refine z_iconst 0 dX9_encode_31 rfl ?_
      refine z_iconst 4 dX9_encode_32 rfl ?_
      obtain ⟨v_5, hc_4, hf⟩ := zb1_some hf
      refine z_invSi ssX9_156 (ctX9_in hc_4) ⟨Nat.le_trans (by decide) hD, by decide⟩ rfl rfl (Nat.le_of_ble_eq_true rfl) dX9_encode_33 ?_
      refine z_if_ne 45 dX9_encode_36 rfl hf (fun _ hf => ?_) (fun _ hf => ?_)
      · refine z_aload_n 0 dX9_encode_45 rfl rfl ?_
        refine z_iload_n 1 dX9_encode_46 rfl rfl ?_
        refine z_iload_n 2 dX9_encode_47 rfl rfl ?_
        refine z_aload_n 0 dX9_encode_48 rfl rfl ?_
        refine z_getr fdX9_53_7 (Or.inr ⟨_, rfl⟩) (hL.t 0 rfl) (hL.p 14 rfl) dX9_encode_49 ?_
        refine z_aload_n 0 dX9_encode_52 rfl rfl ?_
        refine z_geti fdX9_258_7 (hL.t 0 rfl) dX9_encode_53 ?_
        refine z_iconst 0 dX9_encode_56 rfl ?_
        refine z_sipush 6000 dX9_encode_57 rfl ?_
        obtain ⟨v_7, h_8, hc_6, hf⟩ := zb2_some hf
        have hct := ctX9_writeAll (l := F.1) hL hc_6
        refine z_invVi svX9_377_7 hct (hL.t 0 rfl) ⟨Nat.le_trans (by decide) hD, by decide⟩ rfl rfl (Nat.le_of_ble_eq_true rfl) dX9_encode_60 ?_
        have hL := hL.ext mOk hct.1
        refine z_istore_n dX9_encode_63 rfl (by decide) (lc' := [(0, .ref a), (1, .int x1), (2, .int x2), (3, .int v_7)]) rfl ?_
        refine z_iload_n 3 dX9_encode_64 rfl rfl ?_
        refine z_if_ge 76 dX9_encode_65 rfl hf (fun _ hf => ?_) (fun _ hf => ?_)
        · refine z_aload_n 0 dX9_encode_76 rfl rfl ?_
          refine z_aload_n 0 dX9_encode_77 rfl rfl ?_
          refine z_getr fdX9_90_7 (Or.inr ⟨_, rfl⟩) (hL.t 0 rfl) (hL.p 26 rfl) dX9_encode_78 ?_
          refine z_iload_n 3 dX9_encode_81 rfl rfl ?_
          refine z_iconst 2 dX9_encode_82 rfl ?_
          obtain ⟨v_10, h_11, hc_9, hf⟩ := zb2_some hf
          have hct := ctX9_resultOf (l := F.1) hL hc_9
          refine z_invVi svX9_374_7 hct (hL.t 0 rfl) ⟨Nat.le_trans (by decide) hD, by decide⟩ rfl rfl (Nat.le_of_ble_eq_true rfl) dX9_encode_83 ?_
          have hL := hL.ext mOk hct.1
          cases hf
          exact z_iret dX9_encode_86 rfl hM
        · refine z_aload_n 0 dX9_encode_68 rfl rfl ?_
          refine z_iload_n 3 dX9_encode_69 rfl rfl ?_
          obtain ⟨v_13, h_14, hc_12, hf⟩ := zb2_some hf
          have hct := ctX9_tell (l := F.1) hL hc_12
          refine z_invVi svX9_166_7 hct (hL.t 0 rfl) ⟨Nat.le_trans (by decide) hD, by decide⟩ rfl rfl (Nat.le_of_ble_eq_true rfl) dX9_encode_70 ?_
          have hL := hL.ext mOk hct.1
          refine z_goto 86 dX9_encode_73 rfl ?_
          cases hf
          exact z_iret dX9_encode_86 rfl hM
      · refine z_aload_n 0 dX9_encode_39 rfl rfl ?_
        refine z_iconst (-1) dX9_encode_40 rfl ?_
        obtain ⟨v_16, h_17, hc_15, hf⟩ := zb2_some hf
        have hct := ctX9_tell (l := F.1) hL hc_15
        refine z_invVi svX9_166_7 hct (hL.t 0 rfl) ⟨Nat.le_trans (by decide) hD, by decide⟩ rfl rfl (Nat.le_of_ble_eq_true rfl) dX9_encode_41 ?_
        have hL := hL.ext mOk hct.1
        cases hf
        exact z_iret dX9_encode_44 rfl hM
    · refine z_aload_n 0 dX9_encode_23 rfl rfl ?_
      refine z_bipush (-5) dX9_encode_24 rfl ?_
      obtain ⟨v_19, h_20, hc_18, hf⟩ := zb2_some hf
      have hct := ctX9_tell (l := F.1) hL hc_18
      refine z_invVi svX9_166_7 hct (hL.t 0 rfl) ⟨Nat.le_trans (by decide) hD, by decide⟩ rfl rfl (Nat.le_of_ble_eq_true rfl) dX9_encode_26 ?_
      have hL := hL.ext mOk hct.1
      cases hf
      exact z_iret dX9_encode_29 rfl hM
  · refine z_aload_n 0 dX9_encode_8 rfl rfl ?_
    refine z_iconst (-1) dX9_encode_9 rfl ?_
    obtain ⟨v_22, h_23, hc_21, hf⟩ := zb2_some hf
    have hct := ctX9_tell (l := F.1) hL hc_21
    refine z_invVi svX9_166_7 hct (hL.t 0 rfl) ⟨Nat.le_trans (by decide) hD, by decide⟩ rfl rfl (Nat.le_of_ble_eq_true rfl) dX9_encode_10 ?_
    have hL := hL.ext mOk hct.1
    cases hf
    exact z_iret dX9_encode_13 rfl hM
theorem ctX9_encode {l : Launch} {h : zH} {a : Nat} {x1 : Int32} {x2 : Int32} {v : Int32} {h' : zH} (hL : zBlk mB mP h a) (hf : fX9_encode h a x1 x2 = some (v, h')) : zC l yX9_encode (ws_ yX9_encode cX9_encode 4 (some .int)) 67 [.ref a, .int x1, .int x2] h (.inl (some (.int v)), h') :=
  z_start (by decide) (Nat.le_of_ble_eq_true rfl) (zX9_encode (F := (l, 67, h, (.inl (some (.int v)), h'))) (Nat.le_refl _) hL hf rfl)
noncomputable def fX9_transcode (h : zH) (a : Nat) (x1 : Int32) (x2 : Int32) (x3 : Int32) (x4 : Int32) : Option (Int32 × zH) := zb1 (fX9_isPage h a x1) (fun v_2 => if v_2 = 0 then (zb2 (fX9_tell h a ((-1))) (fun v_4 h_5 => some ((v_4, h_5)))) else (zb1 (fX9_isPage h a x3) (fun v_7 => if v_7 = 0 then (zb2 (fX9_tell h a ((-1))) (fun v_42 h_43 => some ((v_42, h_43)))) else (zck (vp_in x1 11) (if (zI h (a + 2) x1.toNatClampNeg) = 0 then (zb2 (fX9_tell h a ((-5))) (fun v_10 h_11 => some ((v_10, h_11)))) else (zck (vp_in x3 11) (if (zI h (a + 2) x3.toNatClampNeg) = 0 then (zb2 (fX9_tell h a ((-5))) (fun v_39 h_40 => some ((v_39, h_40)))) else (zb1 (fX9_in x2 0 3) (fun v_14 => if v_14 = 0 then (zb2 (fX9_tell h a ((-1))) (fun v_16 h_17 => some ((v_16, h_17)))) else (zb1 (fX9_in x4 0 4) (fun v_19 => if v_19 = 0 then (zb2 (fX9_tell h a ((-1))) (fun v_36 h_37 => some ((v_36, h_37)))) else (zb2 (fX9_readAll h a x1 x2 (a + 25)) (fun v_21 h_22 => if 0 ≤ v_21 then (zb2 (fX9_writeAll h_22 a x3 x4 (a + 25) v_21 0 6000) (fun v_24 h_25 => if 0 ≤ v_24 then (zb2 (fX9_resultOf h_25 a (a + 27) v_24 2) (fun v_27 h_28 => some ((v_27, h_28)))) else (zb2 (fX9_tell h_25 a v_24) (fun v_30 h_31 => some ((v_30, h_31)))))) else (zb2 (fX9_tell h_22 a v_21) (fun v_33 h_34 => some ((v_33, h_34)))))))))))))))))
theorem zX9_transcode {F : zF} {h : zH} {a : Nat} {x1 : Int32} {x2 : Int32} {x3 : Int32} {x4 : Int32} {y : Int32 × zH} (hD : 67 ≤ F.2.1) (hL : zBlk mB mP h a) (hf : fX9_transcode h a x1 x2 x3 x4 = some y) (hM : ((.inl (some (.int y.1)), y.2) : zX) = zEnd F) : Z F 7 cX9_transcode RX9 "transcode" (some .int) [] h 0 [(0, .ref a), (1, .int x1), (2, .int x2), (3, .int x3), (4, .int x4)] [] := by
  unfold fX9_transcode at hf
  refine z_aload_n 0 dX9_transcode_0 rfl rfl ?_
  refine z_iload_n 1 dX9_transcode_1 rfl rfl ?_
  obtain ⟨v_2, hc_1, hf⟩ := zb1_some hf
  refine z_invVi svX9_170_7 (ctX9_isPage hL hc_1) (hL.t 0 rfl) ⟨Nat.le_trans (by decide) hD, by decide⟩ rfl rfl (Nat.le_of_ble_eq_true rfl) dX9_transcode_2 ?_
  refine z_if_eq 16 dX9_transcode_5 rfl hf (fun _ hf => ?_) (fun _ hf => ?_)
  · refine z_aload_n 0 dX9_transcode_16 rfl rfl ?_
    refine z_iconst (-1) dX9_transcode_17 rfl ?_
    obtain ⟨v_4, h_5, hc_3, hf⟩ := zb2_some hf
    have hct := ctX9_tell (l := F.1) hL hc_3
    refine z_invVi svX9_166_7 hct (hL.t 0 rfl) ⟨Nat.le_trans (by decide) hD, by decide⟩ rfl rfl (Nat.le_of_ble_eq_true rfl) dX9_transcode_18 ?_
    have hL := hL.ext mOk hct.1
    cases hf
    exact z_iret dX9_transcode_21 rfl hM
  · refine z_aload_n 0 dX9_transcode_8 rfl rfl ?_
    refine z_iload_n 3 dX9_transcode_9 rfl rfl ?_
    obtain ⟨v_7, hc_6, hf⟩ := zb1_some hf
    refine z_invVi svX9_170_7 (ctX9_isPage hL hc_6) (hL.t 0 rfl) ⟨Nat.le_trans (by decide) hD, by decide⟩ rfl rfl (Nat.le_of_ble_eq_true rfl) dX9_transcode_10 ?_
    refine z_if_ne 22 dX9_transcode_13 rfl hf (fun _ hf => ?_) (fun _ hf => ?_)
    · refine z_aload_n 0 dX9_transcode_22 rfl rfl ?_
      refine z_getr fdX9_13_7 (Or.inr ⟨_, rfl⟩) (hL.t 0 rfl) (hL.p 1 rfl) dX9_transcode_23 ?_
      refine z_iload_n 1 dX9_transcode_26 rfl rfl ?_
      obtain ⟨hi_8, hf⟩ := zck_some hf
      refine z_zald (hL.t 2 rfl) hi_8 dX9_transcode_27 ?_
      refine z_if_eq 40 dX9_transcode_28 rfl hf (fun _ hf => ?_) (fun _ hf => ?_)
      · refine z_aload_n 0 dX9_transcode_40 rfl rfl ?_
        refine z_bipush (-5) dX9_transcode_41 rfl ?_
        obtain ⟨v_10, h_11, hc_9, hf⟩ := zb2_some hf
        have hct := ctX9_tell (l := F.1) hL hc_9
        refine z_invVi svX9_166_7 hct (hL.t 0 rfl) ⟨Nat.le_trans (by decide) hD, by decide⟩ rfl rfl (Nat.le_of_ble_eq_true rfl) dX9_transcode_43 ?_
        have hL := hL.ext mOk hct.1
        cases hf
        exact z_iret dX9_transcode_46 rfl hM
      · refine z_aload_n 0 dX9_transcode_31 rfl rfl ?_
        refine z_getr fdX9_13_7 (Or.inr ⟨_, rfl⟩) (hL.t 0 rfl) (hL.p 1 rfl) dX9_transcode_32 ?_
        refine z_iload_n 3 dX9_transcode_35 rfl rfl ?_
        obtain ⟨hi_12, hf⟩ := zck_some hf
        refine z_zald (hL.t 2 rfl) hi_12 dX9_transcode_36 ?_
        refine z_if_ne 47 dX9_transcode_37 rfl hf (fun _ hf => ?_) (fun _ hf => ?_)
        · refine z_iload_n 2 dX9_transcode_47 rfl rfl ?_
          refine z_iconst 0 dX9_transcode_48 rfl ?_
          refine z_iconst 3 dX9_transcode_49 rfl ?_
          obtain ⟨v_14, hc_13, hf⟩ := zb1_some hf
          refine z_invSi ssX9_156 (ctX9_in hc_13) ⟨Nat.le_trans (by decide) hD, by decide⟩ rfl rfl (Nat.le_of_ble_eq_true rfl) dX9_transcode_50 ?_
          refine z_if_eq 66 dX9_transcode_53 rfl hf (fun _ hf => ?_) (fun _ hf => ?_)
          · refine z_aload_n 0 dX9_transcode_66 rfl rfl ?_
            refine z_iconst (-1) dX9_transcode_67 rfl ?_
            obtain ⟨v_16, h_17, hc_15, hf⟩ := zb2_some hf
            have hct := ctX9_tell (l := F.1) hL hc_15
            refine z_invVi svX9_166_7 hct (hL.t 0 rfl) ⟨Nat.le_trans (by decide) hD, by decide⟩ rfl rfl (Nat.le_of_ble_eq_true rfl) dX9_transcode_68 ?_
            have hL := hL.ext mOk hct.1
            cases hf
            exact z_iret dX9_transcode_71 rfl hM
          · refine z_iload 4 dX9_transcode_56 rfl ?_
            refine z_iconst 0 dX9_transcode_58 rfl ?_
            refine z_iconst 4 dX9_transcode_59 rfl ?_
            obtain ⟨v_19, hc_18, hf⟩ := zb1_some hf
            refine z_invSi ssX9_156 (ctX9_in hc_18) ⟨Nat.le_trans (by decide) hD, by decide⟩ rfl rfl (Nat.le_of_ble_eq_true rfl) dX9_transcode_60 ?_
            refine z_if_ne 72 dX9_transcode_63 rfl hf (fun _ hf => ?_) (fun _ hf => ?_)
            · refine z_aload_n 0 dX9_transcode_72 rfl rfl ?_
              refine z_iload_n 1 dX9_transcode_73 rfl rfl ?_
              refine z_iload_n 2 dX9_transcode_74 rfl rfl ?_
              refine z_aload_n 0 dX9_transcode_75 rfl rfl ?_
              refine z_getr fdX9_84_7 (Or.inr ⟨_, rfl⟩) (hL.t 0 rfl) (hL.p 24 rfl) dX9_transcode_76 ?_
              obtain ⟨v_21, h_22, hc_20, hf⟩ := zb2_some hf
              have hct := ctX9_readAll (l := F.1) hL hc_20
              refine z_invVi svX9_370_7 hct (hL.t 0 rfl) ⟨Nat.le_trans (by decide) hD, by decide⟩ rfl rfl (Nat.le_of_ble_eq_true rfl) dX9_transcode_79 ?_
              have hL := hL.ext mOk hct.1
              refine z_istore dX9_transcode_82 (by decide) (lc' := [(0, .ref a), (1, .int x1), (2, .int x2), (3, .int x3), (4, .int x4), (5, .int v_21)]) rfl ?_
              refine z_iload 5 dX9_transcode_84 rfl ?_
              refine z_if_ge 96 dX9_transcode_86 rfl hf (fun _ hf => ?_) (fun _ hf => ?_)
              · refine z_aload_n 0 dX9_transcode_96 rfl rfl ?_
                refine z_iload_n 3 dX9_transcode_97 rfl rfl ?_
                refine z_iload 4 dX9_transcode_98 rfl ?_
                refine z_aload_n 0 dX9_transcode_100 rfl rfl ?_
                refine z_getr fdX9_84_7 (Or.inr ⟨_, rfl⟩) (hL.t 0 rfl) (hL.p 24 rfl) dX9_transcode_101 ?_
                refine z_iload 5 dX9_transcode_104 rfl ?_
                refine z_iconst 0 dX9_transcode_106 rfl ?_
                refine z_sipush 6000 dX9_transcode_107 rfl ?_
                obtain ⟨v_24, h_25, hc_23, hf⟩ := zb2_some hf
                have hct := ctX9_writeAll (l := F.1) hL hc_23
                refine z_invVi svX9_377_7 hct (hL.t 0 rfl) ⟨Nat.le_trans (by decide) hD, by decide⟩ rfl rfl (Nat.le_of_ble_eq_true rfl) dX9_transcode_110 ?_
                have hL := hL.ext mOk hct.1
                refine z_istore dX9_transcode_113 (by decide) (lc' := [(0, .ref a), (1, .int x1), (2, .int x2), (3, .int x3), (4, .int x4), (5, .int v_21), (6, .int v_24)]) rfl ?_
                refine z_iload 6 dX9_transcode_115 rfl ?_
                refine z_if_ge 129 dX9_transcode_117 rfl hf (fun _ hf => ?_) (fun _ hf => ?_)
                · refine z_aload_n 0 dX9_transcode_129 rfl rfl ?_
                  refine z_aload_n 0 dX9_transcode_130 rfl rfl ?_
                  refine z_getr fdX9_90_7 (Or.inr ⟨_, rfl⟩) (hL.t 0 rfl) (hL.p 26 rfl) dX9_transcode_131 ?_
                  refine z_iload 6 dX9_transcode_134 rfl ?_
                  refine z_iconst 2 dX9_transcode_136 rfl ?_
                  obtain ⟨v_27, h_28, hc_26, hf⟩ := zb2_some hf
                  have hct := ctX9_resultOf (l := F.1) hL hc_26
                  refine z_invVi svX9_374_7 hct (hL.t 0 rfl) ⟨Nat.le_trans (by decide) hD, by decide⟩ rfl rfl (Nat.le_of_ble_eq_true rfl) dX9_transcode_137 ?_
                  have hL := hL.ext mOk hct.1
                  cases hf
                  exact z_iret dX9_transcode_140 rfl hM
                · refine z_aload_n 0 dX9_transcode_120 rfl rfl ?_
                  refine z_iload 6 dX9_transcode_121 rfl ?_
                  obtain ⟨v_30, h_31, hc_29, hf⟩ := zb2_some hf
                  have hct := ctX9_tell (l := F.1) hL hc_29
                  refine z_invVi svX9_166_7 hct (hL.t 0 rfl) ⟨Nat.le_trans (by decide) hD, by decide⟩ rfl rfl (Nat.le_of_ble_eq_true rfl) dX9_transcode_123 ?_
                  have hL := hL.ext mOk hct.1
                  refine z_goto 140 dX9_transcode_126 rfl ?_
                  cases hf
                  exact z_iret dX9_transcode_140 rfl hM
              · refine z_aload_n 0 dX9_transcode_89 rfl rfl ?_
                refine z_iload 5 dX9_transcode_90 rfl ?_
                obtain ⟨v_33, h_34, hc_32, hf⟩ := zb2_some hf
                have hct := ctX9_tell (l := F.1) hL hc_32
                refine z_invVi svX9_166_7 hct (hL.t 0 rfl) ⟨Nat.le_trans (by decide) hD, by decide⟩ rfl rfl (Nat.le_of_ble_eq_true rfl) dX9_transcode_92 ?_
                have hL := hL.ext mOk hct.1
                cases hf
                exact z_iret dX9_transcode_95 rfl hM
            · refine z_aload_n 0 dX9_transcode_66 rfl rfl ?_
              refine z_iconst (-1) dX9_transcode_67 rfl ?_
              obtain ⟨v_36, h_37, hc_35, hf⟩ := zb2_some hf
              have hct := ctX9_tell (l := F.1) hL hc_35
              refine z_invVi svX9_166_7 hct (hL.t 0 rfl) ⟨Nat.le_trans (by decide) hD, by decide⟩ rfl rfl (Nat.le_of_ble_eq_true rfl) dX9_transcode_68 ?_
              have hL := hL.ext mOk hct.1
              cases hf
              exact z_iret dX9_transcode_71 rfl hM
        · refine z_aload_n 0 dX9_transcode_40 rfl rfl ?_
          refine z_bipush (-5) dX9_transcode_41 rfl ?_
          obtain ⟨v_39, h_40, hc_38, hf⟩ := zb2_some hf
          have hct := ctX9_tell (l := F.1) hL hc_38
          refine z_invVi svX9_166_7 hct (hL.t 0 rfl) ⟨Nat.le_trans (by decide) hD, by decide⟩ rfl rfl (Nat.le_of_ble_eq_true rfl) dX9_transcode_43 ?_
          have hL := hL.ext mOk hct.1
          cases hf
          exact z_iret dX9_transcode_46 rfl hM
    · refine z_aload_n 0 dX9_transcode_16 rfl rfl ?_
      refine z_iconst (-1) dX9_transcode_17 rfl ?_
      obtain ⟨v_42, h_43, hc_41, hf⟩ := zb2_some hf
      have hct := ctX9_tell (l := F.1) hL hc_41
      refine z_invVi svX9_166_7 hct (hL.t 0 rfl) ⟨Nat.le_trans (by decide) hD, by decide⟩ rfl rfl (Nat.le_of_ble_eq_true rfl) dX9_transcode_18 ?_
      have hL := hL.ext mOk hct.1
      cases hf
      exact z_iret dX9_transcode_21 rfl hM
theorem ctX9_transcode {l : Launch} {h : zH} {a : Nat} {x1 : Int32} {x2 : Int32} {x3 : Int32} {x4 : Int32} {v : Int32} {h' : zH} (hL : zBlk mB mP h a) (hf : fX9_transcode h a x1 x2 x3 x4 = some (v, h')) : zC l yX9_transcode (ws_ yX9_transcode cX9_transcode 7 (some .int)) 67 [.ref a, .int x1, .int x2, .int x3, .int x4] h (.inl (some (.int v)), h') :=
  z_start (by decide) (Nat.le_of_ble_eq_true rfl) (zX9_transcode (F := (l, 67, h, (.inl (some (.int v)), h'))) (Nat.le_refl _) hL hf rfl)
noncomputable def fX9_result (h : zH) (a : Nat) (x1 : Int32) : Option (Int32 × zH) := zb1 (fX9_in x1 0 ((zI h a 18) - 1)) (fun v_2 => if v_2 = 0 then (zb2 (fX9_tell h a ((-2))) (fun v_4 h_5 => some ((v_4, h_5)))) else (if (zI h a 19) ≤ 0 then (zb2 (fX9_tell h a ((-2))) (fun v_7 h_8 => some ((v_7, h_8)))) else (zck (vp_in x1 6000) (some ((zI h (a + 16) x1.toNatClampNeg, h))))))
theorem zX9_result {F : zF} {h : zH} {a : Nat} {x1 : Int32} {y : Int32 × zH} (hD : 2 ≤ F.2.1) (hL : zBlk mB mP h a) (hf : fX9_result h a x1 = some y) (hM : ((.inl (some (.int y.1)), y.2) : zX) = zEnd F) : Z F 2 cX9_result RX9 "result" (some .int) [] h 0 [(0, .ref a), (1, .int x1)] [] := by
  unfold fX9_result at hf
  refine z_iload_n 1 dX9_result_0 rfl rfl ?_
  refine z_iconst 0 dX9_result_1 rfl ?_
  refine z_aload_n 0 dX9_result_2 rfl rfl ?_
  refine z_geti fdX9_266_7 (hL.t 0 rfl) dX9_result_3 ?_
  refine z_iconst 1 dX9_result_6 rfl ?_
  refine z_isub dX9_result_7 ?_
  obtain ⟨v_2, hc_1, hf⟩ := zb1_some hf
  refine z_invSi ssX9_156 (ctX9_in hc_1) ⟨Nat.le_trans (by decide) hD, by decide⟩ rfl rfl (Nat.le_of_ble_eq_true rfl) dX9_result_8 ?_
  refine z_if_eq 30 dX9_result_11 rfl hf (fun _ hf => ?_) (fun _ hf => ?_)
  · refine z_aload_n 0 dX9_result_30 rfl rfl ?_
    refine z_bipush (-2) dX9_result_31 rfl ?_
    obtain ⟨v_4, h_5, hc_3, hf⟩ := zb2_some hf
    have hct := ctX9_tell (l := F.1) hL hc_3
    refine z_invVi svX9_166_7 hct (hL.t 0 rfl) ⟨Nat.le_trans (by decide) hD, by decide⟩ rfl rfl (Nat.le_of_ble_eq_true rfl) dX9_result_33 ?_
    have hL := hL.ext mOk hct.1
    cases hf
    exact z_iret dX9_result_36 rfl hM
  · refine z_aload_n 0 dX9_result_14 rfl rfl ?_
    refine z_geti fdX9_263_7 (hL.t 0 rfl) dX9_result_15 ?_
    refine z_if_le 30 dX9_result_18 rfl hf (fun _ hf => ?_) (fun _ hf => ?_)
    · refine z_aload_n 0 dX9_result_30 rfl rfl ?_
      refine z_bipush (-2) dX9_result_31 rfl ?_
      obtain ⟨v_7, h_8, hc_6, hf⟩ := zb2_some hf
      have hct := ctX9_tell (l := F.1) hL hc_6
      refine z_invVi svX9_166_7 hct (hL.t 0 rfl) ⟨Nat.le_trans (by decide) hD, by decide⟩ rfl rfl (Nat.le_of_ble_eq_true rfl) dX9_result_33 ?_
      have hL := hL.ext mOk hct.1
      cases hf
      exact z_iret dX9_result_36 rfl hM
    · refine z_aload_n 0 dX9_result_21 rfl rfl ?_
      refine z_getr fdX9_56_7 (Or.inr ⟨_, rfl⟩) (hL.t 0 rfl) (hL.p 15 rfl) dX9_result_22 ?_
      refine z_iload_n 1 dX9_result_25 rfl rfl ?_
      obtain ⟨hi_9, hf⟩ := zck_some hf
      refine z_iald (hL.t 16 rfl) hi_9 dX9_result_26 ?_
      refine z_goto 36 dX9_result_27 rfl ?_
      cases hf
      exact z_iret dX9_result_36 rfl hM
theorem ctX9_result {l : Launch} {h : zH} {a : Nat} {x1 : Int32} {v : Int32} {h' : zH} (hL : zBlk mB mP h a) (hf : fX9_result h a x1 = some (v, h')) : zC l yX9_result (ws_ yX9_result cX9_result 2 (some .int)) 2 [.ref a, .int x1] h (.inl (some (.int v)), h') :=
  z_start (by decide) (Nat.le_of_ble_eq_true rfl) (zX9_result (F := (l, 2, h, (.inl (some (.int v)), h'))) (Nat.le_refl _) hL hf rfl)
noncomputable def fX9_sign (h : zH) (a : Nat) (x1 : Int32) (x2 : Int32) : Option (Int32 × zH) := zb1 (fX9_in x1 0 1) (fun v_2 => if v_2 = 0 then (zb2 (fX9_tell h a ((-1))) (fun v_4 h_5 => some ((v_4, h_5)))) else (zb1 (fX9_isPoint x2) (fun v_7 => if v_7 = 0 then (zb2 (fX9_tell h a ((-1))) (fun v_12 h_13 => some ((v_12, h_13)))) else (zck (vp_in x1 2) (zck (vp_in x1 2) (zlet (zsI h (a + 17) x1.toNatClampNeg x2) (fun h_10 => some ((zI h (a + 17) x1.toNatClampNeg, h_10)))))))))
theorem zX9_sign {F : zF} {h : zH} {a : Nat} {x1 : Int32} {x2 : Int32} {y : Int32 × zH} (hD : 3 ≤ F.2.1) (hL : zBlk mB mP h a) (hf : fX9_sign h a x1 x2 = some y) (hM : ((.inl (some (.int y.1)), y.2) : zX) = zEnd F) : Z F 4 cX9_sign RX9 "sign" (some .int) [] h 0 [(0, .ref a), (1, .int x1), (2, .int x2)] [] := by
  unfold fX9_sign at hf
  refine z_iload_n 1 dX9_sign_0 rfl rfl ?_
  refine z_iconst 0 dX9_sign_1 rfl ?_
  refine z_iconst 1 dX9_sign_2 rfl ?_
  obtain ⟨v_2, hc_1, hf⟩ := zb1_some hf
  refine z_invSi ssX9_156 (ctX9_in hc_1) ⟨Nat.le_trans (by decide) hD, by decide⟩ rfl rfl (Nat.le_of_ble_eq_true rfl) dX9_sign_3 ?_
  refine z_if_eq 16 dX9_sign_6 rfl hf (fun _ hf => ?_) (fun _ hf => ?_)
  · refine z_aload_n 0 dX9_sign_16 rfl rfl ?_
    refine z_iconst (-1) dX9_sign_17 rfl ?_
    obtain ⟨v_4, h_5, hc_3, hf⟩ := zb2_some hf
    have hct := ctX9_tell (l := F.1) hL hc_3
    refine z_invVi svX9_166_7 hct (hL.t 0 rfl) ⟨Nat.le_trans (by decide) hD, by decide⟩ rfl rfl (Nat.le_of_ble_eq_true rfl) dX9_sign_18 ?_
    have hL := hL.ext mOk hct.1
    cases hf
    exact z_iret dX9_sign_21 rfl hM
  · refine z_iload_n 2 dX9_sign_9 rfl rfl ?_
    obtain ⟨v_7, hc_6, hf⟩ := zb1_some hf
    refine z_invSi ssX9_187 (ctX9_isPoint hc_6) ⟨Nat.le_trans (by decide) hD, by decide⟩ rfl rfl (Nat.le_of_ble_eq_true rfl) dX9_sign_10 ?_
    refine z_if_ne 22 dX9_sign_13 rfl hf (fun _ hf => ?_) (fun _ hf => ?_)
    · refine z_aload_n 0 dX9_sign_22 rfl rfl ?_
      refine z_getr fdX9_60_7 (Or.inr ⟨_, rfl⟩) (hL.t 0 rfl) (hL.p 16 rfl) dX9_sign_23 ?_
      refine z_iload_n 1 dX9_sign_26 rfl rfl ?_
      obtain ⟨hi_8, hf⟩ := zck_some hf
      refine z_iald (hL.t 17 rfl) hi_8 dX9_sign_27 ?_
      refine z_istore_n dX9_sign_28 rfl (by decide) (lc' := [(0, .ref a), (1, .int x1), (2, .int x2), (3, .int (zI h (a + 17) x1.toNatClampNeg))]) rfl ?_
      refine z_aload_n 0 dX9_sign_29 rfl rfl ?_
      refine z_getr fdX9_60_7 (Or.inr ⟨_, rfl⟩) (hL.t 0 rfl) (hL.p 16 rfl) dX9_sign_30 ?_
      refine z_iload_n 1 dX9_sign_33 rfl rfl ?_
      refine z_iload_n 2 dX9_sign_34 rfl rfl ?_
      obtain ⟨hi_9, hf⟩ := zck_some hf
      obtain ⟨h_10, he, hf⟩ := zlet_some hf
      refine z_iast (hL.t 17 rfl) (hL.nz 17) hi_9 he dX9_sign_35 ?_
      have hL := hL.I he
      refine z_iload_n 3 dX9_sign_36 rfl rfl ?_
      cases hf
      exact z_iret dX9_sign_37 rfl hM
    · refine z_aload_n 0 dX9_sign_16 rfl rfl ?_
      refine z_iconst (-1) dX9_sign_17 rfl ?_
      obtain ⟨v_12, h_13, hc_11, hf⟩ := zb2_some hf
      have hct := ctX9_tell (l := F.1) hL hc_11
      refine z_invVi svX9_166_7 hct (hL.t 0 rfl) ⟨Nat.le_trans (by decide) hD, by decide⟩ rfl rfl (Nat.le_of_ble_eq_true rfl) dX9_sign_18 ?_
      have hL := hL.ext mOk hct.1
      cases hf
      exact z_iret dX9_sign_21 rfl hM
theorem ctX9_sign {l : Launch} {h : zH} {a : Nat} {x1 : Int32} {x2 : Int32} {v : Int32} {h' : zH} (hL : zBlk mB mP h a) (hf : fX9_sign h a x1 x2 = some (v, h')) : zC l yX9_sign (ws_ yX9_sign cX9_sign 4 (some .int)) 3 [.ref a, .int x1, .int x2] h (.inl (some (.int v)), h') :=
  z_start (by decide) (Nat.le_of_ble_eq_true rfl) (zX9_sign (F := (l, 3, h, (.inl (some (.int v)), h'))) (Nat.le_refl _) hL hf rfl)
theorem fdX9_99_7 : zFd RX9 99 7 50 (.array .int) true := ⟨_, _, _, rfl, rfl, by decide, rfl, rfl, Or.inl q1442, Or.inl rfl⟩
noncomputable def fX9_comesBack_L2 (h : zH) (a : Nat) (x1 : Int32) (x2 : Int32) : Option ((zH × Int32) ⊕ (zH)) := if (zI h a 25) ≤ x2 then (some (.inr h)) else (zck (vp_in x2 40) (zlet (zsI h (a + 30) x2.toNatClampNeg 0) (fun h_2 => some (.inl ((h_2, x2 + 1))))))
theorem zX9_comesBack_L2 {F : zF} {h : zH} {a : Nat} {x1 : Int32} {x2 : Int32} {y : (zH × Int32) ⊕ (zH)} (hD : 2 ≤ F.2.1) (hL : zBlk mB mP h a) (hf : fX9_comesBack_L2 h a x1 x2 = some y) (hM : ((∀ s' : zH × Int32, y = .inl s' → (zBlk mB mP s'.1 a → Z F 6 cX9_comesBack RX9 "comesBack" (some .boolean) [] s'.1 2 [(0, .ref a), (1, .int x1), (2, .int s'.2)] [])) ∧ ∀ r : zH, y = .inr r → (zBlk mB mP r a → Z F 6 cX9_comesBack RX9 "comesBack" (some .boolean) [] r 23 [(0, .ref a), (1, .int x1)] []))) : Z F 6 cX9_comesBack RX9 "comesBack" (some .boolean) [] h 2 [(0, .ref a), (1, .int x1), (2, .int x2)] [] := by
  unfold fX9_comesBack_L2 at hf
  refine z_iload_n 2 dX9_comesBack_2 rfl rfl ?_
  refine z_aload_n 0 dX9_comesBack_3 rfl rfl ?_
  refine z_geti fdX9_345_7 (hL.t 0 rfl) dX9_comesBack_4 ?_
  refine z_icmp_ge 23 dX9_comesBack_7 rfl hf (fun _ hf => ?_) (fun _ hf => ?_)
  · cases hf
    refine z_sub [0, 1] rfl ?_
    exact (hM.2 _ rfl) hL
  · refine z_aload_n 0 dX9_comesBack_10 rfl rfl ?_
    refine z_getr fdX9_99_7 (Or.inr ⟨_, rfl⟩) (hL.t 0 rfl) (hL.p 29 rfl) dX9_comesBack_11 ?_
    refine z_iload_n 2 dX9_comesBack_14 rfl rfl ?_
    refine z_iconst 0 dX9_comesBack_15 rfl ?_
    obtain ⟨hi_1, hf⟩ := zck_some hf
    obtain ⟨h_2, he, hf⟩ := zlet_some hf
    refine z_iast (hL.t 30 rfl) (hL.nz 30) hi_1 he dX9_comesBack_16 ?_
    have hL := hL.I he
    refine z_iinc 2 (x2 + 1) dX9_comesBack_17 rfl rfl (by decide) (lc' := [(0, .ref a), (1, .int x1), (2, .int (x2 + 1))]) rfl ?_
    refine z_goto 2 dX9_comesBack_20 rfl ?_
    cases hf
    exact (hM.1 _ rfl) hL
noncomputable def fX9_comesBack_L73 (h : zH) (a : Nat) (x1 : Int32) (x2 : Int32) (x3 : Int32) (x4 : Int32) : Option ((zH × Int32) ⊕ ((zH) ⊕ ((zH × Int32 × Int32) ⊕ ((zH × Int32) ⊕ ((zH × Int32) ⊕ ((Int32 × zH))))))) := zck (vp_in x3 40) (if (zI h (a + 20) x3.toNatClampNeg) ≤ x4 then (some (.inr (.inl h))) else (zck (vp_in (((4 : Int32) * x3) + x4) 160) (zck (vp_in x1 40) (if (zI h (a + 21) (((4 : Int32) * x3) + x4).toNatClampNeg) = (zI h (a + 19) x1.toNatClampNeg) then (some (.inr (.inr (.inr (.inr (.inr ((1, h)))))))) else (zck (vp_in (((4 : Int32) * x3) + x4) 160) (zb1 (fX9_fallbackOf h a (zI h (a + 21) (((4 : Int32) * x3) + x4).toNatClampNeg)) (fun v_14 => if v_14 < 0 then (some (.inl ((h, x4 + 1)))) else (zck (vp_in v_14 40) (if (zI h (a + 30) v_14.toNatClampNeg) = 0 then (zck (vp_in v_14 40) (zlet (zsI h (a + 30) v_14.toNatClampNeg 1) (fun h_17 => some (.inl ((h_17, x4 + 1)))))) else (some (.inl ((h, x4 + 1)))))))))))))
theorem zX9_comesBack_L73 {F : zF} {h : zH} {a : Nat} {x1 : Int32} {x2 : Int32} {x3 : Int32} {x4 : Int32} {y : (zH × Int32) ⊕ ((zH) ⊕ ((zH × Int32 × Int32) ⊕ ((zH × Int32) ⊕ ((zH × Int32) ⊕ ((Int32 × zH))))))} (hD : 2 ≤ F.2.1) (hL : zBlk mB mP h a) (hf : fX9_comesBack_L73 h a x1 x2 x3 x4 = some y) (hM : ((∀ s' : zH × Int32, y = .inl s' → (zBlk mB mP s'.1 a → Z F 6 cX9_comesBack RX9 "comesBack" (some .boolean) [] s'.1 73 [(0, .ref a), (1, .int x1), (2, .int x2), (3, .int x3), (4, .int s'.2)] [])) ∧ ∀ r : (zH) ⊕ ((zH × Int32 × Int32) ⊕ ((zH × Int32) ⊕ ((zH × Int32) ⊕ ((Int32 × zH))))), y = .inr r → (match r with | .inl t => (zBlk mB mP t a → Z F 6 cX9_comesBack RX9 "comesBack" (some .boolean) [] t 152 [(0, .ref a), (1, .int x1), (2, .int x2), (3, .int x3)] []) | .inr z => ((∀ s' : zH × Int32 × Int32, z = .inl s' → (zBlk mB mP s'.1 a → Z F 6 cX9_comesBack RX9 "comesBack" (some .boolean) [] s'.1 40 [(0, .ref a), (1, .int x1), (2, .int s'.2.1), (3, .int s'.2.2)] [])) ∧ ∀ r : (zH × Int32) ⊕ ((zH × Int32) ⊕ ((Int32 × zH))), z = .inr r → (match r with | .inl t => (zBlk mB mP t.1 a → Z F 6 cX9_comesBack RX9 "comesBack" (some .boolean) [] t.1 158 [(0, .ref a), (1, .int x1), (2, .int t.2)] []) | .inr z => ((∀ s' : zH × Int32, z = .inl s' → (zBlk mB mP s'.1 a → Z F 6 cX9_comesBack RX9 "comesBack" (some .boolean) [] s'.1 32 [(0, .ref a), (1, .int x1), (2, .int s'.2)] [])) ∧ ∀ r : (Int32 × zH), z = .inr r → ((.inl (some (.int r.1)), r.2) : zX) = zEnd F)))))) : Z F 6 cX9_comesBack RX9 "comesBack" (some .boolean) [] h 73 [(0, .ref a), (1, .int x1), (2, .int x2), (3, .int x3), (4, .int x4)] [] := by
  unfold fX9_comesBack_L73 at hf
  refine z_iload 4 dX9_comesBack_73 rfl ?_
  refine z_aload_n 0 dX9_comesBack_75 rfl rfl ?_
  refine z_getr fdX9_69_7 (Or.inr ⟨_, rfl⟩) (hL.t 0 rfl) (hL.p 19 rfl) dX9_comesBack_76 ?_
  refine z_iload_n 3 dX9_comesBack_79 rfl rfl ?_
  obtain ⟨hi_9, hf⟩ := zck_some hf
  refine z_iald (hL.t 20 rfl) hi_9 dX9_comesBack_80 ?_
  refine z_icmp_ge 152 dX9_comesBack_81 rfl hf (fun _ hf => ?_) (fun _ hf => ?_)
  · cases hf
    refine z_sub [0, 1, 2, 3] rfl ?_
    exact (hM.2 _ rfl) hL
  · refine z_aload_n 0 dX9_comesBack_84 rfl rfl ?_
    refine z_getr fdX9_72_7 (Or.inr ⟨_, rfl⟩) (hL.t 0 rfl) (hL.p 20 rfl) dX9_comesBack_85 ?_
    refine z_iconst 4 dX9_comesBack_88 rfl ?_
    refine z_iload_n 3 dX9_comesBack_89 rfl rfl ?_
    refine z_imul dX9_comesBack_90 ?_
    refine z_iload 4 dX9_comesBack_91 rfl ?_
    refine z_iadd dX9_comesBack_93 ?_
    obtain ⟨hi_10, hf⟩ := zck_some hf
    refine z_iald (hL.t 21 rfl) hi_10 dX9_comesBack_94 ?_
    refine z_aload_n 0 dX9_comesBack_95 rfl rfl ?_
    refine z_getr fdX9_66_7 (Or.inr ⟨_, rfl⟩) (hL.t 0 rfl) (hL.p 18 rfl) dX9_comesBack_96 ?_
    refine z_iload_n 1 dX9_comesBack_99 rfl rfl ?_
    obtain ⟨hi_11, hf⟩ := zck_some hf
    refine z_iald (hL.t 19 rfl) hi_11 dX9_comesBack_100 ?_
    refine z_icmp_ne 106 dX9_comesBack_101 rfl hf (fun _ hf => ?_) (fun _ hf => ?_)
    · refine z_aload_n 0 dX9_comesBack_106 rfl rfl ?_
      refine z_aload_n 0 dX9_comesBack_107 rfl rfl ?_
      refine z_getr fdX9_72_7 (Or.inr ⟨_, rfl⟩) (hL.t 0 rfl) (hL.p 20 rfl) dX9_comesBack_108 ?_
      refine z_iconst 4 dX9_comesBack_111 rfl ?_
      refine z_iload_n 3 dX9_comesBack_112 rfl rfl ?_
      refine z_imul dX9_comesBack_113 ?_
      refine z_iload 4 dX9_comesBack_114 rfl ?_
      refine z_iadd dX9_comesBack_116 ?_
      obtain ⟨hi_12, hf⟩ := zck_some hf
      refine z_iald (hL.t 21 rfl) hi_12 dX9_comesBack_117 ?_
      obtain ⟨v_14, hc_13, hf⟩ := zb1_some hf
      refine z_invVi svX9_357_7 (ctX9_fallbackOf hL hc_13) (hL.t 0 rfl) ⟨Nat.le_trans (by decide) hD, by decide⟩ rfl rfl (Nat.le_of_ble_eq_true rfl) dX9_comesBack_118 ?_
      refine z_istore dX9_comesBack_121 (by decide) (lc' := [(0, .ref a), (1, .int x1), (2, .int x2), (3, .int x3), (4, .int x4), (5, .int v_14)]) rfl ?_
      refine z_iload 5 dX9_comesBack_123 rfl ?_
      refine z_if_lt 146 dX9_comesBack_125 rfl hf (fun _ hf => ?_) (fun _ hf => ?_)
      · refine z_iinc 4 (x4 + 1) dX9_comesBack_146 rfl rfl (by decide) (lc' := [(0, .ref a), (1, .int x1), (2, .int x2), (3, .int x3), (4, .int (x4 + 1)), (5, .int v_14)]) rfl ?_
        refine z_goto 73 dX9_comesBack_149 rfl ?_
        cases hf
        refine z_sub [0, 1, 2, 3, 4] rfl ?_
        exact (hM.1 _ rfl) hL
      · refine z_aload_n 0 dX9_comesBack_128 rfl rfl ?_
        refine z_getr fdX9_99_7 (Or.inr ⟨_, rfl⟩) (hL.t 0 rfl) (hL.p 29 rfl) dX9_comesBack_129 ?_
        refine z_iload 5 dX9_comesBack_132 rfl ?_
        obtain ⟨hi_15, hf⟩ := zck_some hf
        refine z_iald (hL.t 30 rfl) hi_15 dX9_comesBack_134 ?_
        refine z_if_ne 146 dX9_comesBack_135 rfl hf (fun _ hf => ?_) (fun _ hf => ?_)
        · refine z_iinc 4 (x4 + 1) dX9_comesBack_146 rfl rfl (by decide) (lc' := [(0, .ref a), (1, .int x1), (2, .int x2), (3, .int x3), (4, .int (x4 + 1)), (5, .int v_14)]) rfl ?_
          refine z_goto 73 dX9_comesBack_149 rfl ?_
          cases hf
          refine z_sub [0, 1, 2, 3, 4] rfl ?_
          exact (hM.1 _ rfl) hL
        · refine z_aload_n 0 dX9_comesBack_138 rfl rfl ?_
          refine z_getr fdX9_99_7 (Or.inr ⟨_, rfl⟩) (hL.t 0 rfl) (hL.p 29 rfl) dX9_comesBack_139 ?_
          refine z_iload 5 dX9_comesBack_142 rfl ?_
          refine z_iconst 1 dX9_comesBack_144 rfl ?_
          obtain ⟨hi_16, hf⟩ := zck_some hf
          obtain ⟨h_17, he, hf⟩ := zlet_some hf
          refine z_iast (hL.t 30 rfl) (hL.nz 30) hi_16 he dX9_comesBack_145 ?_
          have hL := hL.I he
          refine z_iinc 4 (x4 + 1) dX9_comesBack_146 rfl rfl (by decide) (lc' := [(0, .ref a), (1, .int x1), (2, .int x2), (3, .int x3), (4, .int (x4 + 1)), (5, .int v_14)]) rfl ?_
          refine z_goto 73 dX9_comesBack_149 rfl ?_
          cases hf
          refine z_sub [0, 1, 2, 3, 4] rfl ?_
          exact (hM.1 _ rfl) hL
    · refine z_iconst 1 dX9_comesBack_104 rfl ?_
      cases hf
      exact z_zret dX9_comesBack_105 rfl (Or.inr rfl) (((hM.2 _ rfl).2 _ rfl).2 _ rfl)
noncomputable def fX9_comesBack_L40 (h : zH) (a : Nat) (x1 : Int32) (x2 : Int32) (x3 : Int32) : Option ((zH × Int32 × Int32) ⊕ ((zH × Int32) ⊕ ((zH × Int32) ⊕ ((Int32 × zH))))) := if (zI h a 25) ≤ x3 then (some (.inr (.inl ((h, x2))))) else (zck (vp_in x3 40) (if (zI h (a + 30) x3.toNatClampNeg) = 1 then (zck (vp_in x3 40) (zlet (zsI h (a + 30) x3.toNatClampNeg 2) (fun h_8 => zlx (zlp (fun s => fX9_comesBack_L73 s.1 a x1 1 x3 s.2) (h_8, 0)) (fun t_18 => some (.inl ((t_18, 1, x3 + 1))))))) else (some (.inl ((h, x2, x3 + 1))))))
theorem zX9_comesBack_L40 {F : zF} {h : zH} {a : Nat} {x1 : Int32} {x2 : Int32} {x3 : Int32} {y : (zH × Int32 × Int32) ⊕ ((zH × Int32) ⊕ ((zH × Int32) ⊕ ((Int32 × zH))))} (hD : 2 ≤ F.2.1) (hL : zBlk mB mP h a) (hf : fX9_comesBack_L40 h a x1 x2 x3 = some y) (hM : ((∀ s' : zH × Int32 × Int32, y = .inl s' → (zBlk mB mP s'.1 a → Z F 6 cX9_comesBack RX9 "comesBack" (some .boolean) [] s'.1 40 [(0, .ref a), (1, .int x1), (2, .int s'.2.1), (3, .int s'.2.2)] [])) ∧ ∀ r : (zH × Int32) ⊕ ((zH × Int32) ⊕ ((Int32 × zH))), y = .inr r → (match r with | .inl t => (zBlk mB mP t.1 a → Z F 6 cX9_comesBack RX9 "comesBack" (some .boolean) [] t.1 158 [(0, .ref a), (1, .int x1), (2, .int t.2)] []) | .inr z => ((∀ s' : zH × Int32, z = .inl s' → (zBlk mB mP s'.1 a → Z F 6 cX9_comesBack RX9 "comesBack" (some .boolean) [] s'.1 32 [(0, .ref a), (1, .int x1), (2, .int s'.2)] [])) ∧ ∀ r : (Int32 × zH), z = .inr r → ((.inl (some (.int r.1)), r.2) : zX) = zEnd F)))) : Z F 6 cX9_comesBack RX9 "comesBack" (some .boolean) [] h 40 [(0, .ref a), (1, .int x1), (2, .int x2), (3, .int x3)] [] := by
  unfold fX9_comesBack_L40 at hf
  refine z_iload_n 3 dX9_comesBack_40 rfl rfl ?_
  refine z_aload_n 0 dX9_comesBack_41 rfl rfl ?_
  refine z_geti fdX9_345_7 (hL.t 0 rfl) dX9_comesBack_42 ?_
  refine z_icmp_ge 158 dX9_comesBack_45 rfl hf (fun _ hf => ?_) (fun _ hf => ?_)
  · cases hf
    refine z_sub [0, 1, 2] rfl ?_
    exact (hM.2 _ rfl) hL
  · refine z_aload_n 0 dX9_comesBack_48 rfl rfl ?_
    refine z_getr fdX9_99_7 (Or.inr ⟨_, rfl⟩) (hL.t 0 rfl) (hL.p 29 rfl) dX9_comesBack_49 ?_
    refine z_iload_n 3 dX9_comesBack_52 rfl rfl ?_
    obtain ⟨hi_6, hf⟩ := zck_some hf
    refine z_iald (hL.t 30 rfl) hi_6 dX9_comesBack_53 ?_
    refine z_iconst 1 dX9_comesBack_54 rfl ?_
    refine z_icmp_eq 61 dX9_comesBack_55 rfl hf (fun _ hf => ?_) (fun _ hf => ?_)
    · refine z_aload_n 0 dX9_comesBack_61 rfl rfl ?_
      refine z_getr fdX9_99_7 (Or.inr ⟨_, rfl⟩) (hL.t 0 rfl) (hL.p 29 rfl) dX9_comesBack_62 ?_
      refine z_iload_n 3 dX9_comesBack_65 rfl rfl ?_
      refine z_iconst 2 dX9_comesBack_66 rfl ?_
      obtain ⟨hi_7, hf⟩ := zck_some hf
      obtain ⟨h_8, he, hf⟩ := zlet_some hf
      refine z_iast (hL.t 30 rfl) (hL.nz 30) hi_7 he dX9_comesBack_67 ?_
      have hL := hL.I he
      refine z_iconst 1 dX9_comesBack_68 rfl ?_
      refine z_istore_n dX9_comesBack_69 rfl (by decide) (lc' := [(0, .ref a), (1, .int x1), (2, .int 1), (3, .int x3)]) rfl ?_
      refine z_iconst 0 dX9_comesBack_70 rfl ?_
      refine z_istore dX9_comesBack_71 (by decide) (lc' := [(0, .ref a), (1, .int x1), (2, .int 1), (3, .int x3), (4, .int 0)]) rfl ?_
      obtain ⟨rr, hl, hf⟩ := zlx_some hf
      refine z_loop (fun (s : zH × Int32) => (zBlk mB mP s.1 a → Z F 6 cX9_comesBack RX9 "comesBack" (some .boolean) [] s.1 73 [(0, .ref a), (1, .int x1), (2, .int 1), (3, .int x3), (4, .int s.2)] [])) (fun (r : (zH) ⊕ ((zH × Int32 × Int32) ⊕ ((zH × Int32) ⊕ ((zH × Int32) ⊕ ((Int32 × zH)))))) => (match r with | .inl t => (zBlk mB mP t a → Z F 6 cX9_comesBack RX9 "comesBack" (some .boolean) [] t 152 [(0, .ref a), (1, .int x1), (2, .int 1), (3, .int x3)] []) | .inr z => ((∀ s' : zH × Int32 × Int32, z = .inl s' → (zBlk mB mP s'.1 a → Z F 6 cX9_comesBack RX9 "comesBack" (some .boolean) [] s'.1 40 [(0, .ref a), (1, .int x1), (2, .int s'.2.1), (3, .int s'.2.2)] [])) ∧ ∀ r : (zH × Int32) ⊕ ((zH × Int32) ⊕ ((Int32 × zH))), z = .inr r → (match r with | .inl t => (zBlk mB mP t.1 a → Z F 6 cX9_comesBack RX9 "comesBack" (some .boolean) [] t.1 158 [(0, .ref a), (1, .int x1), (2, .int t.2)] []) | .inr z => ((∀ s' : zH × Int32, z = .inl s' → (zBlk mB mP s'.1 a → Z F 6 cX9_comesBack RX9 "comesBack" (some .boolean) [] s'.1 32 [(0, .ref a), (1, .int x1), (2, .int s'.2)] [])) ∧ ∀ r : (Int32 × zH), z = .inr r → ((.inl (some (.int r.1)), r.2) : zX) = zEnd F))))) (fun s y hb hs hr hL => zX9_comesBack_L73 hD hL hb ⟨hs, hr⟩) hl ?_ hL
      rcases hf with ⟨t_18, rfl, hf⟩ | rfl
      · intro hL
        show Z F 6 cX9_comesBack RX9 "comesBack" (some .boolean) [] t_18 152 [(0, .ref a), (1, .int x1), (2, .int 1), (3, .int x3)] []
        refine z_iinc 3 (x3 + 1) dX9_comesBack_152 rfl rfl (by decide) (lc' := [(0, .ref a), (1, .int x1), (2, .int 1), (3, .int (x3 + 1))]) rfl ?_
        refine z_goto 40 dX9_comesBack_155 rfl ?_
        cases hf
        exact (hM.1 _ rfl) hL
      · exact hM
    · refine z_goto 152 dX9_comesBack_58 rfl ?_
      refine z_iinc 3 (x3 + 1) dX9_comesBack_152 rfl rfl (by decide) (lc' := [(0, .ref a), (1, .int x1), (2, .int x2), (3, .int (x3 + 1))]) rfl ?_
      refine z_goto 40 dX9_comesBack_155 rfl ?_
      cases hf
      exact (hM.1 _ rfl) hL
noncomputable def fX9_comesBack_L32 (h : zH) (a : Nat) (x1 : Int32) (x2 : Int32) : Option ((zH × Int32) ⊕ ((Int32 × zH))) := if x2 = 0 then (some (.inr ((0, h)))) else (zlx (zlp (fun s => fX9_comesBack_L40 s.1 a x1 s.2.1 s.2.2) (h, 0, 0)) (fun t_19 => some (.inl ((t_19.1, t_19.2)))))
theorem zX9_comesBack_L32 {F : zF} {h : zH} {a : Nat} {x1 : Int32} {x2 : Int32} {y : (zH × Int32) ⊕ ((Int32 × zH))} (hD : 2 ≤ F.2.1) (hL : zBlk mB mP h a) (hf : fX9_comesBack_L32 h a x1 x2 = some y) (hM : ((∀ s' : zH × Int32, y = .inl s' → (zBlk mB mP s'.1 a → Z F 6 cX9_comesBack RX9 "comesBack" (some .boolean) [] s'.1 32 [(0, .ref a), (1, .int x1), (2, .int s'.2)] [])) ∧ ∀ r : (Int32 × zH), y = .inr r → ((.inl (some (.int r.1)), r.2) : zX) = zEnd F)) : Z F 6 cX9_comesBack RX9 "comesBack" (some .boolean) [] h 32 [(0, .ref a), (1, .int x1), (2, .int x2)] [] := by
  unfold fX9_comesBack_L32 at hf
  refine z_iload_n 2 dX9_comesBack_32 rfl rfl ?_
  refine z_if_eq 161 dX9_comesBack_33 rfl hf (fun _ hf => ?_) (fun _ hf => ?_)
  · refine z_iconst 0 dX9_comesBack_161 rfl ?_
    cases hf
    exact z_zret dX9_comesBack_162 rfl (Or.inl rfl) (hM.2 _ rfl)
  · refine z_iconst 0 dX9_comesBack_36 rfl ?_
    refine z_istore_n dX9_comesBack_37 rfl (by decide) (lc' := [(0, .ref a), (1, .int x1), (2, .int 0)]) rfl ?_
    refine z_iconst 0 dX9_comesBack_38 rfl ?_
    refine z_istore_n dX9_comesBack_39 rfl (by decide) (lc' := [(0, .ref a), (1, .int x1), (2, .int 0), (3, .int 0)]) rfl ?_
    obtain ⟨rr, hl, hf⟩ := zlx_some hf
    refine z_loop (fun (s : zH × Int32 × Int32) => (zBlk mB mP s.1 a → Z F 6 cX9_comesBack RX9 "comesBack" (some .boolean) [] s.1 40 [(0, .ref a), (1, .int x1), (2, .int s.2.1), (3, .int s.2.2)] [])) (fun (r : (zH × Int32) ⊕ ((zH × Int32) ⊕ ((Int32 × zH)))) => (match r with | .inl t => (zBlk mB mP t.1 a → Z F 6 cX9_comesBack RX9 "comesBack" (some .boolean) [] t.1 158 [(0, .ref a), (1, .int x1), (2, .int t.2)] []) | .inr z => ((∀ s' : zH × Int32, z = .inl s' → (zBlk mB mP s'.1 a → Z F 6 cX9_comesBack RX9 "comesBack" (some .boolean) [] s'.1 32 [(0, .ref a), (1, .int x1), (2, .int s'.2)] [])) ∧ ∀ r : (Int32 × zH), z = .inr r → ((.inl (some (.int r.1)), r.2) : zX) = zEnd F))) (fun s y hb hs hr hL => zX9_comesBack_L40 hD hL hb ⟨hs, hr⟩) hl ?_ hL
    rcases hf with ⟨t_19, rfl, hf⟩ | rfl
    · intro hL
      show Z F 6 cX9_comesBack RX9 "comesBack" (some .boolean) [] t_19.1 158 [(0, .ref a), (1, .int x1), (2, .int t_19.2)] []
      refine z_goto 32 dX9_comesBack_158 rfl ?_
      cases hf
      exact (hM.1 _ rfl) hL
    · exact hM
noncomputable def fX9_comesBack (h : zH) (a : Nat) (x1 : Int32) : Option (Int32 × zH) := zb1 (zlp (fun s => fX9_comesBack_L2 s.1 a x1 s.2) (h, 0)) (fun t_3 => zck (vp_in x1 40) (zlet (zsI t_3 (a + 30) x1.toNatClampNeg 1) (fun h_5 => zlp (fun s => fX9_comesBack_L32 s.1 a x1 s.2) (h_5, 1))))
theorem zX9_comesBack {F : zF} {h : zH} {a : Nat} {x1 : Int32} {y : Int32 × zH} (hD : 2 ≤ F.2.1) (hL : zBlk mB mP h a) (hf : fX9_comesBack h a x1 = some y) (hM : ((.inl (some (.int y.1)), y.2) : zX) = zEnd F) : Z F 6 cX9_comesBack RX9 "comesBack" (some .boolean) [] h 0 [(0, .ref a), (1, .int x1)] [] := by
  unfold fX9_comesBack at hf
  refine z_iconst 0 dX9_comesBack_0 rfl ?_
  refine z_istore_n dX9_comesBack_1 rfl (by decide) (lc' := [(0, .ref a), (1, .int x1), (2, .int 0)]) rfl ?_
  obtain ⟨t_3, hl, hf⟩ := zb1_some hf
  refine z_loop (fun (s : zH × Int32) => (zBlk mB mP s.1 a → Z F 6 cX9_comesBack RX9 "comesBack" (some .boolean) [] s.1 2 [(0, .ref a), (1, .int x1), (2, .int s.2)] [])) (fun (r : zH) => (zBlk mB mP r a → Z F 6 cX9_comesBack RX9 "comesBack" (some .boolean) [] r 23 [(0, .ref a), (1, .int x1)] [])) (fun s y hb hs hr hL => zX9_comesBack_L2 hD hL hb ⟨hs, hr⟩) hl ?_ hL
  intro hL
  show Z F 6 cX9_comesBack RX9 "comesBack" (some .boolean) [] t_3 23 [(0, .ref a), (1, .int x1)] []
  refine z_aload_n 0 dX9_comesBack_23 rfl rfl ?_
  refine z_getr fdX9_99_7 (Or.inr ⟨_, rfl⟩) (hL.t 0 rfl) (hL.p 29 rfl) dX9_comesBack_24 ?_
  refine z_iload_n 1 dX9_comesBack_27 rfl rfl ?_
  refine z_iconst 1 dX9_comesBack_28 rfl ?_
  obtain ⟨hi_4, hf⟩ := zck_some hf
  obtain ⟨h_5, he, hf⟩ := zlet_some hf
  refine z_iast (hL.t 30 rfl) (hL.nz 30) hi_4 he dX9_comesBack_29 ?_
  have hL := hL.I he
  refine z_iconst 1 dX9_comesBack_30 rfl ?_
  refine z_istore_n dX9_comesBack_31 rfl (by decide) (lc' := [(0, .ref a), (1, .int x1), (2, .int 1)]) rfl ?_
  exact z_loop (fun (s : zH × Int32) => (zBlk mB mP s.1 a → Z F 6 cX9_comesBack RX9 "comesBack" (some .boolean) [] s.1 32 [(0, .ref a), (1, .int x1), (2, .int s.2)] [])) (fun (r : (Int32 × zH)) => ((.inl (some (.int r.1)), r.2) : zX) = zEnd F) (fun s y hb hs hr hL => zX9_comesBack_L32 hD hL hb ⟨hs, hr⟩) hf hM hL
theorem ctX9_comesBack {l : Launch} {h : zH} {a : Nat} {x1 : Int32} {v : Int32} {h' : zH} (hL : zBlk mB mP h a) (hf : fX9_comesBack h a x1 = some (v, h')) : zC l yX9_comesBack (ws_ yX9_comesBack cX9_comesBack 6 (some .boolean)) 2 [.ref a, .int x1] h (.inl (some (.int v)), h') :=
  z_start (by decide) (Nat.le_of_ble_eq_true rfl) (zX9_comesBack (F := (l, 2, h, (.inl (some (.int v)), h'))) (Nat.le_refl _) hL hf rfl)
theorem svX9_381_7 : zIv RX9 381 yX9_length (ws_ yX9_length cX9_length 6 (some .int)) 6 7 2 := ⟨zGood_c q1860 q109, ⟨_, _, rfl, rfl, qs85⟩, Or.inl q1857, q1859, ⟨by decide, by decide⟩, by decide +kernel⟩
noncomputable def fX9_length_L15 (g : (zH → Nat → Int32 → Nat → Option (Int32 × zH))) (h : zH) (a : Nat) (x1 : Int32) (x2 : Nat) (x3 : Int32) (x4 : Int32) : Option ((zH × Int32 × Int32) ⊕ (zH × Int32)) := zck (vp_in x1 40) (if (zI h (a + 20) x1.toNatClampNeg) ≤ x4 then (some (.inr ((h, x3)))) else (zck (vp_in (((4 : Int32) * x1) + x4) 160) (zb1 (fX9_fallbackOf h a (zI h (a + 21) (((4 : Int32) * x1) + x4).toNatClampNeg)) (fun v_5 => if 0 ≤ v_5 then (zb2 (g h a v_5 x2) (fun v_7 h_8 => some (.inl ((h_8, x3 + v_7, x4 + 1))))) else (some (.inl ((h, x3 + 1, x4 + 1))))))))
theorem zX9_length_L15 {F : zF} {g : (zH → Nat → Int32 → Nat → Option (Int32 × zH))} {h : zH} {a : Nat} {x1 : Int32} {x2 : Nat} {x3 : Int32} {x4 : Int32} {y : (zH × Int32 × Int32) ⊕ (zH × Int32)} {dg : Nat} (hD : dg + 1 ≤ F.2.1 ∧ 2 ≤ F.2.1) (hg : ∀ {l : Launch} {h : zH} {a : Nat} {x1 : Int32} {x2 : Nat} {v : Int32} {h' : zH}, zBlk mB mP h a → g h a x1 x2 = some (v, h') → zC l yX9_length (ws_ yX9_length cX9_length 6 (some .int)) dg [.ref a, .int x1, .ref x2] h (.inl (some (.int v)), h')) (hL : zBlk mB mP h a) (hf : fX9_length_L15 g h a x1 x2 x3 x4 = some y) (hM : ((∀ s' : zH × Int32 × Int32, y = .inl s' → (zBlk mB mP s'.1 a → Z F 6 cX9_length RX9 "length" (some .int) [] s'.1 15 [(0, .ref a), (1, .int x1), (2, .ref x2), (3, .int s'.2.1), (4, .int s'.2.2)] [])) ∧ ∀ r : zH × Int32, y = .inr r → (zBlk mB mP r.1 a → Z F 6 cX9_length RX9 "length" (some .int) [] r.1 68 [(1, .int x1), (2, .ref x2), (3, .int r.2)] []))) : Z F 6 cX9_length RX9 "length" (some .int) [] h 15 [(0, .ref a), (1, .int x1), (2, .ref x2), (3, .int x3), (4, .int x4)] [] := by
  unfold fX9_length_L15 at hf
  refine z_iload 4 dX9_length_15 rfl ?_
  refine z_aload_n 0 dX9_length_17 rfl rfl ?_
  refine z_getr fdX9_69_7 (Or.inr ⟨_, rfl⟩) (hL.t 0 rfl) (hL.p 19 rfl) dX9_length_18 ?_
  refine z_iload_n 1 dX9_length_21 rfl rfl ?_
  obtain ⟨hi_2, hf⟩ := zck_some hf
  refine z_iald (hL.t 20 rfl) hi_2 dX9_length_22 ?_
  refine z_icmp_ge 68 dX9_length_23 rfl hf (fun _ hf => ?_) (fun _ hf => ?_)
  · cases hf
    refine z_sub [1, 2, 3] rfl ?_
    exact (hM.2 _ rfl) hL
  · refine z_aload_n 0 dX9_length_26 rfl rfl ?_
    refine z_aload_n 0 dX9_length_27 rfl rfl ?_
    refine z_getr fdX9_72_7 (Or.inr ⟨_, rfl⟩) (hL.t 0 rfl) (hL.p 20 rfl) dX9_length_28 ?_
    refine z_iconst 4 dX9_length_31 rfl ?_
    refine z_iload_n 1 dX9_length_32 rfl rfl ?_
    refine z_imul dX9_length_33 ?_
    refine z_iload 4 dX9_length_34 rfl ?_
    refine z_iadd dX9_length_36 ?_
    obtain ⟨hi_3, hf⟩ := zck_some hf
    refine z_iald (hL.t 21 rfl) hi_3 dX9_length_37 ?_
    obtain ⟨v_5, hc_4, hf⟩ := zb1_some hf
    refine z_invVi svX9_357_7 (ctX9_fallbackOf hL hc_4) (hL.t 0 rfl) ⟨Nat.le_trans (by decide) hD.2, by decide⟩ rfl rfl (Nat.le_of_ble_eq_true rfl) dX9_length_38 ?_
    refine z_istore dX9_length_41 (by decide) (lc' := [(0, .ref a), (1, .int x1), (2, .ref x2), (3, .int x3), (4, .int x4), (5, .int v_5)]) rfl ?_
    refine z_iload_n 3 dX9_length_43 rfl rfl ?_
    refine z_iload 5 dX9_length_44 rfl ?_
    refine z_if_ge 53 dX9_length_46 rfl hf (fun _ hf => ?_) (fun _ hf => ?_)
    · refine z_aload_n 0 dX9_length_53 rfl rfl ?_
      refine z_iload 5 dX9_length_54 rfl ?_
      refine z_aload_n 2 dX9_length_56 rfl rfl ?_
      obtain ⟨v_7, h_8, hc_6, hf⟩ := zb2_some hf
      have hct := hg (l := F.1) hL hc_6
      refine z_invVi svX9_381_7 hct (hL.t 0 rfl) ⟨hD.1, by decide⟩ rfl rfl (Nat.le_of_ble_eq_true rfl) dX9_length_57 ?_
      have hL := hL.ext mOk hct.1
      refine z_iadd dX9_length_60 ?_
      refine z_istore_n dX9_length_61 rfl (by decide) (lc' := [(0, .ref a), (1, .int x1), (2, .ref x2), (3, .int (x3 + v_7)), (4, .int x4), (5, .int v_5)]) rfl ?_
      refine z_iinc 4 (x4 + 1) dX9_length_62 rfl rfl (by decide) (lc' := [(0, .ref a), (1, .int x1), (2, .ref x2), (3, .int (x3 + v_7)), (4, .int (x4 + 1)), (5, .int v_5)]) rfl ?_
      refine z_goto 15 dX9_length_65 rfl ?_
      cases hf
      refine z_sub [0, 1, 2, 3, 4] rfl ?_
      exact (hM.1 _ rfl) hL
    · refine z_iconst 1 dX9_length_49 rfl ?_
      refine z_goto 60 dX9_length_50 rfl ?_
      refine z_iadd dX9_length_60 ?_
      refine z_istore_n dX9_length_61 rfl (by decide) (lc' := [(0, .ref a), (1, .int x1), (2, .ref x2), (3, .int (x3 + 1)), (4, .int x4), (5, .int v_5)]) rfl ?_
      refine z_iinc 4 (x4 + 1) dX9_length_62 rfl rfl (by decide) (lc' := [(0, .ref a), (1, .int x1), (2, .ref x2), (3, .int (x3 + 1)), (4, .int (x4 + 1)), (5, .int v_5)]) rfl ?_
      refine z_goto 15 dX9_length_65 rfl ?_
      cases hf
      refine z_sub [0, 1, 2, 3, 4] rfl ?_
      exact (hM.1 _ rfl) hL
noncomputable def fX9_length_B (g : (zH → Nat → Int32 → Nat → Option (Int32 × zH))) (h : zH) (a : Nat) (x1 : Int32) (x2 : Nat) : Option (Int32 × zH) := zck (zAr h x2 x1) (if (zI h x2 x1.toNatClampNeg) ≤ 0 then (zb1 (zlp (fun s => fX9_length_L15 g s.1 a x1 x2 s.2.1 s.2.2) (h, 0, 0)) (fun t_9 => if t_9.2 ≤ 17 then (zck (x2 ≠ 0 ∧ zAr t_9.1 x2 x1) (zlet (zsI t_9.1 x2 x1.toNatClampNeg t_9.2) (fun h_11 => zck (zAr h_11 x2 x1) (some ((zI h_11 x2 x1.toNatClampNeg, h_11)))))) else (zck (x2 ≠ 0 ∧ zAr t_9.1 x2 x1) (zlet (zsI t_9.1 x2 x1.toNatClampNeg 17) (fun h_14 => zck (zAr h_14 x2 x1) (some ((zI h_14 x2 x1.toNatClampNeg, h_14)))))))) else (zck (zAr h x2 x1) (some ((zI h x2 x1.toNatClampNeg, h)))))
theorem zX9_length_B {F : zF} {g : (zH → Nat → Int32 → Nat → Option (Int32 × zH))} {h : zH} {a : Nat} {x1 : Int32} {x2 : Nat} {y : Int32 × zH} {dg : Nat} (hD : dg + 1 ≤ F.2.1 ∧ 2 ≤ F.2.1) (hg : ∀ {l : Launch} {h : zH} {a : Nat} {x1 : Int32} {x2 : Nat} {v : Int32} {h' : zH}, zBlk mB mP h a → g h a x1 x2 = some (v, h') → zC l yX9_length (ws_ yX9_length cX9_length 6 (some .int)) dg [.ref a, .int x1, .ref x2] h (.inl (some (.int v)), h')) (hL : zBlk mB mP h a) (hf : fX9_length_B g h a x1 x2 = some y) (hM : ((.inl (some (.int y.1)), y.2) : zX) = zEnd F) : Z F 6 cX9_length RX9 "length" (some .int) [] h 0 [(0, .ref a), (1, .int x1), (2, .ref x2)] [] := by
  unfold fX9_length_B at hf
  refine z_aload_n 2 dX9_length_0 rfl rfl ?_
  refine z_iload_n 1 dX9_length_1 rfl rfl ?_
  obtain ⟨hi_1, hf⟩ := zck_some hf
  refine z_iald (zAr_t hi_1) hi_1.2 dX9_length_2 ?_
  refine z_if_le 10 dX9_length_3 rfl hf (fun _ hf => ?_) (fun _ hf => ?_)
  · refine z_iconst 0 dX9_length_10 rfl ?_
    refine z_istore_n dX9_length_11 rfl (by decide) (lc' := [(0, .ref a), (1, .int x1), (2, .ref x2), (3, .int 0)]) rfl ?_
    refine z_iconst 0 dX9_length_12 rfl ?_
    refine z_istore dX9_length_13 (by decide) (lc' := [(0, .ref a), (1, .int x1), (2, .ref x2), (3, .int 0), (4, .int 0)]) rfl ?_
    obtain ⟨t_9, hl, hf⟩ := zb1_some hf
    refine z_loop (fun (s : zH × Int32 × Int32) => (zBlk mB mP s.1 a → Z F 6 cX9_length RX9 "length" (some .int) [] s.1 15 [(0, .ref a), (1, .int x1), (2, .ref x2), (3, .int s.2.1), (4, .int s.2.2)] [])) (fun (r : zH × Int32) => (zBlk mB mP r.1 a → Z F 6 cX9_length RX9 "length" (some .int) [] r.1 68 [(1, .int x1), (2, .ref x2), (3, .int r.2)] [])) (fun s y hb hs hr hL => zX9_length_L15 hD hg hL hb ⟨hs, hr⟩) hl ?_ hL
    intro hL
    show Z F 6 cX9_length RX9 "length" (some .int) [] t_9.1 68 [(1, .int x1), (2, .ref x2), (3, .int t_9.2)] []
    refine z_aload_n 1 dX9_length_68 rfl rfl ?_
    refine z_iload_n 0 dX9_length_69 rfl rfl ?_
    refine z_iload_n 2 dX9_length_70 rfl rfl ?_
    refine z_bipush 17 dX9_length_71 rfl ?_
    refine z_icmp_le 81 dX9_length_73 rfl hf (fun _ hf => ?_) (fun _ hf => ?_)
    · refine z_iload_n 2 dX9_length_81 rfl rfl ?_
      obtain ⟨hi_10, hf⟩ := zck_some hf
      obtain ⟨h_11, he, hf⟩ := zlet_some hf
      refine z_iast (zAr_t hi_10.2) hi_10.1 hi_10.2.2 he dX9_length_82 ?_
      have hL := hL.I he
      refine z_aload_n 1 dX9_length_83 rfl rfl ?_
      refine z_iload_n 0 dX9_length_84 rfl rfl ?_
      obtain ⟨hi_12, hf⟩ := zck_some hf
      refine z_iald (zAr_t hi_12) hi_12.2 dX9_length_85 ?_
      cases hf
      exact z_iret dX9_length_86 rfl hM
    · refine z_bipush 17 dX9_length_76 rfl ?_
      refine z_goto 82 dX9_length_78 rfl ?_
      obtain ⟨hi_13, hf⟩ := zck_some hf
      obtain ⟨h_14, he, hf⟩ := zlet_some hf
      refine z_iast (zAr_t hi_13.2) hi_13.1 hi_13.2.2 he dX9_length_82 ?_
      have hL := hL.I he
      refine z_aload_n 1 dX9_length_83 rfl rfl ?_
      refine z_iload_n 0 dX9_length_84 rfl rfl ?_
      obtain ⟨hi_15, hf⟩ := zck_some hf
      refine z_iald (zAr_t hi_15) hi_15.2 dX9_length_85 ?_
      cases hf
      exact z_iret dX9_length_86 rfl hM
  · refine z_aload_n 2 dX9_length_6 rfl rfl ?_
    refine z_iload_n 1 dX9_length_7 rfl rfl ?_
    obtain ⟨hi_16, hf⟩ := zck_some hf
    refine z_iald (zAr_t hi_16) hi_16.2 dX9_length_8 ?_
    cases hf
    exact z_iret dX9_length_9 rfl hM
noncomputable def fX9_length : Nat → zH → Nat → Int32 → Nat → Option (Int32 × zH)
  | 0 => fun _ _ _ _ => none
  | n + 1 => fX9_length_B (fX9_length n)
theorem ctX9_length (n : Nat) : ∀ {l : Launch} {h : zH} {a : Nat} {x1 : Int32} {x2 : Nat} {v : Int32} {h' : zH}, zBlk mB mP h a → fX9_length n h a x1 x2 = some (v, h') → zC l yX9_length (ws_ yX9_length cX9_length 6 (some .int)) (n + 2) [.ref a, .int x1, .ref x2] h (.inl (some (.int v)), h') := by
  induction n with
  | zero => intro l h a x1 x2 v h' hL hf; cases hf
  | succ n ih =>
    intro l h a x1 x2 v h' hL hf
    exact z_start (by decide) (Nat.le_of_ble_eq_true rfl) (zX9_length_B (F := (l, n + 1 + 2, h, (.inl (some (.int v)), h'))) (dg := n + 2) ⟨by show n + 2 + 1 ≤ n + 1 + 2; omega, by show 2 ≤ n + 1 + 2; omega⟩ ih hL hf rfl)
theorem fdX9_96_7 : zFd RX9 96 7 49 (.array .int) true := ⟨_, _, _, rfl, rfl, by decide, rfl, rfl, Or.inl q1441, Or.inl rfl⟩
noncomputable def fX9_fallback_J138 (h : zH) (a : Nat) (x1 : Int32) (x2 : Int32) (x3 : Int32) (x5 : Int32) (k0 : Int32) (k1 : Int32) : Option ((zH × Int32 × Int32) ⊕ ((zH × Int32) ⊕ (Int32 × zH))) := zck (vp_in k1 1000) (zlet (zsI h (a + 29) k1.toNatClampNeg k0) (fun h_7 => if x5 = 0 then (some (.inl ((h_7, x2 + 1, x3 + 1)))) else (some (.inl ((h_7, x2 + 1, x3 + 2))))))
theorem zX9_fallback_J138 {F : zF} {h : zH} {a : Nat} {x1 : Int32} {x2 : Int32} {x3 : Int32} {x5 : Int32} {k0 : Int32} {k1 : Int32} {y : (zH × Int32 × Int32) ⊕ ((zH × Int32) ⊕ (Int32 × zH))} (hD : 53 ≤ F.2.1) (hL : zBlk mB mP h a) (hf : fX9_fallback_J138 h a x1 x2 x3 x5 k0 k1 = some y) (hM : ((∀ s' : zH × Int32 × Int32, y = .inl s' → (zBlk mB mP s'.1 a → Z F 9 cX9_fallback RX9 "fallback" (some .int) [] s'.1 17 [(0, .ref a), (1, .int x1), (2, .int s'.2.1), (3, .int s'.2.2)] [])) ∧ ∀ r : (zH × Int32) ⊕ (Int32 × zH), y = .inr r → (match r with | .inl t => (zBlk mB mP t.1 a → Z F 9 cX9_fallback RX9 "fallback" (some .int) [] t.1 158 [(0, .ref a), (1, .int x1), (2, .int t.2)] []) | .inr z => ((.inl (some (.int z.1)), z.2) : zX) = zEnd F))) : Z F 9 cX9_fallback RX9 "fallback" (some .int) [] h 138 [(0, .ref a), (1, .int x1), (2, .int x2), (3, .int x3), (5, .int x5)] [.int k0, .int k1, .ref (a + 29)] := by
  unfold fX9_fallback_J138 at hf
  obtain ⟨hi_6, hf⟩ := zck_some hf
  obtain ⟨h_7, he, hf⟩ := zlet_some hf
  refine z_iast (hL.t 29 rfl) (hL.nz 29) hi_6 he dX9_fallback_138 ?_
  have hL := hL.I he
  refine z_iinc 2 (x2 + 1) dX9_fallback_139 rfl rfl (by decide) (lc' := [(0, .ref a), (1, .int x1), (2, .int (x2 + 1)), (3, .int x3), (5, .int x5)]) rfl ?_
  refine z_iload_n 3 dX9_fallback_142 rfl rfl ?_
  refine z_iload 4 dX9_fallback_143 rfl ?_
  refine z_if_eq 152 dX9_fallback_145 rfl hf (fun _ hf => ?_) (fun _ hf => ?_)
  · refine z_iconst 1 dX9_fallback_152 rfl ?_
    refine z_iadd dX9_fallback_153 ?_
    refine z_istore_n dX9_fallback_154 rfl (by decide) (lc' := [(0, .ref a), (1, .int x1), (2, .int (x2 + 1)), (3, .int (x3 + 1)), (5, .int x5)]) rfl ?_
    refine z_goto 17 dX9_fallback_155 rfl ?_
    cases hf
    refine z_sub [0, 1, 2, 3] rfl ?_
    exact (hM.1 _ rfl) hL
  · refine z_iconst 2 dX9_fallback_148 rfl ?_
    refine z_goto 153 dX9_fallback_149 rfl ?_
    refine z_iadd dX9_fallback_153 ?_
    refine z_istore_n dX9_fallback_154 rfl (by decide) (lc' := [(0, .ref a), (1, .int x1), (2, .int (x2 + 1)), (3, .int (x3 + 2)), (5, .int x5)]) rfl ?_
    refine z_goto 17 dX9_fallback_155 rfl ?_
    cases hf
    refine z_sub [0, 1, 2, 3] rfl ?_
    exact (hM.1 _ rfl) hL
noncomputable def fX9_fallback_J100 (h : zH) (a : Nat) (x1 : Int32) (x2 : Int32) (x3 : Int32) (x4 : Int32) (x5 : Int32) : Option ((zH × Int32 × Int32) ⊕ ((zH × Int32) ⊕ (Int32 × zH))) := if x5 = 0 then (fX9_fallback_J138 h a x1 x2 x3 x5 x4 x2) else (zck (vp_in (x3 + 1) 1000) (fX9_fallback_J138 h a x1 x2 x3 x5 ((((65536 : Int32) + ((x4 - 55296) <<< (10 &&& 31))) + (zI h (a + 15) (x3 + 1).toNatClampNeg)) - 56320) x2))
theorem zX9_fallback_J100 {F : zF} {h : zH} {a : Nat} {x1 : Int32} {x2 : Int32} {x3 : Int32} {x4 : Int32} {x5 : Int32} {y : (zH × Int32 × Int32) ⊕ ((zH × Int32) ⊕ (Int32 × zH))} (hD : 53 ≤ F.2.1) (hL : zBlk mB mP h a) (hf : fX9_fallback_J100 h a x1 x2 x3 x4 x5 = some y) (hM : ((∀ s' : zH × Int32 × Int32, y = .inl s' → (zBlk mB mP s'.1 a → Z F 9 cX9_fallback RX9 "fallback" (some .int) [] s'.1 17 [(0, .ref a), (1, .int x1), (2, .int s'.2.1), (3, .int s'.2.2)] [])) ∧ ∀ r : (zH × Int32) ⊕ (Int32 × zH), y = .inr r → (match r with | .inl t => (zBlk mB mP t.1 a → Z F 9 cX9_fallback RX9 "fallback" (some .int) [] t.1 158 [(0, .ref a), (1, .int x1), (2, .int t.2)] []) | .inr z => ((.inl (some (.int z.1)), z.2) : zX) = zEnd F))) : Z F 9 cX9_fallback RX9 "fallback" (some .int) [] h 100 [(0, .ref a), (1, .int x1), (2, .int x2), (3, .int x3), (4, .int x4), (5, .int x5)] [] := by
  unfold fX9_fallback_J100 at hf
  refine z_aload_n 0 dX9_fallback_100 rfl rfl ?_
  refine z_getr fdX9_96_7 (Or.inr ⟨_, rfl⟩) (hL.t 0 rfl) (hL.p 28 rfl) dX9_fallback_101 ?_
  refine z_iload_n 2 dX9_fallback_104 rfl rfl ?_
  refine z_iload 5 dX9_fallback_105 rfl ?_
  refine z_if_eq 136 dX9_fallback_107 rfl hf (fun _ hf => ?_) (fun _ hf => ?_)
  · refine z_iload 4 dX9_fallback_136 rfl ?_
    refine z_sub [0, 1, 2, 3, 5] rfl ?_
    exact zX9_fallback_J138 hD hL hf hM
  · refine z_ldc q1712 dX9_fallback_110 ?_
    refine z_iload 4 dX9_fallback_112 rfl ?_
    refine z_ldc q1642 dX9_fallback_114 ?_
    refine z_isub dX9_fallback_116 ?_
    refine z_bipush 10 dX9_fallback_117 rfl ?_
    refine z_ishl dX9_fallback_119 ?_
    refine z_iadd dX9_fallback_120 ?_
    refine z_aload_n 0 dX9_fallback_121 rfl rfl ?_
    refine z_getr fdX9_53_7 (Or.inr ⟨_, rfl⟩) (hL.t 0 rfl) (hL.p 14 rfl) dX9_fallback_122 ?_
    refine z_iload_n 3 dX9_fallback_125 rfl rfl ?_
    refine z_iconst 1 dX9_fallback_126 rfl ?_
    refine z_iadd dX9_fallback_127 ?_
    obtain ⟨hi_8, hf⟩ := zck_some hf
    refine z_iald (hL.t 15 rfl) hi_8 dX9_fallback_128 ?_
    refine z_iadd dX9_fallback_129 ?_
    refine z_ldc q1724 dX9_fallback_130 ?_
    refine z_isub dX9_fallback_132 ?_
    refine z_goto 138 dX9_fallback_133 rfl ?_
    refine z_sub [0, 1, 2, 3, 5] rfl ?_
    exact zX9_fallback_J138 hD hL hf hM
noncomputable def fX9_fallback_J70 (h : zH) (a : Nat) (x1 : Int32) (x2 : Int32) (x3 : Int32) (x4 : Int32) (k0 : Int32) : Option ((zH × Int32 × Int32) ⊕ ((zH × Int32) ⊕ (Int32 × zH))) := if k0 = 0 then (zb1 (fX9_isHigh x4) (fun v_10 => if v_10 = 0 then (zb1 (fX9_isLow x4) (fun v_15 => if v_15 = 0 then (fX9_fallback_J100 h a x1 x2 x3 x4 k0) else (zb2 (fX9_tell h a ((-8))) (fun v_17 h_18 => some (.inr (.inr ((v_17, h_18)))))))) else (zb2 (fX9_tell h a ((-8))) (fun v_12 h_13 => some (.inr (.inr ((v_12, h_13)))))))) else (fX9_fallback_J100 h a x1 x2 x3 x4 k0)
theorem zX9_fallback_J70 {F : zF} {h : zH} {a : Nat} {x1 : Int32} {x2 : Int32} {x3 : Int32} {x4 : Int32} {k0 : Int32} {y : (zH × Int32 × Int32) ⊕ ((zH × Int32) ⊕ (Int32 × zH))} (hD : 53 ≤ F.2.1) (hL : zBlk mB mP h a) (hf : fX9_fallback_J70 h a x1 x2 x3 x4 k0 = some y) (hM : ((∀ s' : zH × Int32 × Int32, y = .inl s' → (zBlk mB mP s'.1 a → Z F 9 cX9_fallback RX9 "fallback" (some .int) [] s'.1 17 [(0, .ref a), (1, .int x1), (2, .int s'.2.1), (3, .int s'.2.2)] [])) ∧ ∀ r : (zH × Int32) ⊕ (Int32 × zH), y = .inr r → (match r with | .inl t => (zBlk mB mP t.1 a → Z F 9 cX9_fallback RX9 "fallback" (some .int) [] t.1 158 [(0, .ref a), (1, .int x1), (2, .int t.2)] []) | .inr z => ((.inl (some (.int z.1)), z.2) : zX) = zEnd F))) : Z F 9 cX9_fallback RX9 "fallback" (some .int) [] h 70 [(0, .ref a), (1, .int x1), (2, .int x2), (3, .int x3), (4, .int x4)] [.int k0] := by
  unfold fX9_fallback_J70 at hf
  refine z_istore dX9_fallback_70 (by decide) (lc' := [(0, .ref a), (1, .int x1), (2, .int x2), (3, .int x3), (4, .int x4), (5, .int k0)]) rfl ?_
  refine z_iload 5 dX9_fallback_72 rfl ?_
  refine z_if_ne 100 dX9_fallback_74 rfl hf (fun _ hf => ?_) (fun _ hf => ?_)
  · exact zX9_fallback_J100 hD hL hf hM
  · refine z_iload 4 dX9_fallback_77 rfl ?_
    obtain ⟨v_10, hc_9, hf⟩ := zb1_some hf
    refine z_invSi ssX9_304 (ctX9_isHigh hc_9) ⟨Nat.le_trans (by decide) hD, by decide⟩ rfl rfl (Nat.le_of_ble_eq_true rfl) dX9_fallback_79 ?_
    refine z_if_ne 93 dX9_fallback_82 rfl hf (fun _ hf => ?_) (fun _ hf => ?_)
    · refine z_aload_n 0 dX9_fallback_93 rfl rfl ?_
      refine z_bipush (-8) dX9_fallback_94 rfl ?_
      obtain ⟨v_12, h_13, hc_11, hf⟩ := zb2_some hf
      have hct := ctX9_tell (l := F.1) hL hc_11
      refine z_invVi svX9_166_7 hct (hL.t 0 rfl) ⟨Nat.le_trans (by decide) hD, by decide⟩ rfl rfl (Nat.le_of_ble_eq_true rfl) dX9_fallback_96 ?_
      have hL := hL.ext mOk hct.1
      cases hf
      exact z_iret dX9_fallback_99 rfl (hM.2 _ rfl)
    · refine z_iload 4 dX9_fallback_85 rfl ?_
      obtain ⟨v_15, hc_14, hf⟩ := zb1_some hf
      refine z_invSi ssX9_301 (ctX9_isLow hc_14) ⟨Nat.le_trans (by decide) hD, by decide⟩ rfl rfl (Nat.le_of_ble_eq_true rfl) dX9_fallback_87 ?_
      refine z_if_eq 100 dX9_fallback_90 rfl hf (fun _ hf => ?_) (fun _ hf => ?_)
      · exact zX9_fallback_J100 hD hL hf hM
      · refine z_aload_n 0 dX9_fallback_93 rfl rfl ?_
        refine z_bipush (-8) dX9_fallback_94 rfl ?_
        obtain ⟨v_17, h_18, hc_16, hf⟩ := zb2_some hf
        have hct := ctX9_tell (l := F.1) hL hc_16
        refine z_invVi svX9_166_7 hct (hL.t 0 rfl) ⟨Nat.le_trans (by decide) hD, by decide⟩ rfl rfl (Nat.le_of_ble_eq_true rfl) dX9_fallback_96 ?_
        have hL := hL.ext mOk hct.1
        cases hf
        exact z_iret dX9_fallback_99 rfl (hM.2 _ rfl)
noncomputable def fX9_fallback_J69 (h : zH) (a : Nat) (x1 : Int32) (x2 : Int32) (x3 : Int32) (x4 : Int32) : Option ((zH × Int32 × Int32) ⊕ ((zH × Int32) ⊕ (Int32 × zH))) := fX9_fallback_J70 h a x1 x2 x3 x4 0
theorem zX9_fallback_J69 {F : zF} {h : zH} {a : Nat} {x1 : Int32} {x2 : Int32} {x3 : Int32} {x4 : Int32} {y : (zH × Int32 × Int32) ⊕ ((zH × Int32) ⊕ (Int32 × zH))} (hD : 53 ≤ F.2.1) (hL : zBlk mB mP h a) (hf : fX9_fallback_J69 h a x1 x2 x3 x4 = some y) (hM : ((∀ s' : zH × Int32 × Int32, y = .inl s' → (zBlk mB mP s'.1 a → Z F 9 cX9_fallback RX9 "fallback" (some .int) [] s'.1 17 [(0, .ref a), (1, .int x1), (2, .int s'.2.1), (3, .int s'.2.2)] [])) ∧ ∀ r : (zH × Int32) ⊕ (Int32 × zH), y = .inr r → (match r with | .inl t => (zBlk mB mP t.1 a → Z F 9 cX9_fallback RX9 "fallback" (some .int) [] t.1 158 [(0, .ref a), (1, .int x1), (2, .int t.2)] []) | .inr z => ((.inl (some (.int z.1)), z.2) : zX) = zEnd F))) : Z F 9 cX9_fallback RX9 "fallback" (some .int) [] h 69 [(0, .ref a), (1, .int x1), (2, .int x2), (3, .int x3), (4, .int x4)] [] := by
  unfold fX9_fallback_J69 at hf
  refine z_iconst 0 dX9_fallback_69 rfl ?_
  exact zX9_fallback_J70 hD hL hf hM
noncomputable def fX9_fallback_L17 (h : zH) (a : Nat) (x1 : Int32) (x2 : Int32) (x3 : Int32) : Option ((zH × Int32 × Int32) ⊕ ((zH × Int32) ⊕ (Int32 × zH))) := if (zI h a 16) ≤ x3 then (some (.inr (.inl ((h, x2))))) else (zck (vp_in x3 1000) (zb1 (fX9_isHigh (zI h (a + 15) x3.toNatClampNeg)) (fun v_5 => if v_5 = 0 then (fX9_fallback_J69 h a x1 x2 x3 (zI h (a + 15) x3.toNatClampNeg)) else (if (zI h a 16) ≤ (x3 + 1) then (fX9_fallback_J69 h a x1 x2 x3 (zI h (a + 15) x3.toNatClampNeg)) else (zck (vp_in (x3 + 1) 1000) (zb1 (fX9_isLow (zI h (a + 15) (x3 + 1).toNatClampNeg)) (fun v_21 => if v_21 = 0 then (fX9_fallback_J69 h a x1 x2 x3 (zI h (a + 15) x3.toNatClampNeg)) else (fX9_fallback_J70 h a x1 x2 x3 (zI h (a + 15) x3.toNatClampNeg) 1))))))))
theorem zX9_fallback_L17 {F : zF} {h : zH} {a : Nat} {x1 : Int32} {x2 : Int32} {x3 : Int32} {y : (zH × Int32 × Int32) ⊕ ((zH × Int32) ⊕ (Int32 × zH))} (hD : 53 ≤ F.2.1) (hL : zBlk mB mP h a) (hf : fX9_fallback_L17 h a x1 x2 x3 = some y) (hM : ((∀ s' : zH × Int32 × Int32, y = .inl s' → (zBlk mB mP s'.1 a → Z F 9 cX9_fallback RX9 "fallback" (some .int) [] s'.1 17 [(0, .ref a), (1, .int x1), (2, .int s'.2.1), (3, .int s'.2.2)] [])) ∧ ∀ r : (zH × Int32) ⊕ (Int32 × zH), y = .inr r → (match r with | .inl t => (zBlk mB mP t.1 a → Z F 9 cX9_fallback RX9 "fallback" (some .int) [] t.1 158 [(0, .ref a), (1, .int x1), (2, .int t.2)] []) | .inr z => ((.inl (some (.int z.1)), z.2) : zX) = zEnd F))) : Z F 9 cX9_fallback RX9 "fallback" (some .int) [] h 17 [(0, .ref a), (1, .int x1), (2, .int x2), (3, .int x3)] [] := by
  unfold fX9_fallback_L17 at hf
  refine z_iload_n 3 dX9_fallback_17 rfl rfl ?_
  refine z_aload_n 0 dX9_fallback_18 rfl rfl ?_
  refine z_geti fdX9_258_7 (hL.t 0 rfl) dX9_fallback_19 ?_
  refine z_icmp_ge 158 dX9_fallback_22 rfl hf (fun _ hf => ?_) (fun _ hf => ?_)
  · cases hf
    refine z_sub [0, 1, 2] rfl ?_
    exact (hM.2 _ rfl) hL
  · refine z_aload_n 0 dX9_fallback_25 rfl rfl ?_
    refine z_getr fdX9_53_7 (Or.inr ⟨_, rfl⟩) (hL.t 0 rfl) (hL.p 14 rfl) dX9_fallback_26 ?_
    refine z_iload_n 3 dX9_fallback_29 rfl rfl ?_
    obtain ⟨hi_3, hf⟩ := zck_some hf
    refine z_iald (hL.t 15 rfl) hi_3 dX9_fallback_30 ?_
    refine z_istore dX9_fallback_31 (by decide) (lc' := [(0, .ref a), (1, .int x1), (2, .int x2), (3, .int x3), (4, .int (zI h (a + 15) x3.toNatClampNeg))]) rfl ?_
    refine z_iload 4 dX9_fallback_33 rfl ?_
    obtain ⟨v_5, hc_4, hf⟩ := zb1_some hf
    refine z_invSi ssX9_304 (ctX9_isHigh hc_4) ⟨Nat.le_trans (by decide) hD, by decide⟩ rfl rfl (Nat.le_of_ble_eq_true rfl) dX9_fallback_35 ?_
    refine z_if_eq 69 dX9_fallback_38 rfl hf (fun _ hf => ?_) (fun _ hf => ?_)
    · exact zX9_fallback_J69 hD hL hf hM
    · refine z_iload_n 3 dX9_fallback_41 rfl rfl ?_
      refine z_iconst 1 dX9_fallback_42 rfl ?_
      refine z_iadd dX9_fallback_43 ?_
      refine z_aload_n 0 dX9_fallback_44 rfl rfl ?_
      refine z_geti fdX9_258_7 (hL.t 0 rfl) dX9_fallback_45 ?_
      refine z_icmp_ge 69 dX9_fallback_48 rfl hf (fun _ hf => ?_) (fun _ hf => ?_)
      · exact zX9_fallback_J69 hD hL hf hM
      · refine z_aload_n 0 dX9_fallback_51 rfl rfl ?_
        refine z_getr fdX9_53_7 (Or.inr ⟨_, rfl⟩) (hL.t 0 rfl) (hL.p 14 rfl) dX9_fallback_52 ?_
        refine z_iload_n 3 dX9_fallback_55 rfl rfl ?_
        refine z_iconst 1 dX9_fallback_56 rfl ?_
        refine z_iadd dX9_fallback_57 ?_
        obtain ⟨hi_19, hf⟩ := zck_some hf
        refine z_iald (hL.t 15 rfl) hi_19 dX9_fallback_58 ?_
        obtain ⟨v_21, hc_20, hf⟩ := zb1_some hf
        refine z_invSi ssX9_301 (ctX9_isLow hc_20) ⟨Nat.le_trans (by decide) hD, by decide⟩ rfl rfl (Nat.le_of_ble_eq_true rfl) dX9_fallback_59 ?_
        refine z_if_eq 69 dX9_fallback_62 rfl hf (fun _ hf => ?_) (fun _ hf => ?_)
        · exact zX9_fallback_J69 hD hL hf hM
        · refine z_iconst 1 dX9_fallback_65 rfl ?_
          refine z_goto 70 dX9_fallback_66 rfl ?_
          exact zX9_fallback_J70 hD hL hf hM
noncomputable def fX9_fallback_L332 (h : zH) (a : Nat) (x1 : Int32) (x2 : Int32) (x4 : Int32) (x5 : Int32) (x6 : Int32) (x7 : Int32) : Option ((zH × Int32) ⊕ (zH)) := if 4 ≤ x7 then (some (.inr h)) else (zck (vp_in (((4 : Int32) * x5) + x7) 160) (zck (vp_in ((10 : Int32) + x7) 1000) (zlet (zsI h (a + 29) ((10 : Int32) + x7).toNatClampNeg (zI h (a + 21) (((4 : Int32) * x5) + x7).toNatClampNeg)) (fun h_28 => some (.inl ((h_28, x7 + 1)))))))
theorem zX9_fallback_L332 {F : zF} {h : zH} {a : Nat} {x1 : Int32} {x2 : Int32} {x4 : Int32} {x5 : Int32} {x6 : Int32} {x7 : Int32} {y : (zH × Int32) ⊕ (zH)} (hD : 53 ≤ F.2.1) (hL : zBlk mB mP h a) (hf : fX9_fallback_L332 h a x1 x2 x4 x5 x6 x7 = some y) (hM : ((∀ s' : zH × Int32, y = .inl s' → (zBlk mB mP s'.1 a → Z F 9 cX9_fallback RX9 "fallback" (some .int) [] s'.1 332 [(0, .ref a), (1, .int x1), (2, .int x2), (4, .int x4), (5, .int x5), (6, .int x6), (7, .int s'.2)] [])) ∧ ∀ r : zH, y = .inr r → (zBlk mB mP r a → Z F 9 cX9_fallback RX9 "fallback" (some .int) [] r 366 [(0, .ref a), (1, .int x1), (2, .int x2), (4, .int x4), (5, .int x5), (6, .int x6)] []))) : Z F 9 cX9_fallback RX9 "fallback" (some .int) [] h 332 [(0, .ref a), (1, .int x1), (2, .int x2), (4, .int x4), (5, .int x5), (6, .int x6), (7, .int x7)] [] := by
  unfold fX9_fallback_L332 at hf
  refine z_iload 6 dX9_fallback_332 rfl ?_
  refine z_iconst 4 dX9_fallback_334 rfl ?_
  refine z_icmp_ge 366 dX9_fallback_335 rfl hf (fun _ hf => ?_) (fun _ hf => ?_)
  · cases hf
    refine z_sub [0, 1, 2, 3, 4, 5] rfl ?_
    exact (hM.2 _ rfl) hL
  · refine z_aload_n 0 dX9_fallback_338 rfl rfl ?_
    refine z_getr fdX9_96_7 (Or.inr ⟨_, rfl⟩) (hL.t 0 rfl) (hL.p 28 rfl) dX9_fallback_339 ?_
    refine z_bipush 10 dX9_fallback_342 rfl ?_
    refine z_iload 6 dX9_fallback_344 rfl ?_
    refine z_iadd dX9_fallback_346 ?_
    refine z_aload_n 0 dX9_fallback_347 rfl rfl ?_
    refine z_getr fdX9_72_7 (Or.inr ⟨_, rfl⟩) (hL.t 0 rfl) (hL.p 20 rfl) dX9_fallback_348 ?_
    refine z_iconst 4 dX9_fallback_351 rfl ?_
    refine z_iload 4 dX9_fallback_352 rfl ?_
    refine z_imul dX9_fallback_354 ?_
    refine z_iload 6 dX9_fallback_355 rfl ?_
    refine z_iadd dX9_fallback_357 ?_
    obtain ⟨hi_26, hf⟩ := zck_some hf
    refine z_iald (hL.t 21 rfl) hi_26 dX9_fallback_358 ?_
    obtain ⟨hi_27, hf⟩ := zck_some hf
    obtain ⟨h_28, he, hf⟩ := zlet_some hf
    refine z_iast (hL.t 29 rfl) (hL.nz 29) hi_27 he dX9_fallback_359 ?_
    have hL := hL.I he
    refine z_iinc 6 (x7 + 1) dX9_fallback_360 rfl rfl (by decide) (lc' := [(0, .ref a), (1, .int x1), (2, .int x2), (4, .int x4), (5, .int x5), (6, .int x6), (7, .int (x7 + 1))]) rfl ?_
    refine z_goto 332 dX9_fallback_363 rfl ?_
    cases hf
    exact (hM.1 _ rfl) hL
noncomputable def fX9_fallback_L400 (h : zH) (a : Nat) (x2 : Int32) (x4 : Int32) (x5 : Int32) (x6 : Int32) (x7 : Int32) : Option ((zH × Int32) ⊕ (zH)) := if x2 ≤ x7 then (some (.inr h)) else (zck (vp_in x7 1000) (zck (vp_in (((4 : Int32) * x5) + x7) 160) (zlet (zsI h (a + 21) (((4 : Int32) * x5) + x7).toNatClampNeg (zI h (a + 29) x7.toNatClampNeg)) (fun h_36 => some (.inl ((h_36, x7 + 1)))))))
theorem zX9_fallback_L400 {F : zF} {h : zH} {a : Nat} {x2 : Int32} {x4 : Int32} {x5 : Int32} {x6 : Int32} {x7 : Int32} {y : (zH × Int32) ⊕ (zH)} (hD : 53 ≤ F.2.1) (hL : zBlk mB mP h a) (hf : fX9_fallback_L400 h a x2 x4 x5 x6 x7 = some y) (hM : ((∀ s' : zH × Int32, y = .inl s' → (zBlk mB mP s'.1 a → Z F 9 cX9_fallback RX9 "fallback" (some .int) [] s'.1 400 [(0, .ref a), (2, .int x2), (4, .int x4), (5, .int x5), (6, .int x6), (7, .int s'.2)] [])) ∧ ∀ r : zH, y = .inr r → (zBlk mB mP r a → Z F 9 cX9_fallback RX9 "fallback" (some .int) [] r 431 [(0, .ref a), (4, .int x4), (5, .int x5), (6, .int x6)] []))) : Z F 9 cX9_fallback RX9 "fallback" (some .int) [] h 400 [(0, .ref a), (2, .int x2), (4, .int x4), (5, .int x5), (6, .int x6), (7, .int x7)] [] := by
  unfold fX9_fallback_L400 at hf
  refine z_iload 5 dX9_fallback_400 rfl ?_
  refine z_iload_n 1 dX9_fallback_402 rfl rfl ?_
  refine z_icmp_ge 431 dX9_fallback_403 rfl hf (fun _ hf => ?_) (fun _ hf => ?_)
  · cases hf
    refine z_sub [0, 2, 3, 4] rfl ?_
    exact (hM.2 _ rfl) hL
  · refine z_aload_n 0 dX9_fallback_406 rfl rfl ?_
    refine z_getr fdX9_72_7 (Or.inr ⟨_, rfl⟩) (hL.t 0 rfl) (hL.p 20 rfl) dX9_fallback_407 ?_
    refine z_iconst 4 dX9_fallback_410 rfl ?_
    refine z_iload 3 dX9_fallback_411 rfl ?_
    refine z_imul dX9_fallback_413 ?_
    refine z_iload 5 dX9_fallback_414 rfl ?_
    refine z_iadd dX9_fallback_416 ?_
    refine z_aload_n 0 dX9_fallback_417 rfl rfl ?_
    refine z_getr fdX9_96_7 (Or.inr ⟨_, rfl⟩) (hL.t 0 rfl) (hL.p 28 rfl) dX9_fallback_418 ?_
    refine z_iload 5 dX9_fallback_421 rfl ?_
    obtain ⟨hi_34, hf⟩ := zck_some hf
    refine z_iald (hL.t 29 rfl) hi_34 dX9_fallback_423 ?_
    obtain ⟨hi_35, hf⟩ := zck_some hf
    obtain ⟨h_36, he, hf⟩ := zlet_some hf
    refine z_iast (hL.t 21 rfl) (hL.nz 21) hi_35 he dX9_fallback_424 ?_
    have hL := hL.I he
    refine z_iinc 5 (x7 + 1) dX9_fallback_425 rfl rfl (by decide) (lc' := [(0, .ref a), (2, .int x2), (4, .int x4), (5, .int x5), (6, .int x6), (7, .int (x7 + 1))]) rfl ?_
    refine z_goto 400 dX9_fallback_428 rfl ?_
    cases hf
    exact (hM.1 _ rfl) hL
theorem svX9_385_7 : zIv RX9 385 yX9_comesBack (ws_ yX9_comesBack cX9_comesBack 6 (some .boolean)) 6 7 1 := ⟨zGood_c q1856 q109, ⟨_, _, rfl, rfl, qs84⟩, Or.inl q1853, q1855, ⟨by decide, by decide⟩, by decide +kernel⟩
noncomputable def fX9_fallback_L437 (h : zH) (a : Nat) (x4 : Int32) (x5 : Int32) (x6 : Int32) (x7 : Int32) (x8 : Int32) : Option ((zH × Int32 × Int32) ⊕ (zH × Int32)) := if (zI h a 25) ≤ x8 then (some (.inr ((h, x7)))) else (if x7 = 0 then (zb2 (fX9_comesBack h a x8) (fun v_39 h_40 => if v_39 = 0 then (some (.inl ((h_40, 0, x8 + 1)))) else (some (.inl ((h_40, (-11), x8 + 1)))))) else (some (.inr ((h, x7)))))
theorem zX9_fallback_L437 {F : zF} {h : zH} {a : Nat} {x4 : Int32} {x5 : Int32} {x6 : Int32} {x7 : Int32} {x8 : Int32} {y : (zH × Int32 × Int32) ⊕ (zH × Int32)} (hD : 53 ≤ F.2.1) (hL : zBlk mB mP h a) (hf : fX9_fallback_L437 h a x4 x5 x6 x7 x8 = some y) (hM : ((∀ s' : zH × Int32 × Int32, y = .inl s' → (zBlk mB mP s'.1 a → Z F 9 cX9_fallback RX9 "fallback" (some .int) [] s'.1 437 [(0, .ref a), (4, .int x4), (5, .int x5), (6, .int x6), (7, .int s'.2.1), (8, .int s'.2.2)] [])) ∧ ∀ r : zH × Int32, y = .inr r → (zBlk mB mP r.1 a → Z F 9 cX9_fallback RX9 "fallback" (some .int) [] r.1 474 [(0, .ref a), (4, .int x4), (5, .int x5), (6, .int x6), (7, .int r.2)] []))) : Z F 9 cX9_fallback RX9 "fallback" (some .int) [] h 437 [(0, .ref a), (4, .int x4), (5, .int x5), (6, .int x6), (7, .int x7), (8, .int x8)] [] := by
  unfold fX9_fallback_L437 at hf
  refine z_iload 5 dX9_fallback_437 rfl ?_
  refine z_aload_n 0 dX9_fallback_439 rfl rfl ?_
  refine z_geti fdX9_345_7 (hL.t 0 rfl) dX9_fallback_440 ?_
  refine z_icmp_ge 474 dX9_fallback_443 rfl hf (fun _ hf => ?_) (fun _ hf => ?_)
  · cases hf
    refine z_sub [0, 1, 2, 3, 4] rfl ?_
    exact (hM.2 _ rfl) hL
  · refine z_iload 4 dX9_fallback_446 rfl ?_
    refine z_if_ne 474 dX9_fallback_448 rfl hf (fun _ hf => ?_) (fun _ hf => ?_)
    · cases hf
      refine z_sub [0, 1, 2, 3, 4] rfl ?_
      exact (hM.2 _ rfl) hL
    · refine z_aload_n 0 dX9_fallback_451 rfl rfl ?_
      refine z_iload 5 dX9_fallback_452 rfl ?_
      obtain ⟨v_39, h_40, hc_38, hf⟩ := zb2_some hf
      have hct := ctX9_comesBack (l := F.1) hL hc_38
      refine z_invVi svX9_385_7 hct (hL.t 0 rfl) ⟨Nat.le_trans (by decide) hD, by decide⟩ rfl rfl (Nat.le_of_ble_eq_true rfl) dX9_fallback_454 ?_
      have hL := hL.ext mOk hct.1
      refine z_if_eq 465 dX9_fallback_457 rfl hf (fun _ hf => ?_) (fun _ hf => ?_)
      · refine z_iconst 0 dX9_fallback_465 rfl ?_
        refine z_istore dX9_fallback_466 (by decide) (lc' := [(0, .ref a), (4, .int x4), (5, .int x5), (6, .int x6), (7, .int 0), (8, .int x8)]) rfl ?_
        refine z_iinc 5 (x8 + 1) dX9_fallback_468 rfl rfl (by decide) (lc' := [(0, .ref a), (4, .int x4), (5, .int x5), (6, .int x6), (7, .int 0), (8, .int (x8 + 1))]) rfl ?_
        refine z_goto 437 dX9_fallback_471 rfl ?_
        cases hf
        exact (hM.1 _ rfl) hL
      · refine z_bipush (-11) dX9_fallback_460 rfl ?_
        refine z_goto 466 dX9_fallback_462 rfl ?_
        refine z_istore dX9_fallback_466 (by decide) (lc' := [(0, .ref a), (4, .int x4), (5, .int x5), (6, .int x6), (7, .int ((-11))), (8, .int x8)]) rfl ?_
        refine z_iinc 5 (x8 + 1) dX9_fallback_468 rfl rfl (by decide) (lc' := [(0, .ref a), (4, .int x4), (5, .int x5), (6, .int x6), (7, .int ((-11))), (8, .int (x8 + 1))]) rfl ?_
        refine z_goto 437 dX9_fallback_471 rfl ?_
        cases hf
        exact (hM.1 _ rfl) hL
theorem fdX9_102_7 : zFd RX9 102 7 51 (.array .int) true := ⟨_, _, _, rfl, rfl, by decide, rfl, rfl, Or.inl q1443, Or.inl rfl⟩
noncomputable def fX9_fallback_L477 (h : zH) (a : Nat) (x4 : Int32) (x5 : Int32) (x6 : Int32) (x7 : Int32) (x8 : Int32) : Option ((zH × Int32) ⊕ (zH)) := if (zI h a 25) ≤ x8 then (some (.inr h)) else (zck (vp_in x8 40) (zlet (zsI h (a + 31) x8.toNatClampNeg 0) (fun h_43 => some (.inl ((h_43, x8 + 1))))))
theorem zX9_fallback_L477 {F : zF} {h : zH} {a : Nat} {x4 : Int32} {x5 : Int32} {x6 : Int32} {x7 : Int32} {x8 : Int32} {y : (zH × Int32) ⊕ (zH)} (hD : 53 ≤ F.2.1) (hL : zBlk mB mP h a) (hf : fX9_fallback_L477 h a x4 x5 x6 x7 x8 = some y) (hM : ((∀ s' : zH × Int32, y = .inl s' → (zBlk mB mP s'.1 a → Z F 9 cX9_fallback RX9 "fallback" (some .int) [] s'.1 477 [(0, .ref a), (4, .int x4), (5, .int x5), (6, .int x6), (7, .int x7), (8, .int s'.2)] [])) ∧ ∀ r : zH, y = .inr r → (zBlk mB mP r a → Z F 9 cX9_fallback RX9 "fallback" (some .int) [] r 500 [(0, .ref a), (4, .int x4), (5, .int x5), (6, .int x6), (7, .int x7)] []))) : Z F 9 cX9_fallback RX9 "fallback" (some .int) [] h 477 [(0, .ref a), (4, .int x4), (5, .int x5), (6, .int x6), (7, .int x7), (8, .int x8)] [] := by
  unfold fX9_fallback_L477 at hf
  refine z_iload 5 dX9_fallback_477 rfl ?_
  refine z_aload_n 0 dX9_fallback_479 rfl rfl ?_
  refine z_geti fdX9_345_7 (hL.t 0 rfl) dX9_fallback_480 ?_
  refine z_icmp_ge 500 dX9_fallback_483 rfl hf (fun _ hf => ?_) (fun _ hf => ?_)
  · cases hf
    refine z_sub [0, 1, 2, 3, 4] rfl ?_
    exact (hM.2 _ rfl) hL
  · refine z_aload_n 0 dX9_fallback_486 rfl rfl ?_
    refine z_getr fdX9_102_7 (Or.inr ⟨_, rfl⟩) (hL.t 0 rfl) (hL.p 30 rfl) dX9_fallback_487 ?_
    refine z_iload 5 dX9_fallback_490 rfl ?_
    refine z_iconst 0 dX9_fallback_492 rfl ?_
    obtain ⟨hi_42, hf⟩ := zck_some hf
    obtain ⟨h_43, he, hf⟩ := zlet_some hf
    refine z_iast (hL.t 31 rfl) (hL.nz 31) hi_42 he dX9_fallback_493 ?_
    have hL := hL.I he
    refine z_iinc 5 (x8 + 1) dX9_fallback_494 rfl rfl (by decide) (lc' := [(0, .ref a), (4, .int x4), (5, .int x5), (6, .int x6), (7, .int x7), (8, .int (x8 + 1))]) rfl ?_
    refine z_goto 477 dX9_fallback_497 rfl ?_
    cases hf
    exact (hM.1 _ rfl) hL
noncomputable def fX9_fallback_L503 (h : zH) (a : Nat) (x4 : Int32) (x5 : Int32) (x6 : Int32) (x7 : Int32) (x8 : Int32) : Option ((zH × Int32 × Int32) ⊕ (zH × Int32)) := if (zI h a 25) ≤ x8 then (some (.inr ((h, x7)))) else (if x7 = 0 then (zb2 (fX9_length 50 h a x8 (a + 31)) (fun v_46 h_47 => if v_46 ≤ 16 then (some (.inl ((h_47, 0, x8 + 1)))) else (some (.inl ((h_47, (-12), x8 + 1)))))) else (some (.inr ((h, x7)))))
theorem zX9_fallback_L503 {F : zF} {h : zH} {a : Nat} {x4 : Int32} {x5 : Int32} {x6 : Int32} {x7 : Int32} {x8 : Int32} {y : (zH × Int32 × Int32) ⊕ (zH × Int32)} (hD : 53 ≤ F.2.1) (hL : zBlk mB mP h a) (hf : fX9_fallback_L503 h a x4 x5 x6 x7 x8 = some y) (hM : ((∀ s' : zH × Int32 × Int32, y = .inl s' → (zBlk mB mP s'.1 a → Z F 9 cX9_fallback RX9 "fallback" (some .int) [] s'.1 503 [(0, .ref a), (4, .int x4), (5, .int x5), (6, .int x6), (7, .int s'.2.1), (8, .int s'.2.2)] [])) ∧ ∀ r : zH × Int32, y = .inr r → (zBlk mB mP r.1 a → Z F 9 cX9_fallback RX9 "fallback" (some .int) [] r.1 546 [(0, .ref a), (4, .int x4), (5, .int x5), (6, .int x6), (7, .int r.2)] []))) : Z F 9 cX9_fallback RX9 "fallback" (some .int) [] h 503 [(0, .ref a), (4, .int x4), (5, .int x5), (6, .int x6), (7, .int x7), (8, .int x8)] [] := by
  unfold fX9_fallback_L503 at hf
  refine z_iload 5 dX9_fallback_503 rfl ?_
  refine z_aload_n 0 dX9_fallback_505 rfl rfl ?_
  refine z_geti fdX9_345_7 (hL.t 0 rfl) dX9_fallback_506 ?_
  refine z_icmp_ge 546 dX9_fallback_509 rfl hf (fun _ hf => ?_) (fun _ hf => ?_)
  · cases hf
    refine z_sub [0, 1, 2, 3, 4] rfl ?_
    exact (hM.2 _ rfl) hL
  · refine z_iload 4 dX9_fallback_512 rfl ?_
    refine z_if_ne 546 dX9_fallback_514 rfl hf (fun _ hf => ?_) (fun _ hf => ?_)
    · cases hf
      refine z_sub [0, 1, 2, 3, 4] rfl ?_
      exact (hM.2 _ rfl) hL
    · refine z_aload_n 0 dX9_fallback_517 rfl rfl ?_
      refine z_iload 5 dX9_fallback_518 rfl ?_
      refine z_aload_n 0 dX9_fallback_520 rfl rfl ?_
      refine z_getr fdX9_102_7 (Or.inr ⟨_, rfl⟩) (hL.t 0 rfl) (hL.p 30 rfl) dX9_fallback_521 ?_
      obtain ⟨v_46, h_47, hc_45, hf⟩ := zb2_some hf
      have hct := ctX9_length 50 (l := F.1) hL hc_45
      refine z_invVi svX9_381_7 hct (hL.t 0 rfl) ⟨Nat.le_trans (by decide) hD, by decide⟩ rfl rfl (Nat.le_of_ble_eq_true rfl) dX9_fallback_524 ?_
      have hL := hL.ext mOk hct.1
      refine z_bipush 16 dX9_fallback_527 rfl ?_
      refine z_icmp_le 537 dX9_fallback_529 rfl hf (fun _ hf => ?_) (fun _ hf => ?_)
      · refine z_iconst 0 dX9_fallback_537 rfl ?_
        refine z_istore dX9_fallback_538 (by decide) (lc' := [(0, .ref a), (4, .int x4), (5, .int x5), (6, .int x6), (7, .int 0), (8, .int x8)]) rfl ?_
        refine z_iinc 5 (x8 + 1) dX9_fallback_540 rfl rfl (by decide) (lc' := [(0, .ref a), (4, .int x4), (5, .int x5), (6, .int x6), (7, .int 0), (8, .int (x8 + 1))]) rfl ?_
        refine z_goto 503 dX9_fallback_543 rfl ?_
        cases hf
        exact (hM.1 _ rfl) hL
      · refine z_bipush (-12) dX9_fallback_532 rfl ?_
        refine z_goto 538 dX9_fallback_534 rfl ?_
        refine z_istore dX9_fallback_538 (by decide) (lc' := [(0, .ref a), (4, .int x4), (5, .int x5), (6, .int x6), (7, .int ((-12))), (8, .int x8)]) rfl ?_
        refine z_iinc 5 (x8 + 1) dX9_fallback_540 rfl rfl (by decide) (lc' := [(0, .ref a), (4, .int x4), (5, .int x5), (6, .int x6), (7, .int ((-12))), (8, .int (x8 + 1))]) rfl ?_
        refine z_goto 503 dX9_fallback_543 rfl ?_
        cases hf
        exact (hM.1 _ rfl) hL
noncomputable def fX9_fallback_L578 (h : zH) (a : Nat) (x5 : Int32) (x7 : Int32) (x8 : Int32) : Option ((zH × Int32) ⊕ ((Int32 × zH))) := if 4 ≤ x8 then (zb2 (fX9_tell h a x7) (fun v_53 h_54 => some (.inr ((v_53, h_54))))) else (zck (vp_in ((10 : Int32) + x8) 1000) (zck (vp_in (((4 : Int32) * x5) + x8) 160) (zlet (zsI h (a + 21) (((4 : Int32) * x5) + x8).toNatClampNeg (zI h (a + 29) ((10 : Int32) + x8).toNatClampNeg)) (fun h_57 => some (.inl ((h_57, x8 + 1)))))))
theorem zX9_fallback_L578 {F : zF} {h : zH} {a : Nat} {x5 : Int32} {x7 : Int32} {x8 : Int32} {y : (zH × Int32) ⊕ ((Int32 × zH))} (hD : 53 ≤ F.2.1) (hL : zBlk mB mP h a) (hf : fX9_fallback_L578 h a x5 x7 x8 = some y) (hM : ((∀ s' : zH × Int32, y = .inl s' → (zBlk mB mP s'.1 a → Z F 9 cX9_fallback RX9 "fallback" (some .int) [] s'.1 578 [(0, .ref a), (5, .int x5), (7, .int x7), (8, .int s'.2)] [])) ∧ ∀ r : (Int32 × zH), y = .inr r → ((.inl (some (.int r.1)), r.2) : zX) = zEnd F)) : Z F 9 cX9_fallback RX9 "fallback" (some .int) [] h 578 [(0, .ref a), (5, .int x5), (7, .int x7), (8, .int x8)] [] := by
  unfold fX9_fallback_L578 at hf
  refine z_iload 3 dX9_fallback_578 rfl ?_
  refine z_iconst 4 dX9_fallback_580 rfl ?_
  refine z_icmp_ge 612 dX9_fallback_581 rfl hf (fun _ hf => ?_) (fun _ hf => ?_)
  · refine z_aload_n 0 dX9_fallback_612 rfl rfl ?_
    refine z_iload 2 dX9_fallback_613 rfl ?_
    obtain ⟨v_53, h_54, hc_52, hf⟩ := zb2_some hf
    have hct := ctX9_tell (l := F.1) hL hc_52
    refine z_invVi svX9_166_7 hct (hL.t 0 rfl) ⟨Nat.le_trans (by decide) hD, by decide⟩ rfl rfl (Nat.le_of_ble_eq_true rfl) dX9_fallback_615 ?_
    have hL := hL.ext mOk hct.1
    cases hf
    exact z_iret dX9_fallback_618 rfl (hM.2 _ rfl)
  · refine z_aload_n 0 dX9_fallback_584 rfl rfl ?_
    refine z_getr fdX9_72_7 (Or.inr ⟨_, rfl⟩) (hL.t 0 rfl) (hL.p 20 rfl) dX9_fallback_585 ?_
    refine z_iconst 4 dX9_fallback_588 rfl ?_
    refine z_iload 1 dX9_fallback_589 rfl ?_
    refine z_imul dX9_fallback_591 ?_
    refine z_iload 3 dX9_fallback_592 rfl ?_
    refine z_iadd dX9_fallback_594 ?_
    refine z_aload_n 0 dX9_fallback_595 rfl rfl ?_
    refine z_getr fdX9_96_7 (Or.inr ⟨_, rfl⟩) (hL.t 0 rfl) (hL.p 28 rfl) dX9_fallback_596 ?_
    refine z_bipush 10 dX9_fallback_599 rfl ?_
    refine z_iload 3 dX9_fallback_601 rfl ?_
    refine z_iadd dX9_fallback_603 ?_
    obtain ⟨hi_55, hf⟩ := zck_some hf
    refine z_iald (hL.t 29 rfl) hi_55 dX9_fallback_604 ?_
    obtain ⟨hi_56, hf⟩ := zck_some hf
    obtain ⟨h_57, he, hf⟩ := zlet_some hf
    refine z_iast (hL.t 21 rfl) (hL.nz 21) hi_56 he dX9_fallback_605 ?_
    have hL := hL.I he
    refine z_iinc 3 (x8 + 1) dX9_fallback_606 rfl rfl (by decide) (lc' := [(0, .ref a), (5, .int x5), (7, .int x7), (8, .int (x8 + 1))]) rfl ?_
    refine z_goto 578 dX9_fallback_609 rfl ?_
    cases hf
    exact (hM.1 _ rfl) hL
noncomputable def fX9_fallback_J566 (h : zH) (a : Nat) (x5 : Int32) (x6 : Int32) (x7 : Int32) : Option (Int32 × zH) := zck (vp_in x5 40) (zlet (zsI h (a + 20) x5.toNatClampNeg x6) (fun h_51 => zlp (fun s => fX9_fallback_L578 s.1 a x5 x7 s.2) (h_51, 0)))
theorem zX9_fallback_J566 {F : zF} {h : zH} {a : Nat} {x5 : Int32} {x6 : Int32} {x7 : Int32} {y : Int32 × zH} (hD : 53 ≤ F.2.1) (hL : zBlk mB mP h a) (hf : fX9_fallback_J566 h a x5 x6 x7 = some y) (hM : ((.inl (some (.int y.1)), y.2) : zX) = zEnd F) : Z F 9 cX9_fallback RX9 "fallback" (some .int) [] h 566 [(0, .ref a), (5, .int x5), (6, .int x6), (7, .int x7)] [] := by
  unfold fX9_fallback_J566 at hf
  refine z_aload_n 0 dX9_fallback_566 rfl rfl ?_
  refine z_getr fdX9_69_7 (Or.inr ⟨_, rfl⟩) (hL.t 0 rfl) (hL.p 19 rfl) dX9_fallback_567 ?_
  refine z_iload 1 dX9_fallback_570 rfl ?_
  refine z_iload 2 dX9_fallback_572 rfl ?_
  obtain ⟨hi_50, hf⟩ := zck_some hf
  obtain ⟨h_51, he, hf⟩ := zlet_some hf
  refine z_iast (hL.t 20 rfl) (hL.nz 20) hi_50 he dX9_fallback_574 ?_
  have hL := hL.I he
  refine z_iconst 0 dX9_fallback_575 rfl ?_
  refine z_istore dX9_fallback_576 (by decide) (lc' := [(0, .ref a), (5, .int x5), (6, .int x6), (7, .int x7), (8, .int 0)]) rfl ?_
  refine z_sub [0, 1, 3, 4] rfl ?_
  exact z_loop (fun (s : zH × Int32) => (zBlk mB mP s.1 a → Z F 9 cX9_fallback RX9 "fallback" (some .int) [] s.1 578 [(0, .ref a), (5, .int x5), (7, .int x7), (8, .int s.2)] [])) (fun (r : (Int32 × zH)) => ((.inl (some (.int r.1)), r.2) : zX) = zEnd F) (fun s y hb hs hr hL => zX9_fallback_L578 hD hL hb ⟨hs, hr⟩) hf hM hL
noncomputable def fX9_fallback_J546 (h : zH) (a : Nat) (x4 : Int32) (x5 : Int32) (x6 : Int32) (x7 : Int32) : Option (Int32 × zH) := if x7 = 0 then (zlet (zsI h a 16 0) (fun h_49 => some ((zI h_49 a 25, h_49)))) else (if 0 ≤ x4 then (fX9_fallback_J566 h a x5 x6 x7) else (zlet (zsI h a 25 ((zI h a 25) - 1)) (fun h_58 => fX9_fallback_J566 h_58 a x5 x6 x7)))
theorem zX9_fallback_J546 {F : zF} {h : zH} {a : Nat} {x4 : Int32} {x5 : Int32} {x6 : Int32} {x7 : Int32} {y : Int32 × zH} (hD : 53 ≤ F.2.1) (hL : zBlk mB mP h a) (hf : fX9_fallback_J546 h a x4 x5 x6 x7 = some y) (hM : ((.inl (some (.int y.1)), y.2) : zX) = zEnd F) : Z F 9 cX9_fallback RX9 "fallback" (some .int) [] h 546 [(0, .ref a), (4, .int x4), (5, .int x5), (6, .int x6), (7, .int x7)] [] := by
  unfold fX9_fallback_J546 at hf
  refine z_iload 4 dX9_fallback_546 rfl ?_
  refine z_if_eq 619 dX9_fallback_548 rfl hf (fun _ hf => ?_) (fun _ hf => ?_)
  · refine z_aload_n 0 dX9_fallback_619 rfl rfl ?_
    refine z_iconst 0 dX9_fallback_620 rfl ?_
    obtain ⟨h_49, he, hf⟩ := zlet_some hf
    refine z_puti fdX9_258_7 (hL.t 0 rfl) (hL.nz 0) he dX9_fallback_621 ?_
    have hL := hL.I he
    refine z_aload_n 0 dX9_fallback_624 rfl rfl ?_
    refine z_geti fdX9_345_7 (hL.t 0 rfl) dX9_fallback_625 ?_
    cases hf
    exact z_iret dX9_fallback_628 rfl hM
  · refine z_iload 1 dX9_fallback_551 rfl ?_
    refine z_if_ge 566 dX9_fallback_553 rfl hf (fun _ hf => ?_) (fun _ hf => ?_)
    · refine z_sub [0, 2, 3, 4] rfl ?_
      exact zX9_fallback_J566 hD hL hf hM
    · refine z_aload_n 0 dX9_fallback_556 rfl rfl ?_
      refine z_dup dX9_fallback_557 rfl ?_
      refine z_geti fdX9_345_7 (hL.t 0 rfl) dX9_fallback_558 ?_
      refine z_iconst 1 dX9_fallback_561 rfl ?_
      refine z_isub dX9_fallback_562 ?_
      obtain ⟨h_58, he, hf⟩ := zlet_some hf
      refine z_puti fdX9_345_7 (hL.t 0 rfl) (hL.nz 0) he dX9_fallback_563 ?_
      have hL := hL.I he
      refine z_sub [0, 2, 3, 4] rfl ?_
      exact zX9_fallback_J566 hD hL hf hM
noncomputable def fX9_fallback_J474 (h : zH) (a : Nat) (x4 : Int32) (x5 : Int32) (x6 : Int32) (x7 : Int32) : Option (Int32 × zH) := zb1 (zlp (fun s => fX9_fallback_L477 s.1 a x4 x5 x6 x7 s.2) (h, 0)) (fun t_44 => zb1 (zlp (fun s => fX9_fallback_L503 s.1 a x4 x5 x6 s.2.1 s.2.2) (t_44, x7, 0)) (fun t_48 => fX9_fallback_J546 t_48.1 a x4 x5 x6 t_48.2))
theorem zX9_fallback_J474 {F : zF} {h : zH} {a : Nat} {x4 : Int32} {x5 : Int32} {x6 : Int32} {x7 : Int32} {y : Int32 × zH} (hD : 53 ≤ F.2.1) (hL : zBlk mB mP h a) (hf : fX9_fallback_J474 h a x4 x5 x6 x7 = some y) (hM : ((.inl (some (.int y.1)), y.2) : zX) = zEnd F) : Z F 9 cX9_fallback RX9 "fallback" (some .int) [] h 474 [(0, .ref a), (4, .int x4), (5, .int x5), (6, .int x6), (7, .int x7)] [] := by
  unfold fX9_fallback_J474 at hf
  refine z_iconst 0 dX9_fallback_474 rfl ?_
  refine z_istore dX9_fallback_475 (by decide) (lc' := [(0, .ref a), (4, .int x4), (5, .int x5), (6, .int x6), (7, .int x7), (8, .int 0)]) rfl ?_
  obtain ⟨t_44, hl, hf⟩ := zb1_some hf
  refine z_loop (fun (s : zH × Int32) => (zBlk mB mP s.1 a → Z F 9 cX9_fallback RX9 "fallback" (some .int) [] s.1 477 [(0, .ref a), (4, .int x4), (5, .int x5), (6, .int x6), (7, .int x7), (8, .int s.2)] [])) (fun (r : zH) => (zBlk mB mP r a → Z F 9 cX9_fallback RX9 "fallback" (some .int) [] r 500 [(0, .ref a), (4, .int x4), (5, .int x5), (6, .int x6), (7, .int x7)] [])) (fun s y hb hs hr hL => zX9_fallback_L477 hD hL hb ⟨hs, hr⟩) hl ?_ hL
  intro hL
  show Z F 9 cX9_fallback RX9 "fallback" (some .int) [] t_44 500 [(0, .ref a), (4, .int x4), (5, .int x5), (6, .int x6), (7, .int x7)] []
  refine z_iconst 0 dX9_fallback_500 rfl ?_
  refine z_istore dX9_fallback_501 (by decide) (lc' := [(0, .ref a), (4, .int x4), (5, .int x5), (6, .int x6), (7, .int x7), (8, .int 0)]) rfl ?_
  obtain ⟨t_48, hl, hf⟩ := zb1_some hf
  refine z_loop (fun (s : zH × Int32 × Int32) => (zBlk mB mP s.1 a → Z F 9 cX9_fallback RX9 "fallback" (some .int) [] s.1 503 [(0, .ref a), (4, .int x4), (5, .int x5), (6, .int x6), (7, .int s.2.1), (8, .int s.2.2)] [])) (fun (r : zH × Int32) => (zBlk mB mP r.1 a → Z F 9 cX9_fallback RX9 "fallback" (some .int) [] r.1 546 [(0, .ref a), (4, .int x4), (5, .int x5), (6, .int x6), (7, .int r.2)] [])) (fun s y hb hs hr hL => zX9_fallback_L503 hD hL hb ⟨hs, hr⟩) hl ?_ hL
  intro hL
  show Z F 9 cX9_fallback RX9 "fallback" (some .int) [] t_48.1 546 [(0, .ref a), (4, .int x4), (5, .int x5), (6, .int x6), (7, .int t_48.2)] []
  exact zX9_fallback_J546 hD hL hf hM
noncomputable def fX9_fallback_J381 (h : zH) (a : Nat) (x1 : Int32) (x2 : Int32) (x4 : Int32) (x5 : Int32) (x6 : Int32) : Option (Int32 × zH) := zck (vp_in x5 40) (zlet (zsI h (a + 19) x5.toNatClampNeg x1) (fun h_31 => zck (vp_in x5 40) (zlet (zsI h_31 (a + 20) x5.toNatClampNeg x2) (fun h_33 => zb1 (zlp (fun s => fX9_fallback_L400 s.1 a x2 x4 x5 x6 s.2) (h_33, 0)) (fun t_37 => zb1 (zlp (fun s => fX9_fallback_L437 s.1 a x4 x5 x6 s.2.1 s.2.2) (t_37, 0, 0)) (fun t_41 => fX9_fallback_J474 t_41.1 a x4 x5 x6 t_41.2))))))
theorem zX9_fallback_J381 {F : zF} {h : zH} {a : Nat} {x1 : Int32} {x2 : Int32} {x4 : Int32} {x5 : Int32} {x6 : Int32} {y : Int32 × zH} (hD : 53 ≤ F.2.1) (hL : zBlk mB mP h a) (hf : fX9_fallback_J381 h a x1 x2 x4 x5 x6 = some y) (hM : ((.inl (some (.int y.1)), y.2) : zX) = zEnd F) : Z F 9 cX9_fallback RX9 "fallback" (some .int) [] h 381 [(0, .ref a), (1, .int x1), (2, .int x2), (4, .int x4), (5, .int x5), (6, .int x6)] [] := by
  unfold fX9_fallback_J381 at hf
  refine z_aload_n 0 dX9_fallback_381 rfl rfl ?_
  refine z_getr fdX9_66_7 (Or.inr ⟨_, rfl⟩) (hL.t 0 rfl) (hL.p 18 rfl) dX9_fallback_382 ?_
  refine z_iload 4 dX9_fallback_385 rfl ?_
  refine z_iload_n 1 dX9_fallback_387 rfl rfl ?_
  obtain ⟨hi_30, hf⟩ := zck_some hf
  obtain ⟨h_31, he, hf⟩ := zlet_some hf
  refine z_iast (hL.t 19 rfl) (hL.nz 19) hi_30 he dX9_fallback_388 ?_
  have hL := hL.I he
  refine z_aload_n 0 dX9_fallback_389 rfl rfl ?_
  refine z_getr fdX9_69_7 (Or.inr ⟨_, rfl⟩) (hL.t 0 rfl) (hL.p 19 rfl) dX9_fallback_390 ?_
  refine z_iload 4 dX9_fallback_393 rfl ?_
  refine z_iload_n 2 dX9_fallback_395 rfl rfl ?_
  obtain ⟨hi_32, hf⟩ := zck_some hf
  obtain ⟨h_33, he, hf⟩ := zlet_some hf
  refine z_iast (hL.t 20 rfl) (hL.nz 20) hi_32 he dX9_fallback_396 ?_
  have hL := hL.I he
  refine z_iconst 0 dX9_fallback_397 rfl ?_
  refine z_istore dX9_fallback_398 (by decide) (lc' := [(0, .ref a), (1, .int x1), (2, .int x2), (4, .int x4), (5, .int x5), (6, .int x6), (7, .int 0)]) rfl ?_
  refine z_sub [0, 2, 3, 4, 5, 6] rfl ?_
  obtain ⟨t_37, hl, hf⟩ := zb1_some hf
  refine z_loop (fun (s : zH × Int32) => (zBlk mB mP s.1 a → Z F 9 cX9_fallback RX9 "fallback" (some .int) [] s.1 400 [(0, .ref a), (2, .int x2), (4, .int x4), (5, .int x5), (6, .int x6), (7, .int s.2)] [])) (fun (r : zH) => (zBlk mB mP r a → Z F 9 cX9_fallback RX9 "fallback" (some .int) [] r 431 [(0, .ref a), (4, .int x4), (5, .int x5), (6, .int x6)] [])) (fun s y hb hs hr hL => zX9_fallback_L400 hD hL hb ⟨hs, hr⟩) hl ?_ hL
  intro hL
  show Z F 9 cX9_fallback RX9 "fallback" (some .int) [] t_37 431 [(0, .ref a), (4, .int x4), (5, .int x5), (6, .int x6)] []
  refine z_iconst 0 dX9_fallback_431 rfl ?_
  refine z_istore dX9_fallback_432 (by decide) (lc' := [(0, .ref a), (4, .int x4), (5, .int x5), (6, .int x6), (7, .int 0)]) rfl ?_
  refine z_iconst 0 dX9_fallback_434 rfl ?_
  refine z_istore dX9_fallback_435 (by decide) (lc' := [(0, .ref a), (4, .int x4), (5, .int x5), (6, .int x6), (7, .int 0), (8, .int 0)]) rfl ?_
  obtain ⟨t_41, hl, hf⟩ := zb1_some hf
  refine z_loop (fun (s : zH × Int32 × Int32) => (zBlk mB mP s.1 a → Z F 9 cX9_fallback RX9 "fallback" (some .int) [] s.1 437 [(0, .ref a), (4, .int x4), (5, .int x5), (6, .int x6), (7, .int s.2.1), (8, .int s.2.2)] [])) (fun (r : zH × Int32) => (zBlk mB mP r.1 a → Z F 9 cX9_fallback RX9 "fallback" (some .int) [] r.1 474 [(0, .ref a), (4, .int x4), (5, .int x5), (6, .int x6), (7, .int r.2)] [])) (fun s y hb hs hr hL => zX9_fallback_L437 hD hL hb ⟨hs, hr⟩) hl ?_ hL
  intro hL
  show Z F 9 cX9_fallback RX9 "fallback" (some .int) [] t_41.1 474 [(0, .ref a), (4, .int x4), (5, .int x5), (6, .int x6), (7, .int t_41.2)] []
  exact zX9_fallback_J474 hD hL hf hM
noncomputable def fX9_fallback_J327 (h : zH) (a : Nat) (x1 : Int32) (x2 : Int32) (x4 : Int32) (x5 : Int32) (k0 : Int32) : Option (Int32 × zH) := zb1 (zlp (fun s => fX9_fallback_L332 s.1 a x1 x2 x4 x5 k0 s.2) (h, 0)) (fun t_29 => if 0 ≤ x4 then (fX9_fallback_J381 t_29 a x1 x2 x4 x5 k0) else (zlet (zsI t_29 a 25 ((zI t_29 a 25) + 1)) (fun h_59 => fX9_fallback_J381 h_59 a x1 x2 x4 x5 k0)))
theorem zX9_fallback_J327 {F : zF} {h : zH} {a : Nat} {x1 : Int32} {x2 : Int32} {x4 : Int32} {x5 : Int32} {k0 : Int32} {y : Int32 × zH} (hD : 53 ≤ F.2.1) (hL : zBlk mB mP h a) (hf : fX9_fallback_J327 h a x1 x2 x4 x5 k0 = some y) (hM : ((.inl (some (.int y.1)), y.2) : zX) = zEnd F) : Z F 9 cX9_fallback RX9 "fallback" (some .int) [] h 327 [(0, .ref a), (1, .int x1), (2, .int x2), (4, .int x4), (5, .int x5)] [.int k0] := by
  unfold fX9_fallback_J327 at hf
  refine z_istore dX9_fallback_327 (by decide) (lc' := [(0, .ref a), (1, .int x1), (2, .int x2), (4, .int x4), (5, .int x5), (6, .int k0)]) rfl ?_
  refine z_iconst 0 dX9_fallback_329 rfl ?_
  refine z_istore dX9_fallback_330 (by decide) (lc' := [(0, .ref a), (1, .int x1), (2, .int x2), (4, .int x4), (5, .int x5), (6, .int k0), (7, .int 0)]) rfl ?_
  obtain ⟨t_29, hl, hf⟩ := zb1_some hf
  refine z_loop (fun (s : zH × Int32) => (zBlk mB mP s.1 a → Z F 9 cX9_fallback RX9 "fallback" (some .int) [] s.1 332 [(0, .ref a), (1, .int x1), (2, .int x2), (4, .int x4), (5, .int x5), (6, .int k0), (7, .int s.2)] [])) (fun (r : zH) => (zBlk mB mP r a → Z F 9 cX9_fallback RX9 "fallback" (some .int) [] r 366 [(0, .ref a), (1, .int x1), (2, .int x2), (4, .int x4), (5, .int x5), (6, .int k0)] [])) (fun s y hb hs hr hL => zX9_fallback_L332 hD hL hb ⟨hs, hr⟩) hl ?_ hL
  intro hL
  show Z F 9 cX9_fallback RX9 "fallback" (some .int) [] t_29 366 [(0, .ref a), (1, .int x1), (2, .int x2), (4, .int x4), (5, .int x5), (6, .int k0)] []
  refine z_iload 3 dX9_fallback_366 rfl ?_
  refine z_if_ge 381 dX9_fallback_368 rfl hf (fun _ hf => ?_) (fun _ hf => ?_)
  · exact zX9_fallback_J381 hD hL hf hM
  · refine z_aload_n 0 dX9_fallback_371 rfl rfl ?_
    refine z_dup dX9_fallback_372 rfl ?_
    refine z_geti fdX9_345_7 (hL.t 0 rfl) dX9_fallback_373 ?_
    refine z_iconst 1 dX9_fallback_376 rfl ?_
    refine z_iadd dX9_fallback_377 ?_
    obtain ⟨h_59, he, hf⟩ := zlet_some hf
    refine z_puti fdX9_345_7 (hL.t 0 rfl) (hL.nz 0) he dX9_fallback_378 ?_
    have hL := hL.I he
    exact zX9_fallback_J381 hD hL hf hM
noncomputable def fX9_fallback_J309 (h : zH) (a : Nat) (x1 : Int32) (x2 : Int32) (x4 : Int32) (k0 : Int32) : Option (Int32 × zH) := if 0 ≤ x4 then (zck (vp_in x4 40) (fX9_fallback_J327 h a x1 x2 x4 k0 (zI h (a + 20) x4.toNatClampNeg))) else (fX9_fallback_J327 h a x1 x2 x4 k0 0)
theorem zX9_fallback_J309 {F : zF} {h : zH} {a : Nat} {x1 : Int32} {x2 : Int32} {x4 : Int32} {k0 : Int32} {y : Int32 × zH} (hD : 53 ≤ F.2.1) (hL : zBlk mB mP h a) (hf : fX9_fallback_J309 h a x1 x2 x4 k0 = some y) (hM : ((.inl (some (.int y.1)), y.2) : zX) = zEnd F) : Z F 9 cX9_fallback RX9 "fallback" (some .int) [] h 309 [(0, .ref a), (1, .int x1), (2, .int x2), (4, .int x4)] [.int k0] := by
  unfold fX9_fallback_J309 at hf
  refine z_istore dX9_fallback_309 (by decide) (lc' := [(0, .ref a), (1, .int x1), (2, .int x2), (4, .int x4), (5, .int k0)]) rfl ?_
  refine z_iload 3 dX9_fallback_311 rfl ?_
  refine z_if_ge 320 dX9_fallback_313 rfl hf (fun _ hf => ?_) (fun _ hf => ?_)
  · refine z_aload_n 0 dX9_fallback_320 rfl rfl ?_
    refine z_getr fdX9_69_7 (Or.inr ⟨_, rfl⟩) (hL.t 0 rfl) (hL.p 19 rfl) dX9_fallback_321 ?_
    refine z_iload 3 dX9_fallback_324 rfl ?_
    obtain ⟨hi_25, hf⟩ := zck_some hf
    refine z_iald (hL.t 20 rfl) hi_25 dX9_fallback_326 ?_
    exact zX9_fallback_J327 hD hL hf hM
  · refine z_iconst 0 dX9_fallback_316 rfl ?_
    refine z_goto 327 dX9_fallback_317 rfl ?_
    exact zX9_fallback_J327 hD hL hf hM
noncomputable def fX9_fallback_J295 (h : zH) (a : Nat) (x1 : Int32) (x2 : Int32) (x4 : Int32) : Option (Int32 × zH) := if 0 ≤ x4 then (fX9_fallback_J309 h a x1 x2 x4 x4) else (fX9_fallback_J309 h a x1 x2 x4 (zI h a 25))
theorem zX9_fallback_J295 {F : zF} {h : zH} {a : Nat} {x1 : Int32} {x2 : Int32} {x4 : Int32} {y : Int32 × zH} (hD : 53 ≤ F.2.1) (hL : zBlk mB mP h a) (hf : fX9_fallback_J295 h a x1 x2 x4 = some y) (hM : ((.inl (some (.int y.1)), y.2) : zX) = zEnd F) : Z F 9 cX9_fallback RX9 "fallback" (some .int) [] h 295 [(0, .ref a), (1, .int x1), (2, .int x2), (4, .int x4)] [] := by
  unfold fX9_fallback_J295 at hf
  refine z_iload 3 dX9_fallback_295 rfl ?_
  refine z_if_ge 307 dX9_fallback_297 rfl hf (fun _ hf => ?_) (fun _ hf => ?_)
  · refine z_iload 3 dX9_fallback_307 rfl ?_
    exact zX9_fallback_J309 hD hL hf hM
  · refine z_aload_n 0 dX9_fallback_300 rfl rfl ?_
    refine z_geti fdX9_345_7 (hL.t 0 rfl) dX9_fallback_301 ?_
    refine z_goto 309 dX9_fallback_304 rfl ?_
    exact zX9_fallback_J309 hD hL hf hM
noncomputable def fX9_fallback_L231 (h : zH) (a : Nat) (x4 : Int32) (x5 : Int32) : Option ((zH × Int32) ⊕ ((Int32 × zH))) := if 4 ≤ x5 then (some (.inr ((zI h a 25, h)))) else (zck (vp_in (((4 : Int32) * (zI h a 25)) + x5) 160) (zck (vp_in (((4 : Int32) * x4) + x5) 160) (zlet (zsI h (a + 21) (((4 : Int32) * x4) + x5).toNatClampNeg (zI h (a + 21) (((4 : Int32) * (zI h a 25)) + x5).toNatClampNeg)) (fun h_72 => some (.inl ((h_72, x5 + 1)))))))
theorem zX9_fallback_L231 {F : zF} {h : zH} {a : Nat} {x4 : Int32} {x5 : Int32} {y : (zH × Int32) ⊕ ((Int32 × zH))} (hD : 53 ≤ F.2.1) (hL : zBlk mB mP h a) (hf : fX9_fallback_L231 h a x4 x5 = some y) (hM : ((∀ s' : zH × Int32, y = .inl s' → (zBlk mB mP s'.1 a → Z F 9 cX9_fallback RX9 "fallback" (some .int) [] s'.1 231 [(0, .ref a), (4, .int x4), (5, .int s'.2)] [])) ∧ ∀ r : (Int32 × zH), y = .inr r → ((.inl (some (.int r.1)), r.2) : zX) = zEnd F)) : Z F 9 cX9_fallback RX9 "fallback" (some .int) [] h 231 [(0, .ref a), (4, .int x4), (5, .int x5)] [] := by
  unfold fX9_fallback_L231 at hf
  refine z_iload 2 dX9_fallback_231 rfl ?_
  refine z_iconst 4 dX9_fallback_233 rfl ?_
  refine z_icmp_ge 269 dX9_fallback_234 rfl hf (fun _ hf => ?_) (fun _ hf => ?_)
  · refine z_aload_n 0 dX9_fallback_269 rfl rfl ?_
    refine z_geti fdX9_345_7 (hL.t 0 rfl) dX9_fallback_270 ?_
    cases hf
    exact z_iret dX9_fallback_273 rfl (hM.2 _ rfl)
  · refine z_aload_n 0 dX9_fallback_237 rfl rfl ?_
    refine z_getr fdX9_72_7 (Or.inr ⟨_, rfl⟩) (hL.t 0 rfl) (hL.p 20 rfl) dX9_fallback_238 ?_
    refine z_iconst 4 dX9_fallback_241 rfl ?_
    refine z_iload 1 dX9_fallback_242 rfl ?_
    refine z_imul dX9_fallback_244 ?_
    refine z_iload 2 dX9_fallback_245 rfl ?_
    refine z_iadd dX9_fallback_247 ?_
    refine z_aload_n 0 dX9_fallback_248 rfl rfl ?_
    refine z_getr fdX9_72_7 (Or.inr ⟨_, rfl⟩) (hL.t 0 rfl) (hL.p 20 rfl) dX9_fallback_249 ?_
    refine z_iconst 4 dX9_fallback_252 rfl ?_
    refine z_aload_n 0 dX9_fallback_253 rfl rfl ?_
    refine z_geti fdX9_345_7 (hL.t 0 rfl) dX9_fallback_254 ?_
    refine z_imul dX9_fallback_257 ?_
    refine z_iload 2 dX9_fallback_258 rfl ?_
    refine z_iadd dX9_fallback_260 ?_
    obtain ⟨hi_70, hf⟩ := zck_some hf
    refine z_iald (hL.t 21 rfl) hi_70 dX9_fallback_261 ?_
    obtain ⟨hi_71, hf⟩ := zck_some hf
    obtain ⟨h_72, he, hf⟩ := zlet_some hf
    refine z_iast (hL.t 21 rfl) (hL.nz 21) hi_71 he dX9_fallback_262 ?_
    have hL := hL.I he
    refine z_iinc 2 (x5 + 1) dX9_fallback_263 rfl rfl (by decide) (lc' := [(0, .ref a), (4, .int x4), (5, .int (x5 + 1))]) rfl ?_
    refine z_goto 231 dX9_fallback_266 rfl ?_
    cases hf
    exact (hM.1 _ rfl) hL
noncomputable def fX9_fallback (h : zH) (a : Nat) (x1 : Int32) : Option (Int32 × zH) := zb1 (fX9_isPoint x1) (fun v_2 => if v_2 = 0 then (zb2 (fX9_tell h a ((-1))) (fun v_77 h_78 => some ((v_77, h_78)))) else (zlx (zlp (fun s => fX9_fallback_L17 s.1 a x1 s.2.1 s.2.2) (h, 0, 0)) (fun t_22 => if t_22.2 ≤ 4 then (zb1 (fX9_fallbackOf t_22.1 a x1) (fun v_24 => if t_22.2 = 0 then (if v_24 < 0 then (some ((zI t_22.1 a 25, t_22.1))) else (zlet (zsI t_22.1 a 25 ((zI t_22.1 a 25) - 1)) (fun h_63 => zck (vp_in (zI h_63 a 25) 40) (zck (vp_in v_24 40) (zlet (zsI h_63 (a + 19) v_24.toNatClampNeg (zI h_63 (a + 19) (zI h_63 a 25).toNatClampNeg)) (fun h_66 => zck (vp_in (zI h_66 a 25) 40) (zck (vp_in v_24 40) (zlet (zsI h_66 (a + 20) v_24.toNatClampNeg (zI h_66 (a + 20) (zI h_66 a 25).toNatClampNeg)) (fun h_69 => zlp (fun s => fX9_fallback_L231 s.1 a v_24 s.2) (h_69, 0)))))))))) else (if 0 ≤ v_24 then (fX9_fallback_J295 t_22.1 a x1 t_22.2 v_24) else (if (zI t_22.1 a 25) = 40 then (zb2 (fX9_tell t_22.1 a ((-6))) (fun v_61 h_62 => some ((v_61, h_62)))) else (fX9_fallback_J295 t_22.1 a x1 t_22.2 v_24))))) else (zb2 (fX9_tell t_22.1 a ((-8))) (fun v_74 h_75 => some ((v_74, h_75)))))))
theorem zX9_fallback {F : zF} {h : zH} {a : Nat} {x1 : Int32} {y : Int32 × zH} (hD : 53 ≤ F.2.1) (hL : zBlk mB mP h a) (hf : fX9_fallback h a x1 = some y) (hM : ((.inl (some (.int y.1)), y.2) : zX) = zEnd F) : Z F 9 cX9_fallback RX9 "fallback" (some .int) [] h 0 [(0, .ref a), (1, .int x1)] [] := by
  unfold fX9_fallback at hf
  refine z_iload_n 1 dX9_fallback_0 rfl rfl ?_
  obtain ⟨v_2, hc_1, hf⟩ := zb1_some hf
  refine z_invSi ssX9_187 (ctX9_isPoint hc_1) ⟨Nat.le_trans (by decide) hD, by decide⟩ rfl rfl (Nat.le_of_ble_eq_true rfl) dX9_fallback_1 ?_
  refine z_if_ne 13 dX9_fallback_4 rfl hf (fun _ hf => ?_) (fun _ hf => ?_)
  · refine z_iconst 0 dX9_fallback_13 rfl ?_
    refine z_istore_n dX9_fallback_14 rfl (by decide) (lc' := [(0, .ref a), (1, .int x1), (2, .int 0)]) rfl ?_
    refine z_iconst 0 dX9_fallback_15 rfl ?_
    refine z_istore_n dX9_fallback_16 rfl (by decide) (lc' := [(0, .ref a), (1, .int x1), (2, .int 0), (3, .int 0)]) rfl ?_
    obtain ⟨rr, hl, hf⟩ := zlx_some hf
    refine z_loop (fun (s : zH × Int32 × Int32) => (zBlk mB mP s.1 a → Z F 9 cX9_fallback RX9 "fallback" (some .int) [] s.1 17 [(0, .ref a), (1, .int x1), (2, .int s.2.1), (3, .int s.2.2)] [])) (fun (r : (zH × Int32) ⊕ (Int32 × zH)) => (match r with | .inl t => (zBlk mB mP t.1 a → Z F 9 cX9_fallback RX9 "fallback" (some .int) [] t.1 158 [(0, .ref a), (1, .int x1), (2, .int t.2)] []) | .inr z => ((.inl (some (.int z.1)), z.2) : zX) = zEnd F)) (fun s y hb hs hr hL => zX9_fallback_L17 hD hL hb ⟨hs, hr⟩) hl ?_ hL
    rcases hf with ⟨t_22, rfl, hf⟩ | rfl
    · intro hL
      show Z F 9 cX9_fallback RX9 "fallback" (some .int) [] t_22.1 158 [(0, .ref a), (1, .int x1), (2, .int t_22.2)] []
      refine z_iload_n 2 dX9_fallback_158 rfl rfl ?_
      refine z_iconst 4 dX9_fallback_159 rfl ?_
      refine z_icmp_le 170 dX9_fallback_160 rfl hf (fun _ hf => ?_) (fun _ hf => ?_)
      · refine z_aload_n 0 dX9_fallback_170 rfl rfl ?_
        refine z_iload_n 1 dX9_fallback_171 rfl rfl ?_
        obtain ⟨v_24, hc_23, hf⟩ := zb1_some hf
        refine z_invVi svX9_357_7 (ctX9_fallbackOf hL hc_23) (hL.t 0 rfl) ⟨Nat.le_trans (by decide) hD, by decide⟩ rfl rfl (Nat.le_of_ble_eq_true rfl) dX9_fallback_172 ?_
        refine z_istore dX9_fallback_175 (by decide) (lc' := [(0, .ref a), (1, .int x1), (2, .int t_22.2), (4, .int v_24)]) rfl ?_
        refine z_iload_n 2 dX9_fallback_177 rfl rfl ?_
        refine z_if_ne 274 dX9_fallback_178 rfl hf (fun _ hf => ?_) (fun _ hf => ?_)
        · refine z_iload 3 dX9_fallback_274 rfl ?_
          refine z_if_ge 295 dX9_fallback_276 rfl hf (fun _ hf => ?_) (fun _ hf => ?_)
          · exact zX9_fallback_J295 hD hL hf hM
          · refine z_aload_n 0 dX9_fallback_279 rfl rfl ?_
            refine z_geti fdX9_345_7 (hL.t 0 rfl) dX9_fallback_280 ?_
            refine z_bipush 40 dX9_fallback_283 rfl ?_
            refine z_icmp_ne 295 dX9_fallback_285 rfl hf (fun _ hf => ?_) (fun _ hf => ?_)
            · exact zX9_fallback_J295 hD hL hf hM
            · refine z_aload_n 0 dX9_fallback_288 rfl rfl ?_
              refine z_bipush (-6) dX9_fallback_289 rfl ?_
              obtain ⟨v_61, h_62, hc_60, hf⟩ := zb2_some hf
              have hct := ctX9_tell (l := F.1) hL hc_60
              refine z_invVi svX9_166_7 hct (hL.t 0 rfl) ⟨Nat.le_trans (by decide) hD, by decide⟩ rfl rfl (Nat.le_of_ble_eq_true rfl) dX9_fallback_291 ?_
              have hL := hL.ext mOk hct.1
              cases hf
              exact z_iret dX9_fallback_294 rfl hM
        · refine z_iload 3 dX9_fallback_181 rfl ?_
          refine z_if_lt 269 dX9_fallback_183 rfl hf (fun _ hf => ?_) (fun _ hf => ?_)
          · refine z_aload_n 0 dX9_fallback_269 rfl rfl ?_
            refine z_geti fdX9_345_7 (hL.t 0 rfl) dX9_fallback_270 ?_
            cases hf
            exact z_iret dX9_fallback_273 rfl hM
          · refine z_aload_n 0 dX9_fallback_186 rfl rfl ?_
            refine z_dup dX9_fallback_187 rfl ?_
            refine z_geti fdX9_345_7 (hL.t 0 rfl) dX9_fallback_188 ?_
            refine z_iconst 1 dX9_fallback_191 rfl ?_
            refine z_isub dX9_fallback_192 ?_
            obtain ⟨h_63, he, hf⟩ := zlet_some hf
            refine z_puti fdX9_345_7 (hL.t 0 rfl) (hL.nz 0) he dX9_fallback_193 ?_
            have hL := hL.I he
            refine z_aload_n 0 dX9_fallback_196 rfl rfl ?_
            refine z_getr fdX9_66_7 (Or.inr ⟨_, rfl⟩) (hL.t 0 rfl) (hL.p 18 rfl) dX9_fallback_197 ?_
            refine z_iload 3 dX9_fallback_200 rfl ?_
            refine z_aload_n 0 dX9_fallback_202 rfl rfl ?_
            refine z_getr fdX9_66_7 (Or.inr ⟨_, rfl⟩) (hL.t 0 rfl) (hL.p 18 rfl) dX9_fallback_203 ?_
            refine z_aload_n 0 dX9_fallback_206 rfl rfl ?_
            refine z_geti fdX9_345_7 (hL.t 0 rfl) dX9_fallback_207 ?_
            obtain ⟨hi_64, hf⟩ := zck_some hf
            refine z_iald (hL.t 19 rfl) hi_64 dX9_fallback_210 ?_
            obtain ⟨hi_65, hf⟩ := zck_some hf
            obtain ⟨h_66, he, hf⟩ := zlet_some hf
            refine z_iast (hL.t 19 rfl) (hL.nz 19) hi_65 he dX9_fallback_211 ?_
            have hL := hL.I he
            refine z_aload_n 0 dX9_fallback_212 rfl rfl ?_
            refine z_getr fdX9_69_7 (Or.inr ⟨_, rfl⟩) (hL.t 0 rfl) (hL.p 19 rfl) dX9_fallback_213 ?_
            refine z_iload 3 dX9_fallback_216 rfl ?_
            refine z_aload_n 0 dX9_fallback_218 rfl rfl ?_
            refine z_getr fdX9_69_7 (Or.inr ⟨_, rfl⟩) (hL.t 0 rfl) (hL.p 19 rfl) dX9_fallback_219 ?_
            refine z_aload_n 0 dX9_fallback_222 rfl rfl ?_
            refine z_geti fdX9_345_7 (hL.t 0 rfl) dX9_fallback_223 ?_
            obtain ⟨hi_67, hf⟩ := zck_some hf
            refine z_iald (hL.t 20 rfl) hi_67 dX9_fallback_226 ?_
            obtain ⟨hi_68, hf⟩ := zck_some hf
            obtain ⟨h_69, he, hf⟩ := zlet_some hf
            refine z_iast (hL.t 20 rfl) (hL.nz 20) hi_68 he dX9_fallback_227 ?_
            have hL := hL.I he
            refine z_iconst 0 dX9_fallback_228 rfl ?_
            refine z_istore dX9_fallback_229 (by decide) (lc' := [(0, .ref a), (1, .int x1), (2, .int t_22.2), (4, .int v_24), (5, .int 0)]) rfl ?_
            refine z_sub [0, 3, 4] rfl ?_
            exact z_loop (fun (s : zH × Int32) => (zBlk mB mP s.1 a → Z F 9 cX9_fallback RX9 "fallback" (some .int) [] s.1 231 [(0, .ref a), (4, .int v_24), (5, .int s.2)] [])) (fun (r : (Int32 × zH)) => ((.inl (some (.int r.1)), r.2) : zX) = zEnd F) (fun s y hb hs hr hL => zX9_fallback_L231 hD hL hb ⟨hs, hr⟩) hf hM hL
      · refine z_aload_n 0 dX9_fallback_163 rfl rfl ?_
        refine z_bipush (-8) dX9_fallback_164 rfl ?_
        obtain ⟨v_74, h_75, hc_73, hf⟩ := zb2_some hf
        have hct := ctX9_tell (l := F.1) hL hc_73
        refine z_invVi svX9_166_7 hct (hL.t 0 rfl) ⟨Nat.le_trans (by decide) hD, by decide⟩ rfl rfl (Nat.le_of_ble_eq_true rfl) dX9_fallback_166 ?_
        have hL := hL.ext mOk hct.1
        cases hf
        exact z_iret dX9_fallback_169 rfl hM
    · exact hM
  · refine z_aload_n 0 dX9_fallback_7 rfl rfl ?_
    refine z_iconst (-1) dX9_fallback_8 rfl ?_
    obtain ⟨v_77, h_78, hc_76, hf⟩ := zb2_some hf
    have hct := ctX9_tell (l := F.1) hL hc_76
    refine z_invVi svX9_166_7 hct (hL.t 0 rfl) ⟨Nat.le_trans (by decide) hD, by decide⟩ rfl rfl (Nat.le_of_ble_eq_true rfl) dX9_fallback_9 ?_
    have hL := hL.ext mOk hct.1
    cases hf
    exact z_iret dX9_fallback_12 rfl hM
theorem ctX9_fallback {l : Launch} {h : zH} {a : Nat} {x1 : Int32} {v : Int32} {h' : zH} (hL : zBlk mB mP h a) (hf : fX9_fallback h a x1 = some (v, h')) : zC l yX9_fallback (ws_ yX9_fallback cX9_fallback 9 (some .int)) 53 [.ref a, .int x1] h (.inl (some (.int v)), h') :=
  z_start (by decide) (Nat.le_of_ble_eq_true rfl) (zX9_fallback (F := (l, 53, h, (.inl (some (.int v)), h'))) (Nat.le_refl _) hL hf rfl)
theorem fdX9_105_7 : zFd RX9 105 7 52 (.array .boolean) true := ⟨_, _, _, rfl, rfl, by decide, rfl, rfl, Or.inl q1444, Or.inl rfl⟩
theorem fdX9_108_7 : zFd RX9 108 7 53 (.array .int) true := ⟨_, _, _, rfl, rfl, by decide, rfl, rfl, Or.inl q1445, Or.inl rfl⟩
theorem fdX9_111_7 : zFd RX9 111 7 54 (.array .boolean) true := ⟨_, _, _, rfl, rfl, by decide, rfl, rfl, Or.inl q1446, Or.inl rfl⟩
theorem fdX9_114_7 : zFd RX9 114 7 55 (.array .int) true := ⟨_, _, _, rfl, rfl, by decide, rfl, rfl, Or.inl q1447, Or.inl rfl⟩
theorem fdX9_117_7 : zFd RX9 117 7 56 (.array .int) true := ⟨_, _, _, rfl, rfl, by decide, rfl, rfl, Or.inl q1448, Or.inl rfl⟩
theorem fdX9_120_7 : zFd RX9 120 7 57 (.array .int) true := ⟨_, _, _, rfl, rfl, by decide, rfl, rfl, Or.inl q1449, Or.inl rfl⟩
theorem fdX9_123_7 : zFd RX9 123 7 58 (.array .int) true := ⟨_, _, _, rfl, rfl, by decide, rfl, rfl, Or.inl q1450, Or.inl rfl⟩
theorem fdX9_129_7 : zFd RX9 129 7 60 (.array .int) true := ⟨_, _, _, rfl, rfl, by decide, rfl, rfl, Or.inl q1452, Or.inl rfl⟩
theorem fdX9_132_7 : zFd RX9 132 7 61 (.array .int) true := ⟨_, _, _, rfl, rfl, by decide, rfl, rfl, Or.inl q1453, Or.inl rfl⟩
theorem fdX9_135_7 : zFd RX9 135 7 62 (.array .int) true := ⟨_, _, _, rfl, rfl, by decide, rfl, rfl, Or.inl q1454, Or.inl rfl⟩
noncomputable def fX9_begin_J51 (h : zH) (a : Nat) (x1 : Int32) (x2 : Int32) (x3 : Int32) (x4 : Int32) (k0 : Int32) (k1 : Int32) (k2 : Int32) : Option (Int32 × zH) := zb1 (fX9_in k2 k1 k0) (fun v_10 => if v_10 = 0 then (zb2 (fX9_tell h a ((-1))) (fun v_33 h_34 => some ((v_33, h_34)))) else (zck (vp_in x1 4) (zlet (zsI h (a + 32) x1.toNatClampNeg 1) (fun h_12 => zck (vp_in x1 4) (zlet (zsI h_12 (a + 33) x1.toNatClampNeg x2) (fun h_14 => zck (vp_in x1 4) (zck (zB x3) (zlet (zsI h_14 (a + 34) x1.toNatClampNeg x3) (fun h_16 => zck (vp_in x1 4) (zlet (zsI h_16 (a + 35) x1.toNatClampNeg x4) (fun h_19 => zck (vp_in x1 4) (zlet (zsI h_19 (a + 36) x1.toNatClampNeg 0) (fun h_21 => zck (vp_in x1 4) (zlet (zsI h_21 (a + 37) x1.toNatClampNeg 4) (fun h_23 => zck (vp_in x1 4) (zlet (zsI h_23 (a + 38) x1.toNatClampNeg 0) (fun h_25 => zck (vp_in x1 4) (zlet (zsI h_25 (a + 40) x1.toNatClampNeg 0) (fun h_27 => zck (vp_in x1 4) (zlet (zsI h_27 (a + 41) x1.toNatClampNeg 0) (fun h_29 => zck (vp_in x1 4) (zlet (zsI h_29 (a + 42) x1.toNatClampNeg 0) (fun h_31 => some ((0, h_31)))))))))))))))))))))))))
theorem zX9_begin_J51 {F : zF} {h : zH} {a : Nat} {x1 : Int32} {x2 : Int32} {x3 : Int32} {x4 : Int32} {k0 : Int32} {k1 : Int32} {k2 : Int32} {y : Int32 × zH} (hD : 3 ≤ F.2.1) (hL : zBlk mB mP h a) (hf : fX9_begin_J51 h a x1 x2 x3 x4 k0 k1 k2 = some y) (hM : ((.inl (some (.int y.1)), y.2) : zX) = zEnd F) : Z F 5 cX9_begin RX9 "begin" (some .int) [] h 51 [(0, .ref a), (1, .int x1), (2, .int x2), (3, .int x3), (4, .int x4)] [.int k0, .int k1, .int k2] := by
  unfold fX9_begin_J51 at hf
  obtain ⟨v_10, hc_9, hf⟩ := zb1_some hf
  refine z_invSi ssX9_156 (ctX9_in hc_9) ⟨Nat.le_trans (by decide) hD, by decide⟩ rfl rfl (Nat.le_of_ble_eq_true rfl) dX9_begin_51 ?_
  refine z_if_ne 63 dX9_begin_54 rfl hf (fun _ hf => ?_) (fun _ hf => ?_)
  · refine z_aload_n 0 dX9_begin_63 rfl rfl ?_
    refine z_getr fdX9_105_7 (Or.inr ⟨_, rfl⟩) (hL.t 0 rfl) (hL.p 31 rfl) dX9_begin_64 ?_
    refine z_iload_n 1 dX9_begin_67 rfl rfl ?_
    refine z_iconst 1 dX9_begin_68 rfl ?_
    obtain ⟨hi_11, hf⟩ := zck_some hf
    obtain ⟨h_12, he, hf⟩ := zlet_some hf
    refine z_zast (Or.inr rfl) (hL.t 32 rfl) (hL.nz 32) hi_11 he dX9_begin_69 ?_
    have hL := hL.I he
    refine z_aload_n 0 dX9_begin_70 rfl rfl ?_
    refine z_getr fdX9_108_7 (Or.inr ⟨_, rfl⟩) (hL.t 0 rfl) (hL.p 32 rfl) dX9_begin_71 ?_
    refine z_iload_n 1 dX9_begin_74 rfl rfl ?_
    refine z_iload_n 2 dX9_begin_75 rfl rfl ?_
    obtain ⟨hi_13, hf⟩ := zck_some hf
    obtain ⟨h_14, he, hf⟩ := zlet_some hf
    refine z_iast (hL.t 33 rfl) (hL.nz 33) hi_13 he dX9_begin_76 ?_
    have hL := hL.I he
    refine z_aload_n 0 dX9_begin_77 rfl rfl ?_
    refine z_getr fdX9_111_7 (Or.inr ⟨_, rfl⟩) (hL.t 0 rfl) (hL.p 33 rfl) dX9_begin_78 ?_
    refine z_iload_n 1 dX9_begin_81 rfl rfl ?_
    refine z_iload_n 3 dX9_begin_82 rfl rfl ?_
    obtain ⟨hi_15, hf⟩ := zck_some hf
    obtain ⟨hz_17, hf⟩ := zck_some hf
    obtain ⟨h_16, he, hf⟩ := zlet_some hf
    refine z_zast hz_17 (hL.t 34 rfl) (hL.nz 34) hi_15 he dX9_begin_83 ?_
    have hL := hL.I he
    refine z_aload_n 0 dX9_begin_84 rfl rfl ?_
    refine z_getr fdX9_114_7 (Or.inr ⟨_, rfl⟩) (hL.t 0 rfl) (hL.p 34 rfl) dX9_begin_85 ?_
    refine z_iload_n 1 dX9_begin_88 rfl rfl ?_
    refine z_iload 4 dX9_begin_89 rfl ?_
    obtain ⟨hi_18, hf⟩ := zck_some hf
    obtain ⟨h_19, he, hf⟩ := zlet_some hf
    refine z_iast (hL.t 35 rfl) (hL.nz 35) hi_18 he dX9_begin_91 ?_
    have hL := hL.I he
    refine z_aload_n 0 dX9_begin_92 rfl rfl ?_
    refine z_getr fdX9_117_7 (Or.inr ⟨_, rfl⟩) (hL.t 0 rfl) (hL.p 35 rfl) dX9_begin_93 ?_
    refine z_iload_n 1 dX9_begin_96 rfl rfl ?_
    refine z_iconst 0 dX9_begin_97 rfl ?_
    obtain ⟨hi_20, hf⟩ := zck_some hf
    obtain ⟨h_21, he, hf⟩ := zlet_some hf
    refine z_iast (hL.t 36 rfl) (hL.nz 36) hi_20 he dX9_begin_98 ?_
    have hL := hL.I he
    refine z_aload_n 0 dX9_begin_99 rfl rfl ?_
    refine z_getr fdX9_120_7 (Or.inr ⟨_, rfl⟩) (hL.t 0 rfl) (hL.p 36 rfl) dX9_begin_100 ?_
    refine z_iload_n 1 dX9_begin_103 rfl rfl ?_
    refine z_iconst 4 dX9_begin_104 rfl ?_
    obtain ⟨hi_22, hf⟩ := zck_some hf
    obtain ⟨h_23, he, hf⟩ := zlet_some hf
    refine z_iast (hL.t 37 rfl) (hL.nz 37) hi_22 he dX9_begin_105 ?_
    have hL := hL.I he
    refine z_aload_n 0 dX9_begin_106 rfl rfl ?_
    refine z_getr fdX9_123_7 (Or.inr ⟨_, rfl⟩) (hL.t 0 rfl) (hL.p 37 rfl) dX9_begin_107 ?_
    refine z_iload_n 1 dX9_begin_110 rfl rfl ?_
    refine z_iconst 0 dX9_begin_111 rfl ?_
    obtain ⟨hi_24, hf⟩ := zck_some hf
    obtain ⟨h_25, he, hf⟩ := zlet_some hf
    refine z_iast (hL.t 38 rfl) (hL.nz 38) hi_24 he dX9_begin_112 ?_
    have hL := hL.I he
    refine z_aload_n 0 dX9_begin_113 rfl rfl ?_
    refine z_getr fdX9_129_7 (Or.inr ⟨_, rfl⟩) (hL.t 0 rfl) (hL.p 39 rfl) dX9_begin_114 ?_
    refine z_iload_n 1 dX9_begin_117 rfl rfl ?_
    refine z_iconst 0 dX9_begin_118 rfl ?_
    obtain ⟨hi_26, hf⟩ := zck_some hf
    obtain ⟨h_27, he, hf⟩ := zlet_some hf
    refine z_iast (hL.t 40 rfl) (hL.nz 40) hi_26 he dX9_begin_119 ?_
    have hL := hL.I he
    refine z_aload_n 0 dX9_begin_120 rfl rfl ?_
    refine z_getr fdX9_132_7 (Or.inr ⟨_, rfl⟩) (hL.t 0 rfl) (hL.p 40 rfl) dX9_begin_121 ?_
    refine z_iload_n 1 dX9_begin_124 rfl rfl ?_
    refine z_iconst 0 dX9_begin_125 rfl ?_
    obtain ⟨hi_28, hf⟩ := zck_some hf
    obtain ⟨h_29, he, hf⟩ := zlet_some hf
    refine z_iast (hL.t 41 rfl) (hL.nz 41) hi_28 he dX9_begin_126 ?_
    have hL := hL.I he
    refine z_aload_n 0 dX9_begin_127 rfl rfl ?_
    refine z_getr fdX9_135_7 (Or.inr ⟨_, rfl⟩) (hL.t 0 rfl) (hL.p 41 rfl) dX9_begin_128 ?_
    refine z_iload_n 1 dX9_begin_131 rfl rfl ?_
    refine z_iconst 0 dX9_begin_132 rfl ?_
    obtain ⟨hi_30, hf⟩ := zck_some hf
    obtain ⟨h_31, he, hf⟩ := zlet_some hf
    refine z_iast (hL.t 42 rfl) (hL.nz 42) hi_30 he dX9_begin_133 ?_
    have hL := hL.I he
    refine z_iconst 0 dX9_begin_134 rfl ?_
    cases hf
    exact z_iret dX9_begin_135 rfl hM
  · refine z_aload_n 0 dX9_begin_57 rfl rfl ?_
    refine z_iconst (-1) dX9_begin_58 rfl ?_
    obtain ⟨v_33, h_34, hc_32, hf⟩ := zb2_some hf
    have hct := ctX9_tell (l := F.1) hL hc_32
    refine z_invVi svX9_166_7 hct (hL.t 0 rfl) ⟨Nat.le_trans (by decide) hD, by decide⟩ rfl rfl (Nat.le_of_ble_eq_true rfl) dX9_begin_59 ?_
    have hL := hL.ext mOk hct.1
    cases hf
    exact z_iret dX9_begin_62 rfl hM
noncomputable def fX9_begin (h : zH) (a : Nat) (x1 : Int32) (x2 : Int32) (x3 : Int32) (x4 : Int32) : Option (Int32 × zH) := zb1 (fX9_in x1 0 3) (fun v_2 => if v_2 = 0 then (zb2 (fX9_tell h a ((-1))) (fun v_4 h_5 => some ((v_4, h_5)))) else (zb1 (fX9_isPage h a x2) (fun v_7 => if v_7 = 0 then (zb2 (fX9_tell h a ((-1))) (fun v_39 h_40 => some ((v_39, h_40)))) else (zck (vp_in x2 11) (if (zI h (a + 2) x2.toNatClampNeg) = 0 then (zb2 (fX9_tell h a ((-5))) (fun v_36 h_37 => some ((v_36, h_37)))) else (if x3 = 0 then (fX9_begin_J51 h a x1 x2 x3 x4 3 0 x4) else (fX9_begin_J51 h a x1 x2 x3 x4 4 0 x4)))))))
theorem zX9_begin {F : zF} {h : zH} {a : Nat} {x1 : Int32} {x2 : Int32} {x3 : Int32} {x4 : Int32} {y : Int32 × zH} (hD : 3 ≤ F.2.1) (hL : zBlk mB mP h a) (hf : fX9_begin h a x1 x2 x3 x4 = some y) (hM : ((.inl (some (.int y.1)), y.2) : zX) = zEnd F) : Z F 5 cX9_begin RX9 "begin" (some .int) [] h 0 [(0, .ref a), (1, .int x1), (2, .int x2), (3, .int x3), (4, .int x4)] [] := by
  unfold fX9_begin at hf
  refine z_iload_n 1 dX9_begin_0 rfl rfl ?_
  refine z_iconst 0 dX9_begin_1 rfl ?_
  refine z_iconst 3 dX9_begin_2 rfl ?_
  obtain ⟨v_2, hc_1, hf⟩ := zb1_some hf
  refine z_invSi ssX9_156 (ctX9_in hc_1) ⟨Nat.le_trans (by decide) hD, by decide⟩ rfl rfl (Nat.le_of_ble_eq_true rfl) dX9_begin_3 ?_
  refine z_if_eq 17 dX9_begin_6 rfl hf (fun _ hf => ?_) (fun _ hf => ?_)
  · refine z_aload_n 0 dX9_begin_17 rfl rfl ?_
    refine z_iconst (-1) dX9_begin_18 rfl ?_
    obtain ⟨v_4, h_5, hc_3, hf⟩ := zb2_some hf
    have hct := ctX9_tell (l := F.1) hL hc_3
    refine z_invVi svX9_166_7 hct (hL.t 0 rfl) ⟨Nat.le_trans (by decide) hD, by decide⟩ rfl rfl (Nat.le_of_ble_eq_true rfl) dX9_begin_19 ?_
    have hL := hL.ext mOk hct.1
    cases hf
    exact z_iret dX9_begin_22 rfl hM
  · refine z_aload_n 0 dX9_begin_9 rfl rfl ?_
    refine z_iload_n 2 dX9_begin_10 rfl rfl ?_
    obtain ⟨v_7, hc_6, hf⟩ := zb1_some hf
    refine z_invVi svX9_170_7 (ctX9_isPage hL hc_6) (hL.t 0 rfl) ⟨Nat.le_trans (by decide) hD, by decide⟩ rfl rfl (Nat.le_of_ble_eq_true rfl) dX9_begin_11 ?_
    refine z_if_ne 23 dX9_begin_14 rfl hf (fun _ hf => ?_) (fun _ hf => ?_)
    · refine z_aload_n 0 dX9_begin_23 rfl rfl ?_
      refine z_getr fdX9_13_7 (Or.inr ⟨_, rfl⟩) (hL.t 0 rfl) (hL.p 1 rfl) dX9_begin_24 ?_
      refine z_iload_n 2 dX9_begin_27 rfl rfl ?_
      obtain ⟨hi_8, hf⟩ := zck_some hf
      refine z_zald (hL.t 2 rfl) hi_8 dX9_begin_28 ?_
      refine z_if_ne 39 dX9_begin_29 rfl hf (fun _ hf => ?_) (fun _ hf => ?_)
      · refine z_iload 4 dX9_begin_39 rfl ?_
        refine z_iconst 0 dX9_begin_41 rfl ?_
        refine z_iload_n 3 dX9_begin_42 rfl rfl ?_
        refine z_if_eq 50 dX9_begin_43 rfl hf (fun _ hf => ?_) (fun _ hf => ?_)
        · refine z_iconst 3 dX9_begin_50 rfl ?_
          exact zX9_begin_J51 hD hL hf hM
        · refine z_iconst 4 dX9_begin_46 rfl ?_
          refine z_goto 51 dX9_begin_47 rfl ?_
          exact zX9_begin_J51 hD hL hf hM
      · refine z_aload_n 0 dX9_begin_32 rfl rfl ?_
        refine z_bipush (-5) dX9_begin_33 rfl ?_
        obtain ⟨v_36, h_37, hc_35, hf⟩ := zb2_some hf
        have hct := ctX9_tell (l := F.1) hL hc_35
        refine z_invVi svX9_166_7 hct (hL.t 0 rfl) ⟨Nat.le_trans (by decide) hD, by decide⟩ rfl rfl (Nat.le_of_ble_eq_true rfl) dX9_begin_35 ?_
        have hL := hL.ext mOk hct.1
        cases hf
        exact z_iret dX9_begin_38 rfl hM
    · refine z_aload_n 0 dX9_begin_17 rfl rfl ?_
      refine z_iconst (-1) dX9_begin_18 rfl ?_
      obtain ⟨v_39, h_40, hc_38, hf⟩ := zb2_some hf
      have hct := ctX9_tell (l := F.1) hL hc_38
      refine z_invVi svX9_166_7 hct (hL.t 0 rfl) ⟨Nat.le_trans (by decide) hD, by decide⟩ rfl rfl (Nat.le_of_ble_eq_true rfl) dX9_begin_19 ?_
      have hL := hL.ext mOk hct.1
      cases hf
      exact z_iret dX9_begin_22 rfl hM
theorem ctX9_begin {l : Launch} {h : zH} {a : Nat} {x1 : Int32} {x2 : Int32} {x3 : Int32} {x4 : Int32} {v : Int32} {h' : zH} (hL : zBlk mB mP h a) (hf : fX9_begin h a x1 x2 x3 x4 = some (v, h')) : zC l yX9_begin (ws_ yX9_begin cX9_begin 5 (some .int)) 3 [.ref a, .int x1, .int x2, .int x3, .int x4] h (.inl (some (.int v)), h') :=
  z_start (by decide) (Nat.le_of_ble_eq_true rfl) (zX9_begin (F := (l, 3, h, (.inl (some (.int v)), h'))) (Nat.le_refl _) hL hf rfl)
theorem fdX9_144_7 : zFd RX9 144 7 65 (.array .int) true := ⟨_, _, _, rfl, rfl, by decide, rfl, rfl, Or.inl q1457, Or.inl rfl⟩
theorem fdX9_141_7 : zFd RX9 141 7 64 (.array .int) true := ⟨_, _, _, rfl, rfl, by decide, rfl, rfl, Or.inl q1456, Or.inl rfl⟩
theorem fdX9_126_7 : zFd RX9 126 7 59 (.array .int) true := ⟨_, _, _, rfl, rfl, by decide, rfl, rfl, Or.inl q1451, Or.inl rfl⟩
noncomputable def fX9_load_L42 (h : zH) (a : Nat) (x1 : Int32) (x2 : Int32) : Option ((zH × Int32) ⊕ (zH)) := zck (vp_in x1 4) (if (zI h (a + 38) x1.toNatClampNeg) ≤ x2 then (some (.inr h)) else (zck (vp_in (((8 : Int32) * x1) + x2) 32) (zck (vp_in x2 8) (zlet (zsI h (a + 44) x2.toNatClampNeg (zI h (a + 39) (((8 : Int32) * x1) + x2).toNatClampNeg)) (fun h_11 => some (.inl ((h_11, x2 + 1))))))))
theorem zX9_load_L42 {F : zF} {h : zH} {a : Nat} {x1 : Int32} {x2 : Int32} {y : (zH × Int32) ⊕ (zH)} (hD : 1 ≤ F.2.1) (hL : zBlk mB mP h a) (hf : fX9_load_L42 h a x1 x2 = some y) (hM : ((∀ s' : zH × Int32, y = .inl s' → (zBlk mB mP s'.1 a → Z F 3 cX9_load RX9 "load" none [] s'.1 42 [(0, .ref a), (1, .int x1), (2, .int s'.2)] [])) ∧ ∀ r : zH, y = .inr r → ((.inl none, r) : zX) = zEnd F)) : Z F 3 cX9_load RX9 "load" none [] h 42 [(0, .ref a), (1, .int x1), (2, .int x2)] [] := by
  unfold fX9_load_L42 at hf
  refine z_iload_n 2 dX9_load_42 rfl rfl ?_
  refine z_aload_n 0 dX9_load_43 rfl rfl ?_
  refine z_getr fdX9_123_7 (Or.inr ⟨_, rfl⟩) (hL.t 0 rfl) (hL.p 37 rfl) dX9_load_44 ?_
  refine z_iload_n 1 dX9_load_47 rfl rfl ?_
  obtain ⟨hi_8, hf⟩ := zck_some hf
  refine z_iald (hL.t 38 rfl) hi_8 dX9_load_48 ?_
  refine z_icmp_ge 75 dX9_load_49 rfl hf (fun _ hf => ?_) (fun _ hf => ?_)
  · cases hf
    exact z_vret dX9_load_75 rfl (hM.2 _ rfl)
  · refine z_aload_n 0 dX9_load_52 rfl rfl ?_
    refine z_getr fdX9_141_7 (Or.inr ⟨_, rfl⟩) (hL.t 0 rfl) (hL.p 43 rfl) dX9_load_53 ?_
    refine z_iload_n 2 dX9_load_56 rfl rfl ?_
    refine z_aload_n 0 dX9_load_57 rfl rfl ?_
    refine z_getr fdX9_126_7 (Or.inr ⟨_, rfl⟩) (hL.t 0 rfl) (hL.p 38 rfl) dX9_load_58 ?_
    refine z_bipush 8 dX9_load_61 rfl ?_
    refine z_iload_n 1 dX9_load_63 rfl rfl ?_
    refine z_imul dX9_load_64 ?_
    refine z_iload_n 2 dX9_load_65 rfl rfl ?_
    refine z_iadd dX9_load_66 ?_
    obtain ⟨hi_9, hf⟩ := zck_some hf
    refine z_iald (hL.t 39 rfl) hi_9 dX9_load_67 ?_
    obtain ⟨hi_10, hf⟩ := zck_some hf
    obtain ⟨h_11, he, hf⟩ := zlet_some hf
    refine z_iast (hL.t 44 rfl) (hL.nz 44) hi_10 he dX9_load_68 ?_
    have hL := hL.I he
    refine z_iinc 2 (x2 + 1) dX9_load_69 rfl rfl (by decide) (lc' := [(0, .ref a), (1, .int x1), (2, .int (x2 + 1))]) rfl ?_
    refine z_goto 42 dX9_load_72 rfl ?_
    cases hf
    exact (hM.1 _ rfl) hL
noncomputable def fX9_load (h : zH) (a : Nat) (x1 : Int32) : Option (zH) := zck (vp_in x1 4) (zlet (zsI h a 34 (zI h (a + 36) x1.toNatClampNeg)) (fun h_2 => zck (vp_in x1 4) (zlet (zsI h_2 a 35 (zI h_2 (a + 37) x1.toNatClampNeg)) (fun h_4 => zlet (zsP h_4 a 36 (some (a + 45))) (fun h_5 => zlet (zsI h_5 a 37 0) (fun h_6 => zlet (zsI h_6 a 38 1200) (fun h_7 => zlp (fun s => fX9_load_L42 s.1 a x1 s.2) (h_7, 0))))))))
theorem zX9_load {F : zF} {h : zH} {a : Nat} {x1 : Int32} {y : zH} (hD : 1 ≤ F.2.1) (hL : zBlk mB mP h a) (hf : fX9_load h a x1 = some y) (hM : ((.inl none, y) : zX) = zEnd F) : Z F 3 cX9_load RX9 "load" none [] h 0 [(0, .ref a), (1, .int x1)] [] := by
  unfold fX9_load at hf
  refine z_aload_n 0 dX9_load_0 rfl rfl ?_
  refine z_aload_n 0 dX9_load_1 rfl rfl ?_
  refine z_getr fdX9_117_7 (Or.inr ⟨_, rfl⟩) (hL.t 0 rfl) (hL.p 35 rfl) dX9_load_2 ?_
  refine z_iload_n 1 dX9_load_5 rfl rfl ?_
  obtain ⟨hi_1, hf⟩ := zck_some hf
  refine z_iald (hL.t 36 rfl) hi_1 dX9_load_6 ?_
  obtain ⟨h_2, he, hf⟩ := zlet_some hf
  refine z_puti fdX9_289_7 (hL.t 0 rfl) (hL.nz 0) he dX9_load_7 ?_
  have hL := hL.I he
  refine z_aload_n 0 dX9_load_10 rfl rfl ?_
  refine z_aload_n 0 dX9_load_11 rfl rfl ?_
  refine z_getr fdX9_120_7 (Or.inr ⟨_, rfl⟩) (hL.t 0 rfl) (hL.p 36 rfl) dX9_load_12 ?_
  refine z_iload_n 1 dX9_load_15 rfl rfl ?_
  obtain ⟨hi_3, hf⟩ := zck_some hf
  refine z_iald (hL.t 37 rfl) hi_3 dX9_load_16 ?_
  obtain ⟨h_4, he, hf⟩ := zlet_some hf
  refine z_puti fdX9_286_7 (hL.t 0 rfl) (hL.nz 0) he dX9_load_17 ?_
  have hL := hL.I he
  refine z_aload_n 0 dX9_load_20 rfl rfl ?_
  refine z_aload_n 0 dX9_load_21 rfl rfl ?_
  refine z_getr fdX9_144_7 (Or.inr ⟨_, rfl⟩) (hL.t 0 rfl) (hL.p 44 rfl) dX9_load_22 ?_
  obtain ⟨h_5, he, hf⟩ := zlet_some hf
  refine z_putr fdX9_269_7 (Or.inr ⟨_, rfl⟩) (hL.t 0 rfl) (hL.nz 0) he dX9_load_25 ?_
  have hL := hL.P he (hL.t 0 rfl) (by decide)
  refine z_aload_n 0 dX9_load_28 rfl rfl ?_
  refine z_iconst 0 dX9_load_29 rfl ?_
  obtain ⟨h_6, he, hf⟩ := zlet_some hf
  refine z_puti fdX9_272_7 (hL.t 0 rfl) (hL.nz 0) he dX9_load_30 ?_
  have hL := hL.I he
  refine z_aload_n 0 dX9_load_33 rfl rfl ?_
  refine z_sipush 1200 dX9_load_34 rfl ?_
  obtain ⟨h_7, he, hf⟩ := zlet_some hf
  refine z_puti fdX9_328_7 (hL.t 0 rfl) (hL.nz 0) he dX9_load_37 ?_
  have hL := hL.I he
  refine z_iconst 0 dX9_load_40 rfl ?_
  refine z_istore_n dX9_load_41 rfl (by decide) (lc' := [(0, .ref a), (1, .int x1), (2, .int 0)]) rfl ?_
  exact z_loop (fun (s : zH × Int32) => (zBlk mB mP s.1 a → Z F 3 cX9_load RX9 "load" none [] s.1 42 [(0, .ref a), (1, .int x1), (2, .int s.2)] [])) (fun (r : zH) => ((.inl none, r) : zX) = zEnd F) (fun s y hb hs hr hL => zX9_load_L42 hD hL hb ⟨hs, hr⟩) hf hM hL
theorem ctX9_load {l : Launch} {h : zH} {a : Nat} {x1 : Int32} {h' : zH} (hL : zBlk mB mP h a) (hf : fX9_load h a x1 = some h') : zC l yX9_load (ws_ yX9_load cX9_load 3 none) 1 [.ref a, .int x1] h (.inl none, h') :=
  z_start (by decide) (Nat.le_of_ble_eq_true rfl) (zX9_load (F := (l, 1, h, (.inl none, h'))) (Nat.le_refl _) hL hf rfl)
theorem fdX9_138_7 : zFd RX9 138 7 63 (.array .int) true := ⟨_, _, _, rfl, rfl, by decide, rfl, rfl, Or.inl q1455, Or.inl rfl⟩
noncomputable def fX9_store_L3 (h : zH) (a : Nat) (x1 : Int32) (x2 : Int32) (x3 : Int32) (x4 : Int32) : Option ((zH × Int32) ⊕ (zH)) := if (zI h a 37) ≤ x4 then (some (.inr h)) else (zck (vp_in x1 4) (zck (vp_in x4 1200) (zck (vp_in ((((1200 : Int32) * x1) + (zI h (a + 42) x1.toNatClampNeg)) + x4) 4800) (zlet (zsI h (a + 43) ((((1200 : Int32) * x1) + (zI h (a + 42) x1.toNatClampNeg)) + x4).toNatClampNeg (zI h (a + 45) x4.toNatClampNeg)) (fun h_4 => some (.inl ((h_4, x4 + 1))))))))
theorem zX9_store_L3 {F : zF} {h : zH} {a : Nat} {x1 : Int32} {x2 : Int32} {x3 : Int32} {x4 : Int32} {y : (zH × Int32) ⊕ (zH)} (hD : 2 ≤ F.2.1) (hL : zBlk mB mP h a) (hf : fX9_store_L3 h a x1 x2 x3 x4 = some y) (hM : ((∀ s' : zH × Int32, y = .inl s' → (zBlk mB mP s'.1 a → Z F 5 cX9_store RX9 "store" (some .int) [] s'.1 3 [(0, .ref a), (1, .int x1), (2, .int x2), (3, .int x3), (4, .int s'.2)] [])) ∧ ∀ r : zH, y = .inr r → (zBlk mB mP r a → Z F 5 cX9_store RX9 "store" (some .int) [] r 45 [(0, .ref a), (1, .int x1), (2, .int x2), (3, .int x3)] []))) : Z F 5 cX9_store RX9 "store" (some .int) [] h 3 [(0, .ref a), (1, .int x1), (2, .int x2), (3, .int x3), (4, .int x4)] [] := by
  unfold fX9_store_L3 at hf
  refine z_iload 4 dX9_store_3 rfl ?_
  refine z_aload_n 0 dX9_store_5 rfl rfl ?_
  refine z_geti fdX9_272_7 (hL.t 0 rfl) dX9_store_6 ?_
  refine z_icmp_ge 45 dX9_store_9 rfl hf (fun _ hf => ?_) (fun _ hf => ?_)
  · cases hf
    refine z_sub [0, 1, 2, 3] rfl ?_
    exact (hM.2 _ rfl) hL
  · refine z_aload_n 0 dX9_store_12 rfl rfl ?_
    refine z_getr fdX9_138_7 (Or.inr ⟨_, rfl⟩) (hL.t 0 rfl) (hL.p 42 rfl) dX9_store_13 ?_
    refine z_sipush 1200 dX9_store_16 rfl ?_
    refine z_iload_n 1 dX9_store_19 rfl rfl ?_
    refine z_imul dX9_store_20 ?_
    refine z_aload_n 0 dX9_store_21 rfl rfl ?_
    refine z_getr fdX9_135_7 (Or.inr ⟨_, rfl⟩) (hL.t 0 rfl) (hL.p 41 rfl) dX9_store_22 ?_
    refine z_iload_n 1 dX9_store_25 rfl rfl ?_
    obtain ⟨hi_1, hf⟩ := zck_some hf
    refine z_iald (hL.t 42 rfl) hi_1 dX9_store_26 ?_
    refine z_iadd dX9_store_27 ?_
    refine z_iload 4 dX9_store_28 rfl ?_
    refine z_iadd dX9_store_30 ?_
    refine z_aload_n 0 dX9_store_31 rfl rfl ?_
    refine z_getr fdX9_144_7 (Or.inr ⟨_, rfl⟩) (hL.t 0 rfl) (hL.p 44 rfl) dX9_store_32 ?_
    refine z_iload 4 dX9_store_35 rfl ?_
    obtain ⟨hi_2, hf⟩ := zck_some hf
    refine z_iald (hL.t 45 rfl) hi_2 dX9_store_37 ?_
    obtain ⟨hi_3, hf⟩ := zck_some hf
    obtain ⟨h_4, he, hf⟩ := zlet_some hf
    refine z_iast (hL.t 43 rfl) (hL.nz 43) hi_3 he dX9_store_38 ?_
    have hL := hL.I he
    refine z_iinc 4 (x4 + 1) dX9_store_39 rfl rfl (by decide) (lc' := [(0, .ref a), (1, .int x1), (2, .int x2), (3, .int x3), (4, .int (x4 + 1))]) rfl ?_
    refine z_goto 3 dX9_store_42 rfl ?_
    cases hf
    exact (hM.1 _ rfl) hL
noncomputable def fX9_store_J85 (h : zH) (a : Nat) (x1 : Int32) (x2 : Int32) (x3 : Int32) (k0 : Int32) (k1 : Int32) : Option (Int32 × zH) := zck (vp_in k1 4) (zlet (zsI h (a + 37) k1.toNatClampNeg k0) (fun h_12 => if x2 = 0 then (zck (vp_in x1 4) (some ((zI h_12 (a + 42) x1.toNatClampNeg, h_12)))) else (zlet (zsI h_12 a 22 x3) (fun h_14 => zck (vp_in x1 4) (zlet (zsI h_14 (a + 38) x1.toNatClampNeg 0) (fun h_16 => zck (vp_in x1 4) (zlet (zsI h_16 (a + 41) x1.toNatClampNeg 2) (fun h_18 => zb2 (fX9_tell h_18 a x2) (fun v_20 h_21 => some ((v_20, h_21)))))))))))
theorem zX9_store_J85 {F : zF} {h : zH} {a : Nat} {x1 : Int32} {x2 : Int32} {x3 : Int32} {k0 : Int32} {k1 : Int32} {y : Int32 × zH} (hD : 2 ≤ F.2.1) (hL : zBlk mB mP h a) (hf : fX9_store_J85 h a x1 x2 x3 k0 k1 = some y) (hM : ((.inl (some (.int y.1)), y.2) : zX) = zEnd F) : Z F 5 cX9_store RX9 "store" (some .int) [] h 85 [(0, .ref a), (1, .int x1), (2, .int x2), (3, .int x3)] [.int k0, .int k1, .ref (a + 37)] := by
  unfold fX9_store_J85 at hf
  obtain ⟨hi_11, hf⟩ := zck_some hf
  obtain ⟨h_12, he, hf⟩ := zlet_some hf
  refine z_iast (hL.t 37 rfl) (hL.nz 37) hi_11 he dX9_store_85 ?_
  have hL := hL.I he
  refine z_iload_n 2 dX9_store_86 rfl rfl ?_
  refine z_if_eq 115 dX9_store_87 rfl hf (fun _ hf => ?_) (fun _ hf => ?_)
  · refine z_aload_n 0 dX9_store_115 rfl rfl ?_
    refine z_getr fdX9_135_7 (Or.inr ⟨_, rfl⟩) (hL.t 0 rfl) (hL.p 41 rfl) dX9_store_116 ?_
    refine z_iload_n 1 dX9_store_119 rfl rfl ?_
    obtain ⟨hi_13, hf⟩ := zck_some hf
    refine z_iald (hL.t 42 rfl) hi_13 dX9_store_120 ?_
    cases hf
    exact z_iret dX9_store_121 rfl hM
  · refine z_aload_n 0 dX9_store_90 rfl rfl ?_
    refine z_iload_n 3 dX9_store_91 rfl rfl ?_
    obtain ⟨h_14, he, hf⟩ := zlet_some hf
    refine z_puti fdX9_321_7 (hL.t 0 rfl) (hL.nz 0) he dX9_store_92 ?_
    have hL := hL.I he
    refine z_aload_n 0 dX9_store_95 rfl rfl ?_
    refine z_getr fdX9_123_7 (Or.inr ⟨_, rfl⟩) (hL.t 0 rfl) (hL.p 37 rfl) dX9_store_96 ?_
    refine z_iload_n 1 dX9_store_99 rfl rfl ?_
    refine z_iconst 0 dX9_store_100 rfl ?_
    obtain ⟨hi_15, hf⟩ := zck_some hf
    obtain ⟨h_16, he, hf⟩ := zlet_some hf
    refine z_iast (hL.t 38 rfl) (hL.nz 38) hi_15 he dX9_store_101 ?_
    have hL := hL.I he
    refine z_aload_n 0 dX9_store_102 rfl rfl ?_
    refine z_getr fdX9_132_7 (Or.inr ⟨_, rfl⟩) (hL.t 0 rfl) (hL.p 40 rfl) dX9_store_103 ?_
    refine z_iload_n 1 dX9_store_106 rfl rfl ?_
    refine z_iconst 2 dX9_store_107 rfl ?_
    obtain ⟨hi_17, hf⟩ := zck_some hf
    obtain ⟨h_18, he, hf⟩ := zlet_some hf
    refine z_iast (hL.t 41 rfl) (hL.nz 41) hi_17 he dX9_store_108 ?_
    have hL := hL.I he
    refine z_aload_n 0 dX9_store_109 rfl rfl ?_
    refine z_iload_n 2 dX9_store_110 rfl rfl ?_
    obtain ⟨v_20, h_21, hc_19, hf⟩ := zb2_some hf
    have hct := ctX9_tell (l := F.1) hL hc_19
    refine z_invVi svX9_166_7 hct (hL.t 0 rfl) ⟨Nat.le_trans (by decide) hD, by decide⟩ rfl rfl (Nat.le_of_ble_eq_true rfl) dX9_store_111 ?_
    have hL := hL.ext mOk hct.1
    cases hf
    exact z_iret dX9_store_114 rfl hM
noncomputable def fX9_store (h : zH) (a : Nat) (x1 : Int32) (x2 : Int32) (x3 : Int32) : Option (Int32 × zH) := zb1 (zlp (fun s => fX9_store_L3 s.1 a x1 x2 x3 s.2) (h, 0)) (fun t_5 => zck (vp_in x1 4) (zck (vp_in x1 4) (zlet (zsI t_5 (a + 42) x1.toNatClampNeg ((zI t_5 (a + 42) x1.toNatClampNeg) + (zI t_5 a 37))) (fun h_8 => zck (vp_in x1 4) (zlet (zsI h_8 (a + 36) x1.toNatClampNeg (zI h_8 a 34)) (fun h_10 => if x2 = 0 then (fX9_store_J85 h_10 a x1 x2 x3 (zI h_10 a 35) x1) else (fX9_store_J85 h_10 a x1 x2 x3 4 x1)))))))
theorem zX9_store {F : zF} {h : zH} {a : Nat} {x1 : Int32} {x2 : Int32} {x3 : Int32} {y : Int32 × zH} (hD : 2 ≤ F.2.1) (hL : zBlk mB mP h a) (hf : fX9_store h a x1 x2 x3 = some y) (hM : ((.inl (some (.int y.1)), y.2) : zX) = zEnd F) : Z F 5 cX9_store RX9 "store" (some .int) [] h 0 [(0, .ref a), (1, .int x1), (2, .int x2), (3, .int x3)] [] := by
  unfold fX9_store at hf
  refine z_iconst 0 dX9_store_0 rfl ?_
  refine z_istore dX9_store_1 (by decide) (lc' := [(0, .ref a), (1, .int x1), (2, .int x2), (3, .int x3), (4, .int 0)]) rfl ?_
  obtain ⟨t_5, hl, hf⟩ := zb1_some hf
  refine z_loop (fun (s : zH × Int32) => (zBlk mB mP s.1 a → Z F 5 cX9_store RX9 "store" (some .int) [] s.1 3 [(0, .ref a), (1, .int x1), (2, .int x2), (3, .int x3), (4, .int s.2)] [])) (fun (r : zH) => (zBlk mB mP r a → Z F 5 cX9_store RX9 "store" (some .int) [] r 45 [(0, .ref a), (1, .int x1), (2, .int x2), (3, .int x3)] [])) (fun s y hb hs hr hL => zX9_store_L3 hD hL hb ⟨hs, hr⟩) hl ?_ hL
  intro hL
  show Z F 5 cX9_store RX9 "store" (some .int) [] t_5 45 [(0, .ref a), (1, .int x1), (2, .int x2), (3, .int x3)] []
  refine z_aload_n 0 dX9_store_45 rfl rfl ?_
  refine z_getr fdX9_135_7 (Or.inr ⟨_, rfl⟩) (hL.t 0 rfl) (hL.p 41 rfl) dX9_store_46 ?_
  refine z_iload_n 1 dX9_store_49 rfl rfl ?_
  refine z_dup2 dX9_store_50 rfl rfl ?_
  obtain ⟨hi_6, hf⟩ := zck_some hf
  refine z_iald (hL.t 42 rfl) hi_6 dX9_store_51 ?_
  refine z_aload_n 0 dX9_store_52 rfl rfl ?_
  refine z_geti fdX9_272_7 (hL.t 0 rfl) dX9_store_53 ?_
  refine z_iadd dX9_store_56 ?_
  obtain ⟨hi_7, hf⟩ := zck_some hf
  obtain ⟨h_8, he, hf⟩ := zlet_some hf
  refine z_iast (hL.t 42 rfl) (hL.nz 42) hi_7 he dX9_store_57 ?_
  have hL := hL.I he
  refine z_aload_n 0 dX9_store_58 rfl rfl ?_
  refine z_getr fdX9_117_7 (Or.inr ⟨_, rfl⟩) (hL.t 0 rfl) (hL.p 35 rfl) dX9_store_59 ?_
  refine z_iload_n 1 dX9_store_62 rfl rfl ?_
  refine z_aload_n 0 dX9_store_63 rfl rfl ?_
  refine z_geti fdX9_289_7 (hL.t 0 rfl) dX9_store_64 ?_
  obtain ⟨hi_9, hf⟩ := zck_some hf
  obtain ⟨h_10, he, hf⟩ := zlet_some hf
  refine z_iast (hL.t 36 rfl) (hL.nz 36) hi_9 he dX9_store_67 ?_
  have hL := hL.I he
  refine z_aload_n 0 dX9_store_68 rfl rfl ?_
  refine z_getr fdX9_120_7 (Or.inr ⟨_, rfl⟩) (hL.t 0 rfl) (hL.p 36 rfl) dX9_store_69 ?_
  refine z_iload_n 1 dX9_store_72 rfl rfl ?_
  refine z_iload_n 2 dX9_store_73 rfl rfl ?_
  refine z_if_eq 81 dX9_store_74 rfl hf (fun _ hf => ?_) (fun _ hf => ?_)
  · refine z_aload_n 0 dX9_store_81 rfl rfl ?_
    refine z_geti fdX9_286_7 (hL.t 0 rfl) dX9_store_82 ?_
    exact zX9_store_J85 hD hL hf hM
  · refine z_iconst 4 dX9_store_77 rfl ?_
    refine z_goto 85 dX9_store_78 rfl ?_
    exact zX9_store_J85 hD hL hf hM
theorem ctX9_store {l : Launch} {h : zH} {a : Nat} {x1 : Int32} {x2 : Int32} {x3 : Int32} {v : Int32} {h' : zH} (hL : zBlk mB mP h a) (hf : fX9_store h a x1 x2 x3 = some (v, h')) : zC l yX9_store (ws_ yX9_store cX9_store 5 (some .int)) 2 [.ref a, .int x1, .int x2, .int x3] h (.inl (some (.int v)), h') :=
  z_start (by decide) (Nat.le_of_ble_eq_true rfl) (zX9_store (F := (l, 2, h, (.inl (some (.int v)), h'))) (Nat.le_refl _) hL hf rfl)
theorem svX9_388_7 : zIv RX9 388 yX9_load (ws_ yX9_load cX9_load 3 none) 3 7 1 := ⟨zGood_c q1877 q109, ⟨_, _, rfl, rfl, qs87⟩, Or.inl q1874, q1876, ⟨by decide, by decide⟩, by decide +kernel⟩
theorem svX9_391_7 : zIv RX9 391 yX9_store (ws_ yX9_store cX9_store 5 (some .int)) 5 7 3 := ⟨zGood_c q1881 q109, ⟨_, _, rfl, rfl, qs88⟩, Or.inl q1878, q1880, ⟨by decide, by decide⟩, by decide +kernel⟩
noncomputable def fX9_writes_J239 (h : zH) (a : Nat) (x1 : Int32) (x2 : Int32) (x3 : Int32) (x4 : Int32) (x5 : Int32) : Option (Int32 × zH) := if x4 = 0 then (if 0 ≤ x2 then (zb2 (fX9_store h a x1 x4 x5) (fun v_13 h_14 => some ((v_13, h_14)))) else (zb2 (fX9_goHome h a x3) (fun v_16 h_17 => zb2 (fX9_store h_17 a x1 v_16 x5) (fun v_19 h_20 => some ((v_19, h_20)))))) else (zb2 (fX9_store h a x1 x4 x5) (fun v_10 h_11 => some ((v_10, h_11))))
theorem zX9_writes_J239 {F : zF} {h : zH} {a : Nat} {x1 : Int32} {x2 : Int32} {x3 : Int32} {x4 : Int32} {x5 : Int32} {y : Int32 × zH} (hD : 66 ≤ F.2.1) (hL : zBlk mB mP h a) (hf : fX9_writes_J239 h a x1 x2 x3 x4 x5 = some y) (hM : ((.inl (some (.int y.1)), y.2) : zX) = zEnd F) : Z F 7 cX9_writes RX9 "writes" (some .int) [] h 239 [(0, .ref a), (1, .int x1), (2, .int x2), (3, .int x3), (4, .int x4), (5, .int x5)] [] := by
  unfold fX9_writes_J239 at hf
  refine z_iload 4 dX9_writes_239 rfl ?_
  refine z_if_ne 255 dX9_writes_241 rfl hf (fun _ hf => ?_) (fun _ hf => ?_)
  · refine z_aload_n 0 dX9_writes_255 rfl rfl ?_
    refine z_iload_n 1 dX9_writes_256 rfl rfl ?_
    refine z_iload 4 dX9_writes_257 rfl ?_
    refine z_iload 5 dX9_writes_259 rfl ?_
    obtain ⟨v_10, h_11, hc_9, hf⟩ := zb2_some hf
    have hct := ctX9_store (l := F.1) hL hc_9
    refine z_invVi svX9_391_7 hct (hL.t 0 rfl) ⟨Nat.le_trans (by decide) hD, by decide⟩ rfl rfl (Nat.le_of_ble_eq_true rfl) dX9_writes_261 ?_
    have hL := hL.ext mOk hct.1
    cases hf
    exact z_iret dX9_writes_264 rfl hM
  · refine z_iload_n 2 dX9_writes_244 rfl rfl ?_
    refine z_if_ge 255 dX9_writes_245 rfl hf (fun _ hf => ?_) (fun _ hf => ?_)
    · refine z_aload_n 0 dX9_writes_255 rfl rfl ?_
      refine z_iload_n 1 dX9_writes_256 rfl rfl ?_
      refine z_iload 4 dX9_writes_257 rfl ?_
      refine z_iload 5 dX9_writes_259 rfl ?_
      obtain ⟨v_13, h_14, hc_12, hf⟩ := zb2_some hf
      have hct := ctX9_store (l := F.1) hL hc_12
      refine z_invVi svX9_391_7 hct (hL.t 0 rfl) ⟨Nat.le_trans (by decide) hD, by decide⟩ rfl rfl (Nat.le_of_ble_eq_true rfl) dX9_writes_261 ?_
      have hL := hL.ext mOk hct.1
      cases hf
      exact z_iret dX9_writes_264 rfl hM
    · refine z_aload_n 0 dX9_writes_248 rfl rfl ?_
      refine z_iload_n 3 dX9_writes_249 rfl rfl ?_
      obtain ⟨v_16, h_17, hc_15, hf⟩ := zb2_some hf
      have hct := ctX9_goHome (l := F.1) hL hc_15
      refine z_invVi svX9_367_7 hct (hL.t 0 rfl) ⟨Nat.le_trans (by decide) hD, by decide⟩ rfl rfl (Nat.le_of_ble_eq_true rfl) dX9_writes_250 ?_
      have hL := hL.ext mOk hct.1
      refine z_istore dX9_writes_253 (by decide) (lc' := [(0, .ref a), (1, .int x1), (2, .int x2), (3, .int x3), (4, .int v_16), (5, .int x5)]) rfl ?_
      refine z_aload_n 0 dX9_writes_255 rfl rfl ?_
      refine z_iload_n 1 dX9_writes_256 rfl rfl ?_
      refine z_iload 4 dX9_writes_257 rfl ?_
      refine z_iload 5 dX9_writes_259 rfl ?_
      obtain ⟨v_19, h_20, hc_18, hf⟩ := zb2_some hf
      have hct := ctX9_store (l := F.1) hL hc_18
      refine z_invVi svX9_391_7 hct (hL.t 0 rfl) ⟨Nat.le_trans (by decide) hD, by decide⟩ rfl rfl (Nat.le_of_ble_eq_true rfl) dX9_writes_261 ?_
      have hL := hL.ext mOk hct.1
      cases hf
      exact z_iret dX9_writes_264 rfl hM
noncomputable def fX9_writes_J237 (h : zH) (a : Nat) (x1 : Int32) (x2 : Int32) (x3 : Int32) (x5 : Int32) (k0 : Int32) : Option (Int32 × zH) := fX9_writes_J239 h a x1 x2 x3 k0 x5
theorem zX9_writes_J237 {F : zF} {h : zH} {a : Nat} {x1 : Int32} {x2 : Int32} {x3 : Int32} {x5 : Int32} {k0 : Int32} {y : Int32 × zH} (hD : 66 ≤ F.2.1) (hL : zBlk mB mP h a) (hf : fX9_writes_J237 h a x1 x2 x3 x5 k0 = some y) (hM : ((.inl (some (.int y.1)), y.2) : zX) = zEnd F) : Z F 7 cX9_writes RX9 "writes" (some .int) [] h 237 [(0, .ref a), (1, .int x1), (2, .int x2), (3, .int x3), (5, .int x5)] [.int k0] := by
  unfold fX9_writes_J237 at hf
  refine z_istore dX9_writes_237 (by decide) (lc' := [(0, .ref a), (1, .int x1), (2, .int x2), (3, .int x3), (4, .int k0), (5, .int x5)]) rfl ?_
  exact zX9_writes_J239 hD hL hf hM
noncomputable def fX9_writes_J167 (h : zH) (a : Nat) (x1 : Int32) (x2 : Int32) (x3 : Int32) (x4 : Int32) (x5 : Int32) : Option (Int32 × zH) := if x4 = 0 then (if x2 < 0 then (fX9_writes_J239 h a x1 x2 x3 x4 x5) else (zb1 (fX9_isHigh x2) (fun v_22 => if v_22 = 0 then (zb1 (fX9_isLow x2) (fun v_24 => if v_24 = 0 then (zck (vp_in x1 4) (zb2 (fX9_writePoint h a x3 (zI h (a + 35) x1.toNatClampNeg) x2) (fun v_27 h_28 => fX9_writes_J237 h_28 a x1 x2 x3 x5 v_27))) else (zck (vp_in x1 4) (zb2 (fX9_writeLone h a x3 (zI h (a + 35) x1.toNatClampNeg) x2) (fun v_31 h_32 => fX9_writes_J237 h_32 a x1 x2 x3 x5 v_31))))) else (zck (vp_in ((8 : Int32) * x1) 32) (zlet (zsI h (a + 39) ((8 : Int32) * x1).toNatClampNeg x2) (fun h_34 => zck (vp_in x1 4) (zlet (zsI h_34 (a + 38) x1.toNatClampNeg 1) (fun h_36 => fX9_writes_J239 h_36 a x1 x2 x3 x4 x5)))))))) else (fX9_writes_J239 h a x1 x2 x3 x4 x5)
theorem zX9_writes_J167 {F : zF} {h : zH} {a : Nat} {x1 : Int32} {x2 : Int32} {x3 : Int32} {x4 : Int32} {x5 : Int32} {y : Int32 × zH} (hD : 66 ≤ F.2.1) (hL : zBlk mB mP h a) (hf : fX9_writes_J167 h a x1 x2 x3 x4 x5 = some y) (hM : ((.inl (some (.int y.1)), y.2) : zX) = zEnd F) : Z F 7 cX9_writes RX9 "writes" (some .int) [] h 167 [(0, .ref a), (1, .int x1), (2, .int x2), (3, .int x3), (4, .int x4), (5, .int x5)] [] := by
  unfold fX9_writes_J167 at hf
  refine z_iload 4 dX9_writes_167 rfl ?_
  refine z_if_ne 239 dX9_writes_169 rfl hf (fun _ hf => ?_) (fun _ hf => ?_)
  · exact zX9_writes_J239 hD hL hf hM
  · refine z_iload_n 2 dX9_writes_172 rfl rfl ?_
    refine z_if_lt 239 dX9_writes_173 rfl hf (fun _ hf => ?_) (fun _ hf => ?_)
    · exact zX9_writes_J239 hD hL hf hM
    · refine z_iload_n 2 dX9_writes_176 rfl rfl ?_
      obtain ⟨v_22, hc_21, hf⟩ := zb1_some hf
      refine z_invSi ssX9_304 (ctX9_isHigh hc_21) ⟨Nat.le_trans (by decide) hD, by decide⟩ rfl rfl (Nat.le_of_ble_eq_true rfl) dX9_writes_177 ?_
      refine z_if_eq 203 dX9_writes_180 rfl hf (fun _ hf => ?_) (fun _ hf => ?_)
      · refine z_iload_n 2 dX9_writes_203 rfl rfl ?_
        obtain ⟨v_24, hc_23, hf⟩ := zb1_some hf
        refine z_invSi ssX9_301 (ctX9_isLow hc_23) ⟨Nat.le_trans (by decide) hD, by decide⟩ rfl rfl (Nat.le_of_ble_eq_true rfl) dX9_writes_204 ?_
        refine z_if_eq 225 dX9_writes_207 rfl hf (fun _ hf => ?_) (fun _ hf => ?_)
        · refine z_aload_n 0 dX9_writes_225 rfl rfl ?_
          refine z_iload_n 3 dX9_writes_226 rfl rfl ?_
          refine z_aload_n 0 dX9_writes_227 rfl rfl ?_
          refine z_getr fdX9_114_7 (Or.inr ⟨_, rfl⟩) (hL.t 0 rfl) (hL.p 34 rfl) dX9_writes_228 ?_
          refine z_iload_n 1 dX9_writes_231 rfl rfl ?_
          obtain ⟨hi_25, hf⟩ := zck_some hf
          refine z_iald (hL.t 35 rfl) hi_25 dX9_writes_232 ?_
          refine z_iload_n 2 dX9_writes_233 rfl rfl ?_
          obtain ⟨v_27, h_28, hc_26, hf⟩ := zb2_some hf
          have hct := ctX9_writePoint (l := F.1) hL hc_26
          refine z_invVi svX9_361_7 hct (hL.t 0 rfl) ⟨Nat.le_trans (by decide) hD, by decide⟩ rfl rfl (Nat.le_of_ble_eq_true rfl) dX9_writes_234 ?_
          have hL := hL.ext mOk hct.1
          refine z_sub [0, 1, 2, 3, 5] rfl ?_
          exact zX9_writes_J237 hD hL hf hM
        · refine z_aload_n 0 dX9_writes_210 rfl rfl ?_
          refine z_iload_n 3 dX9_writes_211 rfl rfl ?_
          refine z_aload_n 0 dX9_writes_212 rfl rfl ?_
          refine z_getr fdX9_114_7 (Or.inr ⟨_, rfl⟩) (hL.t 0 rfl) (hL.p 34 rfl) dX9_writes_213 ?_
          refine z_iload_n 1 dX9_writes_216 rfl rfl ?_
          obtain ⟨hi_29, hf⟩ := zck_some hf
          refine z_iald (hL.t 35 rfl) hi_29 dX9_writes_217 ?_
          refine z_iload_n 2 dX9_writes_218 rfl rfl ?_
          obtain ⟨v_31, h_32, hc_30, hf⟩ := zb2_some hf
          have hct := ctX9_writeLone (l := F.1) hL hc_30
          refine z_invVi svX9_364_7 hct (hL.t 0 rfl) ⟨Nat.le_trans (by decide) hD, by decide⟩ rfl rfl (Nat.le_of_ble_eq_true rfl) dX9_writes_219 ?_
          have hL := hL.ext mOk hct.1
          refine z_goto 237 dX9_writes_222 rfl ?_
          refine z_sub [0, 1, 2, 3, 5] rfl ?_
          exact zX9_writes_J237 hD hL hf hM
      · refine z_aload_n 0 dX9_writes_183 rfl rfl ?_
        refine z_getr fdX9_126_7 (Or.inr ⟨_, rfl⟩) (hL.t 0 rfl) (hL.p 38 rfl) dX9_writes_184 ?_
        refine z_bipush 8 dX9_writes_187 rfl ?_
        refine z_iload_n 1 dX9_writes_189 rfl rfl ?_
        refine z_imul dX9_writes_190 ?_
        refine z_iload_n 2 dX9_writes_191 rfl rfl ?_
        obtain ⟨hi_33, hf⟩ := zck_some hf
        obtain ⟨h_34, he, hf⟩ := zlet_some hf
        refine z_iast (hL.t 39 rfl) (hL.nz 39) hi_33 he dX9_writes_192 ?_
        have hL := hL.I he
        refine z_aload_n 0 dX9_writes_193 rfl rfl ?_
        refine z_getr fdX9_123_7 (Or.inr ⟨_, rfl⟩) (hL.t 0 rfl) (hL.p 37 rfl) dX9_writes_194 ?_
        refine z_iload_n 1 dX9_writes_197 rfl rfl ?_
        refine z_iconst 1 dX9_writes_198 rfl ?_
        obtain ⟨hi_35, hf⟩ := zck_some hf
        obtain ⟨h_36, he, hf⟩ := zlet_some hf
        refine z_iast (hL.t 38 rfl) (hL.nz 38) hi_35 he dX9_writes_199 ?_
        have hL := hL.I he
        refine z_goto 239 dX9_writes_200 rfl ?_
        exact zX9_writes_J239 hD hL hf hM
noncomputable def fX9_writes_J66 (h : zH) (a : Nat) (x1 : Int32) (x2 : Int32) (x3 : Int32) (x4 : Int32) (x5 : Int32) (k0 : Int32) : Option (Int32 × zH) := if k0 = 0 then (zck (vp_in x1 4) (if (zI h (a + 38) x1.toNatClampNeg) = 1 then (zck (vp_in x1 4) (zck (vp_in 0 8) (zb2 (fX9_writeLone h a x3 (zI h (a + 35) x1.toNatClampNeg) (zI h (a + 44) (0 : Int32).toNatClampNeg)) (fun v_40 h_41 => zck (vp_in x1 4) (zlet (zsI h_41 (a + 38) x1.toNatClampNeg 0) (fun h_43 => if v_40 = 0 then (fX9_writes_J167 h_43 a x1 x2 x3 v_40 (x5 + 1)) else (fX9_writes_J167 h_43 a x1 x2 x3 v_40 x5))))))) else (fX9_writes_J167 h a x1 x2 x3 x4 x5))) else (zck (vp_in x1 4) (zck (vp_in 0 8) (zb2 (fX9_writePoint h a x3 (zI h (a + 35) x1.toNatClampNeg) ((((65536 : Int32) + (((zI h (a + 44) (0 : Int32).toNatClampNeg) - 55296) <<< (10 &&& 31))) + x2) - 56320)) (fun v_47 h_48 => zck (vp_in x1 4) (zlet (zsI h_48 (a + 38) x1.toNatClampNeg 0) (fun h_50 => zb2 (fX9_store h_50 a x1 v_47 x5) (fun v_52 h_53 => some ((v_52, h_53)))))))))
theorem zX9_writes_J66 {F : zF} {h : zH} {a : Nat} {x1 : Int32} {x2 : Int32} {x3 : Int32} {x4 : Int32} {x5 : Int32} {k0 : Int32} {y : Int32 × zH} (hD : 66 ≤ F.2.1) (hL : zBlk mB mP h a) (hf : fX9_writes_J66 h a x1 x2 x3 x4 x5 k0 = some y) (hM : ((.inl (some (.int y.1)), y.2) : zX) = zEnd F) : Z F 7 cX9_writes RX9 "writes" (some .int) [] h 66 [(0, .ref a), (1, .int x1), (2, .int x2), (3, .int x3), (4, .int x4), (5, .int x5)] [.int k0] := by
  unfold fX9_writes_J66 at hf
  refine z_istore dX9_writes_66 (by decide) (lc' := [(0, .ref a), (1, .int x1), (2, .int x2), (3, .int x3), (4, .int x4), (5, .int x5), (6, .int k0)]) rfl ?_
  refine z_iload 6 dX9_writes_68 rfl ?_
  refine z_if_eq 123 dX9_writes_70 rfl hf (fun _ hf => ?_) (fun _ hf => ?_)
  · refine z_aload_n 0 dX9_writes_123 rfl rfl ?_
    refine z_getr fdX9_123_7 (Or.inr ⟨_, rfl⟩) (hL.t 0 rfl) (hL.p 37 rfl) dX9_writes_124 ?_
    refine z_iload_n 1 dX9_writes_127 rfl rfl ?_
    obtain ⟨hi_8, hf⟩ := zck_some hf
    refine z_iald (hL.t 38 rfl) hi_8 dX9_writes_128 ?_
    refine z_iconst 1 dX9_writes_129 rfl ?_
    refine z_icmp_ne 167 dX9_writes_130 rfl hf (fun _ hf => ?_) (fun _ hf => ?_)
    · refine z_sub [0, 1, 2, 3, 4, 5] rfl ?_
      exact zX9_writes_J167 hD hL hf hM
    · refine z_aload_n 0 dX9_writes_133 rfl rfl ?_
      refine z_iload_n 3 dX9_writes_134 rfl rfl ?_
      refine z_aload_n 0 dX9_writes_135 rfl rfl ?_
      refine z_getr fdX9_114_7 (Or.inr ⟨_, rfl⟩) (hL.t 0 rfl) (hL.p 34 rfl) dX9_writes_136 ?_
      refine z_iload_n 1 dX9_writes_139 rfl rfl ?_
      obtain ⟨hi_37, hf⟩ := zck_some hf
      refine z_iald (hL.t 35 rfl) hi_37 dX9_writes_140 ?_
      refine z_aload_n 0 dX9_writes_141 rfl rfl ?_
      refine z_getr fdX9_141_7 (Or.inr ⟨_, rfl⟩) (hL.t 0 rfl) (hL.p 43 rfl) dX9_writes_142 ?_
      refine z_iconst 0 dX9_writes_145 rfl ?_
      obtain ⟨hi_38, hf⟩ := zck_some hf
      refine z_iald (hL.t 44 rfl) hi_38 dX9_writes_146 ?_
      obtain ⟨v_40, h_41, hc_39, hf⟩ := zb2_some hf
      have hct := ctX9_writeLone (l := F.1) hL hc_39
      refine z_invVi svX9_364_7 hct (hL.t 0 rfl) ⟨Nat.le_trans (by decide) hD, by decide⟩ rfl rfl (Nat.le_of_ble_eq_true rfl) dX9_writes_147 ?_
      have hL := hL.ext mOk hct.1
      refine z_istore dX9_writes_150 (by decide) (lc' := [(0, .ref a), (1, .int x1), (2, .int x2), (3, .int x3), (4, .int v_40), (5, .int x5), (6, .int k0)]) rfl ?_
      refine z_aload_n 0 dX9_writes_152 rfl rfl ?_
      refine z_getr fdX9_123_7 (Or.inr ⟨_, rfl⟩) (hL.t 0 rfl) (hL.p 37 rfl) dX9_writes_153 ?_
      refine z_iload_n 1 dX9_writes_156 rfl rfl ?_
      refine z_iconst 0 dX9_writes_157 rfl ?_
      obtain ⟨hi_42, hf⟩ := zck_some hf
      obtain ⟨h_43, he, hf⟩ := zlet_some hf
      refine z_iast (hL.t 38 rfl) (hL.nz 38) hi_42 he dX9_writes_158 ?_
      have hL := hL.I he
      refine z_iload 4 dX9_writes_159 rfl ?_
      refine z_if_ne 167 dX9_writes_161 rfl hf (fun _ hf => ?_) (fun _ hf => ?_)
      · refine z_sub [0, 1, 2, 3, 4, 5] rfl ?_
        exact zX9_writes_J167 hD hL hf hM
      · refine z_iinc 5 (x5 + 1) dX9_writes_164 rfl rfl (by decide) (lc' := [(0, .ref a), (1, .int x1), (2, .int x2), (3, .int x3), (4, .int v_40), (5, .int (x5 + 1)), (6, .int k0)]) rfl ?_
        refine z_sub [0, 1, 2, 3, 4, 5] rfl ?_
        exact zX9_writes_J167 hD hL hf hM
  · refine z_aload_n 0 dX9_writes_73 rfl rfl ?_
    refine z_iload_n 3 dX9_writes_74 rfl rfl ?_
    refine z_aload_n 0 dX9_writes_75 rfl rfl ?_
    refine z_getr fdX9_114_7 (Or.inr ⟨_, rfl⟩) (hL.t 0 rfl) (hL.p 34 rfl) dX9_writes_76 ?_
    refine z_iload_n 1 dX9_writes_79 rfl rfl ?_
    obtain ⟨hi_44, hf⟩ := zck_some hf
    refine z_iald (hL.t 35 rfl) hi_44 dX9_writes_80 ?_
    refine z_ldc q1712 dX9_writes_81 ?_
    refine z_aload_n 0 dX9_writes_83 rfl rfl ?_
    refine z_getr fdX9_141_7 (Or.inr ⟨_, rfl⟩) (hL.t 0 rfl) (hL.p 43 rfl) dX9_writes_84 ?_
    refine z_iconst 0 dX9_writes_87 rfl ?_
    obtain ⟨hi_45, hf⟩ := zck_some hf
    refine z_iald (hL.t 44 rfl) hi_45 dX9_writes_88 ?_
    refine z_ldc q1642 dX9_writes_89 ?_
    refine z_isub dX9_writes_91 ?_
    refine z_bipush 10 dX9_writes_92 rfl ?_
    refine z_ishl dX9_writes_94 ?_
    refine z_iadd dX9_writes_95 ?_
    refine z_iload_n 2 dX9_writes_96 rfl rfl ?_
    refine z_iadd dX9_writes_97 ?_
    refine z_ldc q1724 dX9_writes_98 ?_
    refine z_isub dX9_writes_100 ?_
    obtain ⟨v_47, h_48, hc_46, hf⟩ := zb2_some hf
    have hct := ctX9_writePoint (l := F.1) hL hc_46
    refine z_invVi svX9_361_7 hct (hL.t 0 rfl) ⟨Nat.le_trans (by decide) hD, by decide⟩ rfl rfl (Nat.le_of_ble_eq_true rfl) dX9_writes_101 ?_
    have hL := hL.ext mOk hct.1
    refine z_istore dX9_writes_104 (by decide) (lc' := [(0, .ref a), (1, .int x1), (2, .int x2), (3, .int x3), (4, .int v_47), (5, .int x5), (6, .int k0)]) rfl ?_
    refine z_aload_n 0 dX9_writes_106 rfl rfl ?_
    refine z_getr fdX9_123_7 (Or.inr ⟨_, rfl⟩) (hL.t 0 rfl) (hL.p 37 rfl) dX9_writes_107 ?_
    refine z_iload_n 1 dX9_writes_110 rfl rfl ?_
    refine z_iconst 0 dX9_writes_111 rfl ?_
    obtain ⟨hi_49, hf⟩ := zck_some hf
    obtain ⟨h_50, he, hf⟩ := zlet_some hf
    refine z_iast (hL.t 38 rfl) (hL.nz 38) hi_49 he dX9_writes_112 ?_
    have hL := hL.I he
    refine z_aload_n 0 dX9_writes_113 rfl rfl ?_
    refine z_iload_n 1 dX9_writes_114 rfl rfl ?_
    refine z_iload 4 dX9_writes_115 rfl ?_
    refine z_iload 5 dX9_writes_117 rfl ?_
    obtain ⟨v_52, h_53, hc_51, hf⟩ := zb2_some hf
    have hct := ctX9_store (l := F.1) hL hc_51
    refine z_invVi svX9_391_7 hct (hL.t 0 rfl) ⟨Nat.le_trans (by decide) hD, by decide⟩ rfl rfl (Nat.le_of_ble_eq_true rfl) dX9_writes_119 ?_
    have hL := hL.ext mOk hct.1
    cases hf
    exact z_iret dX9_writes_122 rfl hM
noncomputable def fX9_writes_J65 (h : zH) (a : Nat) (x1 : Int32) (x2 : Int32) (x3 : Int32) (x4 : Int32) (x5 : Int32) : Option (Int32 × zH) := fX9_writes_J66 h a x1 x2 x3 x4 x5 0
theorem zX9_writes_J65 {F : zF} {h : zH} {a : Nat} {x1 : Int32} {x2 : Int32} {x3 : Int32} {x4 : Int32} {x5 : Int32} {y : Int32 × zH} (hD : 66 ≤ F.2.1) (hL : zBlk mB mP h a) (hf : fX9_writes_J65 h a x1 x2 x3 x4 x5 = some y) (hM : ((.inl (some (.int y.1)), y.2) : zX) = zEnd F) : Z F 7 cX9_writes RX9 "writes" (some .int) [] h 65 [(0, .ref a), (1, .int x1), (2, .int x2), (3, .int x3), (4, .int x4), (5, .int x5)] [] := by
  unfold fX9_writes_J65 at hf
  refine z_iconst 0 dX9_writes_65 rfl ?_
  exact zX9_writes_J66 hD hL hf hM
noncomputable def fX9_writes_J30 (h : zH) (a : Nat) (x1 : Int32) (x2 : Int32) (x3 : Int32) (x4 : Int32) (k0 : Int32) (k1 : Int32) : Option (Int32 × zH) := zck (vp_in x1 4) (zck (vp_in x1 4) (if (zI h (a + 38) x1.toNatClampNeg) = 1 then (if x2 < 0 then (fX9_writes_J65 h a x1 x2 x3 x4 ((k1 - k0) - (zI h (a + 38) x1.toNatClampNeg))) else (zb1 (fX9_isLow x2) (fun v_55 => if v_55 = 0 then (fX9_writes_J65 h a x1 x2 x3 x4 ((k1 - k0) - (zI h (a + 38) x1.toNatClampNeg))) else (fX9_writes_J66 h a x1 x2 x3 x4 ((k1 - k0) - (zI h (a + 38) x1.toNatClampNeg)) 1)))) else (fX9_writes_J65 h a x1 x2 x3 x4 ((k1 - k0) - (zI h (a + 38) x1.toNatClampNeg)))))
theorem zX9_writes_J30 {F : zF} {h : zH} {a : Nat} {x1 : Int32} {x2 : Int32} {x3 : Int32} {x4 : Int32} {k0 : Int32} {k1 : Int32} {y : Int32 × zH} (hD : 66 ≤ F.2.1) (hL : zBlk mB mP h a) (hf : fX9_writes_J30 h a x1 x2 x3 x4 k0 k1 = some y) (hM : ((.inl (some (.int y.1)), y.2) : zX) = zEnd F) : Z F 7 cX9_writes RX9 "writes" (some .int) [] h 30 [(0, .ref a), (1, .int x1), (2, .int x2), (3, .int x3), (4, .int x4)] [.int k0, .int k1] := by
  unfold fX9_writes_J30 at hf
  refine z_isub dX9_writes_30 ?_
  refine z_aload_n 0 dX9_writes_31 rfl rfl ?_
  refine z_getr fdX9_123_7 (Or.inr ⟨_, rfl⟩) (hL.t 0 rfl) (hL.p 37 rfl) dX9_writes_32 ?_
  refine z_iload_n 1 dX9_writes_35 rfl rfl ?_
  obtain ⟨hi_6, hf⟩ := zck_some hf
  refine z_iald (hL.t 38 rfl) hi_6 dX9_writes_36 ?_
  refine z_isub dX9_writes_37 ?_
  refine z_istore dX9_writes_38 (by decide) (lc' := [(0, .ref a), (1, .int x1), (2, .int x2), (3, .int x3), (4, .int x4), (5, .int ((k1 - k0) - (zI h (a + 38) x1.toNatClampNeg)))]) rfl ?_
  refine z_aload_n 0 dX9_writes_40 rfl rfl ?_
  refine z_getr fdX9_123_7 (Or.inr ⟨_, rfl⟩) (hL.t 0 rfl) (hL.p 37 rfl) dX9_writes_41 ?_
  refine z_iload_n 1 dX9_writes_44 rfl rfl ?_
  obtain ⟨hi_7, hf⟩ := zck_some hf
  refine z_iald (hL.t 38 rfl) hi_7 dX9_writes_45 ?_
  refine z_iconst 1 dX9_writes_46 rfl ?_
  refine z_icmp_ne 65 dX9_writes_47 rfl hf (fun _ hf => ?_) (fun _ hf => ?_)
  · exact zX9_writes_J65 hD hL hf hM
  · refine z_iload_n 2 dX9_writes_50 rfl rfl ?_
    refine z_if_lt 65 dX9_writes_51 rfl hf (fun _ hf => ?_) (fun _ hf => ?_)
    · exact zX9_writes_J65 hD hL hf hM
    · refine z_iload_n 2 dX9_writes_54 rfl rfl ?_
      obtain ⟨v_55, hc_54, hf⟩ := zb1_some hf
      refine z_invSi ssX9_301 (ctX9_isLow hc_54) ⟨Nat.le_trans (by decide) hD, by decide⟩ rfl rfl (Nat.le_of_ble_eq_true rfl) dX9_writes_55 ?_
      refine z_if_eq 65 dX9_writes_58 rfl hf (fun _ hf => ?_) (fun _ hf => ?_)
      · exact zX9_writes_J65 hD hL hf hM
      · refine z_iconst 1 dX9_writes_61 rfl ?_
        refine z_goto 66 dX9_writes_62 rfl ?_
        exact zX9_writes_J66 hD hL hf hM
noncomputable def fX9_writes (h : zH) (a : Nat) (x1 : Int32) (x2 : Int32) : Option (Int32 × zH) := zb1 (fX9_load h a x1) (fun h_3 => zck (vp_in x1 4) (zck (vp_in x1 4) (if 0 ≤ x2 then (fX9_writes_J30 h_3 a x1 x2 (zI h_3 (a + 33) x1.toNatClampNeg) 0 1 (zI h_3 (a + 40) x1.toNatClampNeg)) else (fX9_writes_J30 h_3 a x1 x2 (zI h_3 (a + 33) x1.toNatClampNeg) 0 0 (zI h_3 (a + 40) x1.toNatClampNeg)))))
theorem zX9_writes {F : zF} {h : zH} {a : Nat} {x1 : Int32} {x2 : Int32} {y : Int32 × zH} (hD : 66 ≤ F.2.1) (hL : zBlk mB mP h a) (hf : fX9_writes h a x1 x2 = some y) (hM : ((.inl (some (.int y.1)), y.2) : zX) = zEnd F) : Z F 7 cX9_writes RX9 "writes" (some .int) [] h 0 [(0, .ref a), (1, .int x1), (2, .int x2)] [] := by
  unfold fX9_writes at hf
  refine z_aload_n 0 dX9_writes_0 rfl rfl ?_
  refine z_iload_n 1 dX9_writes_1 rfl rfl ?_
  obtain ⟨h_3, hc_1, hf⟩ := zb1_some hf
  have hct := ctX9_load (l := F.1) hL hc_1
  refine z_invVv svX9_388_7 hct (hL.t 0 rfl) ⟨Nat.le_trans (by decide) hD, by decide⟩ rfl rfl (Nat.le_of_ble_eq_true rfl) dX9_writes_2 ?_
  have hL := hL.ext mOk hct.1
  refine z_aload_n 0 dX9_writes_5 rfl rfl ?_
  refine z_getr fdX9_108_7 (Or.inr ⟨_, rfl⟩) (hL.t 0 rfl) (hL.p 32 rfl) dX9_writes_6 ?_
  refine z_iload_n 1 dX9_writes_9 rfl rfl ?_
  obtain ⟨hi_4, hf⟩ := zck_some hf
  refine z_iald (hL.t 33 rfl) hi_4 dX9_writes_10 ?_
  refine z_istore_n dX9_writes_11 rfl (by decide) (lc' := [(0, .ref a), (1, .int x1), (2, .int x2), (3, .int (zI h_3 (a + 33) x1.toNatClampNeg))]) rfl ?_
  refine z_iconst 0 dX9_writes_12 rfl ?_
  refine z_istore dX9_writes_13 (by decide) (lc' := [(0, .ref a), (1, .int x1), (2, .int x2), (3, .int (zI h_3 (a + 33) x1.toNatClampNeg)), (4, .int 0)]) rfl ?_
  refine z_aload_n 0 dX9_writes_15 rfl rfl ?_
  refine z_getr fdX9_129_7 (Or.inr ⟨_, rfl⟩) (hL.t 0 rfl) (hL.p 39 rfl) dX9_writes_16 ?_
  refine z_iload_n 1 dX9_writes_19 rfl rfl ?_
  obtain ⟨hi_5, hf⟩ := zck_some hf
  refine z_iald (hL.t 40 rfl) hi_5 dX9_writes_20 ?_
  refine z_iload_n 2 dX9_writes_21 rfl rfl ?_
  refine z_if_ge 29 dX9_writes_22 rfl hf (fun _ hf => ?_) (fun _ hf => ?_)
  · refine z_iconst 1 dX9_writes_29 rfl ?_
    exact zX9_writes_J30 hD hL hf hM
  · refine z_iconst 0 dX9_writes_25 rfl ?_
    refine z_goto 30 dX9_writes_26 rfl ?_
    exact zX9_writes_J30 hD hL hf hM
theorem ctX9_writes {l : Launch} {h : zH} {a : Nat} {x1 : Int32} {x2 : Int32} {v : Int32} {h' : zH} (hL : zBlk mB mP h a) (hf : fX9_writes h a x1 x2 = some (v, h')) : zC l yX9_writes (ws_ yX9_writes cX9_writes 7 (some .int)) 66 [.ref a, .int x1, .int x2] h (.inl (some (.int v)), h') :=
  z_start (by decide) (Nat.le_of_ble_eq_true rfl) (zX9_writes (F := (l, 66, h, (.inl (some (.int v)), h'))) (Nat.le_refl _) hL hf rfl)
noncomputable def fX9_reads_L10 (h : zH) (a : Nat) (x1 : Int32) (x2 : Int32) (x3 : Int32) (x4 : Int32) : Option ((zH × Int32 × Int32) ⊕ (zH × Int32 × Int32)) := zck (vp_in x1 4) (if (zI h (a + 38) x1.toNatClampNeg) ≤ x3 then (some (.inr ((h, x3, x4)))) else (if x4 ≤ 0 then (some (.inr ((h, x3, x4)))) else (zck (vp_in x1 4) (zck (vp_in x1 4) (zck (vp_in x1 4) (zb2 (fX9_readOne h a (zI h (a + 33) x1.toNatClampNeg) (zI h (a + 35) x1.toNatClampNeg) (a + 44) x3 (zI h (a + 38) x1.toNatClampNeg) x2) (fun v_9 h_10 => if v_9 ≤ 0 then (some (.inl ((h_10, x3 + 0, v_9)))) else (some (.inl ((h_10, x3 + v_9, v_9)))))))))))
theorem zX9_reads_L10 {F : zF} {h : zH} {a : Nat} {x1 : Int32} {x2 : Int32} {x3 : Int32} {x4 : Int32} {y : (zH × Int32 × Int32) ⊕ (zH × Int32 × Int32)} (hD : 6 ≤ F.2.1) (hL : zBlk mB mP h a) (hf : fX9_reads_L10 h a x1 x2 x3 x4 = some y) (hM : ((∀ s' : zH × Int32 × Int32, y = .inl s' → (zBlk mB mP s'.1 a → Z F 7 cX9_reads RX9 "reads" (some .int) [] s'.1 10 [(0, .ref a), (1, .int x1), (2, .int x2), (3, .int s'.2.1), (4, .int s'.2.2)] [])) ∧ ∀ r : zH × Int32 × Int32, y = .inr r → (zBlk mB mP r.1 a → Z F 7 cX9_reads RX9 "reads" (some .int) [] r.1 72 [(0, .ref a), (1, .int x1), (3, .int r.2.1), (4, .int r.2.2)] []))) : Z F 7 cX9_reads RX9 "reads" (some .int) [] h 10 [(0, .ref a), (1, .int x1), (2, .int x2), (3, .int x3), (4, .int x4)] [] := by
  unfold fX9_reads_L10 at hf
  refine z_iload_n 3 dX9_reads_10 rfl rfl ?_
  refine z_aload_n 0 dX9_reads_11 rfl rfl ?_
  refine z_getr fdX9_123_7 (Or.inr ⟨_, rfl⟩) (hL.t 0 rfl) (hL.p 37 rfl) dX9_reads_12 ?_
  refine z_iload_n 1 dX9_reads_15 rfl rfl ?_
  obtain ⟨hi_4, hf⟩ := zck_some hf
  refine z_iald (hL.t 38 rfl) hi_4 dX9_reads_16 ?_
  refine z_icmp_ge 72 dX9_reads_17 rfl hf (fun _ hf => ?_) (fun _ hf => ?_)
  · cases hf
    refine z_sub [0, 1, 3, 4] rfl ?_
    exact (hM.2 _ rfl) hL
  · refine z_iload 4 dX9_reads_20 rfl ?_
    refine z_if_le 72 dX9_reads_22 rfl hf (fun _ hf => ?_) (fun _ hf => ?_)
    · cases hf
      refine z_sub [0, 1, 3, 4] rfl ?_
      exact (hM.2 _ rfl) hL
    · refine z_aload_n 0 dX9_reads_25 rfl rfl ?_
      refine z_aload_n 0 dX9_reads_26 rfl rfl ?_
      refine z_getr fdX9_108_7 (Or.inr ⟨_, rfl⟩) (hL.t 0 rfl) (hL.p 32 rfl) dX9_reads_27 ?_
      refine z_iload_n 1 dX9_reads_30 rfl rfl ?_
      obtain ⟨hi_5, hf⟩ := zck_some hf
      refine z_iald (hL.t 33 rfl) hi_5 dX9_reads_31 ?_
      refine z_aload_n 0 dX9_reads_32 rfl rfl ?_
      refine z_getr fdX9_114_7 (Or.inr ⟨_, rfl⟩) (hL.t 0 rfl) (hL.p 34 rfl) dX9_reads_33 ?_
      refine z_iload_n 1 dX9_reads_36 rfl rfl ?_
      obtain ⟨hi_6, hf⟩ := zck_some hf
      refine z_iald (hL.t 35 rfl) hi_6 dX9_reads_37 ?_
      refine z_aload_n 0 dX9_reads_38 rfl rfl ?_
      refine z_getr fdX9_141_7 (Or.inr ⟨_, rfl⟩) (hL.t 0 rfl) (hL.p 43 rfl) dX9_reads_39 ?_
      refine z_iload_n 3 dX9_reads_42 rfl rfl ?_
      refine z_aload_n 0 dX9_reads_43 rfl rfl ?_
      refine z_getr fdX9_123_7 (Or.inr ⟨_, rfl⟩) (hL.t 0 rfl) (hL.p 37 rfl) dX9_reads_44 ?_
      refine z_iload_n 1 dX9_reads_47 rfl rfl ?_
      obtain ⟨hi_7, hf⟩ := zck_some hf
      refine z_iald (hL.t 38 rfl) hi_7 dX9_reads_48 ?_
      refine z_iload_n 2 dX9_reads_49 rfl rfl ?_
      obtain ⟨v_9, h_10, hc_8, hf⟩ := zb2_some hf
      have hct := ctX9_readOne (l := F.1) hL hc_8
      refine z_invVi svX9_317_7 hct (hL.t 0 rfl) ⟨Nat.le_trans (by decide) hD, by decide⟩ rfl rfl (Nat.le_of_ble_eq_true rfl) dX9_reads_50 ?_
      have hL := hL.ext mOk hct.1
      refine z_istore dX9_reads_53 (by decide) (lc' := [(0, .ref a), (1, .int x1), (2, .int x2), (3, .int x3), (4, .int v_9)]) rfl ?_
      refine z_iload_n 3 dX9_reads_55 rfl rfl ?_
      refine z_iload 4 dX9_reads_56 rfl ?_
      refine z_if_le 66 dX9_reads_58 rfl hf (fun _ hf => ?_) (fun _ hf => ?_)
      · refine z_iconst 0 dX9_reads_66 rfl ?_
        refine z_iadd dX9_reads_67 ?_
        refine z_istore_n dX9_reads_68 rfl (by decide) (lc' := [(0, .ref a), (1, .int x1), (2, .int x2), (3, .int (x3 + 0)), (4, .int v_9)]) rfl ?_
        refine z_goto 10 dX9_reads_69 rfl ?_
        cases hf
        exact (hM.1 _ rfl) hL
      · refine z_iload 4 dX9_reads_61 rfl ?_
        refine z_goto 67 dX9_reads_63 rfl ?_
        refine z_iadd dX9_reads_67 ?_
        refine z_istore_n dX9_reads_68 rfl (by decide) (lc' := [(0, .ref a), (1, .int x1), (2, .int x2), (3, .int (x3 + v_9)), (4, .int v_9)]) rfl ?_
        refine z_goto 10 dX9_reads_69 rfl ?_
        cases hf
        exact (hM.1 _ rfl) hL
noncomputable def fX9_reads_J145 (h : zH) (a : Nat) (x1 : Int32) (x4 : Int32) (x5 : Int32) : Option (Int32 × zH) := if 0 ≤ x4 then (zb2 (fX9_store h a x1 0 x5) (fun v_15 h_16 => some ((v_15, h_16)))) else (zb2 (fX9_store h a x1 x4 x5) (fun v_18 h_19 => some ((v_18, h_19))))
theorem zX9_reads_J145 {F : zF} {h : zH} {a : Nat} {x1 : Int32} {x4 : Int32} {x5 : Int32} {y : Int32 × zH} (hD : 6 ≤ F.2.1) (hL : zBlk mB mP h a) (hf : fX9_reads_J145 h a x1 x4 x5 = some y) (hM : ((.inl (some (.int y.1)), y.2) : zX) = zEnd F) : Z F 7 cX9_reads RX9 "reads" (some .int) [] h 145 [(0, .ref a), (1, .int x1), (4, .int x4), (5, .int x5)] [] := by
  unfold fX9_reads_J145 at hf
  refine z_aload_n 0 dX9_reads_145 rfl rfl ?_
  refine z_iload_n 1 dX9_reads_146 rfl rfl ?_
  refine z_iload 2 dX9_reads_147 rfl ?_
  refine z_if_ge 157 dX9_reads_149 rfl hf (fun _ hf => ?_) (fun _ hf => ?_)
  · refine z_iconst 0 dX9_reads_157 rfl ?_
    refine z_iload 3 dX9_reads_158 rfl ?_
    obtain ⟨v_15, h_16, hc_14, hf⟩ := zb2_some hf
    have hct := ctX9_store (l := F.1) hL hc_14
    refine z_invVi svX9_391_7 hct (hL.t 0 rfl) ⟨Nat.le_trans (by decide) hD, by decide⟩ rfl rfl (Nat.le_of_ble_eq_true rfl) dX9_reads_160 ?_
    have hL := hL.ext mOk hct.1
    cases hf
    exact z_iret dX9_reads_163 rfl hM
  · refine z_iload 2 dX9_reads_152 rfl ?_
    refine z_goto 158 dX9_reads_154 rfl ?_
    refine z_iload 3 dX9_reads_158 rfl ?_
    obtain ⟨v_18, h_19, hc_17, hf⟩ := zb2_some hf
    have hct := ctX9_store (l := F.1) hL hc_17
    refine z_invVi svX9_391_7 hct (hL.t 0 rfl) ⟨Nat.le_trans (by decide) hD, by decide⟩ rfl rfl (Nat.le_of_ble_eq_true rfl) dX9_reads_160 ?_
    have hL := hL.ext mOk hct.1
    cases hf
    exact z_iret dX9_reads_163 rfl hM
noncomputable def fX9_reads_L97 (h : zH) (a : Nat) (x1 : Int32) (x3 : Int32) (x4 : Int32) (x5 : Int32) (x6 : Int32) : Option ((zH × Int32) ⊕ (zH)) := zck (vp_in x1 4) (if (zI h (a + 38) x1.toNatClampNeg) ≤ x6 then (some (.inr h)) else (zck (vp_in x6 8) (zck (vp_in ((((8 : Int32) * x1) + x6) - x3) 32) (zlet (zsI h (a + 39) ((((8 : Int32) * x1) + x6) - x3).toNatClampNeg (zI h (a + 44) x6.toNatClampNeg)) (fun h_23 => some (.inl ((h_23, x6 + 1))))))))
theorem zX9_reads_L97 {F : zF} {h : zH} {a : Nat} {x1 : Int32} {x3 : Int32} {x4 : Int32} {x5 : Int32} {x6 : Int32} {y : (zH × Int32) ⊕ (zH)} (hD : 6 ≤ F.2.1) (hL : zBlk mB mP h a) (hf : fX9_reads_L97 h a x1 x3 x4 x5 x6 = some y) (hM : ((∀ s' : zH × Int32, y = .inl s' → (zBlk mB mP s'.1 a → Z F 7 cX9_reads RX9 "reads" (some .int) [] s'.1 97 [(0, .ref a), (1, .int x1), (3, .int x3), (4, .int x4), (5, .int x5), (6, .int s'.2)] [])) ∧ ∀ r : zH, y = .inr r → (zBlk mB mP r a → Z F 7 cX9_reads RX9 "reads" (some .int) [] r 135 [(0, .ref a), (1, .int x1), (3, .int x3), (4, .int x4), (5, .int x5)] []))) : Z F 7 cX9_reads RX9 "reads" (some .int) [] h 97 [(0, .ref a), (1, .int x1), (3, .int x3), (4, .int x4), (5, .int x5), (6, .int x6)] [] := by
  unfold fX9_reads_L97 at hf
  refine z_iload 5 dX9_reads_97 rfl ?_
  refine z_aload_n 0 dX9_reads_99 rfl rfl ?_
  refine z_getr fdX9_123_7 (Or.inr ⟨_, rfl⟩) (hL.t 0 rfl) (hL.p 37 rfl) dX9_reads_100 ?_
  refine z_iload_n 1 dX9_reads_103 rfl rfl ?_
  obtain ⟨hi_20, hf⟩ := zck_some hf
  refine z_iald (hL.t 38 rfl) hi_20 dX9_reads_104 ?_
  refine z_icmp_ge 135 dX9_reads_105 rfl hf (fun _ hf => ?_) (fun _ hf => ?_)
  · cases hf
    refine z_sub [0, 1, 2, 3, 4] rfl ?_
    exact (hM.2 _ rfl) hL
  · refine z_aload_n 0 dX9_reads_108 rfl rfl ?_
    refine z_getr fdX9_126_7 (Or.inr ⟨_, rfl⟩) (hL.t 0 rfl) (hL.p 38 rfl) dX9_reads_109 ?_
    refine z_bipush 8 dX9_reads_112 rfl ?_
    refine z_iload_n 1 dX9_reads_114 rfl rfl ?_
    refine z_imul dX9_reads_115 ?_
    refine z_iload 5 dX9_reads_116 rfl ?_
    refine z_iadd dX9_reads_118 ?_
    refine z_iload_n 2 dX9_reads_119 rfl rfl ?_
    refine z_isub dX9_reads_120 ?_
    refine z_aload_n 0 dX9_reads_121 rfl rfl ?_
    refine z_getr fdX9_141_7 (Or.inr ⟨_, rfl⟩) (hL.t 0 rfl) (hL.p 43 rfl) dX9_reads_122 ?_
    refine z_iload 5 dX9_reads_125 rfl ?_
    obtain ⟨hi_21, hf⟩ := zck_some hf
    refine z_iald (hL.t 44 rfl) hi_21 dX9_reads_127 ?_
    obtain ⟨hi_22, hf⟩ := zck_some hf
    obtain ⟨h_23, he, hf⟩ := zlet_some hf
    refine z_iast (hL.t 39 rfl) (hL.nz 39) hi_22 he dX9_reads_128 ?_
    have hL := hL.I he
    refine z_iinc 5 (x6 + 1) dX9_reads_129 rfl rfl (by decide) (lc' := [(0, .ref a), (1, .int x1), (3, .int x3), (4, .int x4), (5, .int x5), (6, .int (x6 + 1))]) rfl ?_
    refine z_goto 97 dX9_reads_132 rfl ?_
    cases hf
    exact (hM.1 _ rfl) hL
noncomputable def fX9_reads_J72 (h : zH) (a : Nat) (x1 : Int32) (x3 : Int32) (x4 : Int32) : Option (Int32 × zH) := zck (vp_in x1 4) (zck (vp_in x1 4) (if x4 < 0 then (fX9_reads_J145 h a x1 x4 (((zI h (a + 40) x1.toNatClampNeg) - (zI h (a + 38) x1.toNatClampNeg)) + x3)) else (zb1 (zlp (fun s => fX9_reads_L97 s.1 a x1 x3 x4 (((zI h (a + 40) x1.toNatClampNeg) - (zI h (a + 38) x1.toNatClampNeg)) + x3) s.2) (h, x3)) (fun t_24 => zck (vp_in x1 4) (zck (vp_in x1 4) (zlet (zsI t_24 (a + 38) x1.toNatClampNeg ((zI t_24 (a + 38) x1.toNatClampNeg) - x3)) (fun h_27 => fX9_reads_J145 h_27 a x1 x4 (((zI h (a + 40) x1.toNatClampNeg) - (zI h (a + 38) x1.toNatClampNeg)) + x3))))))))
theorem zX9_reads_J72 {F : zF} {h : zH} {a : Nat} {x1 : Int32} {x3 : Int32} {x4 : Int32} {y : Int32 × zH} (hD : 6 ≤ F.2.1) (hL : zBlk mB mP h a) (hf : fX9_reads_J72 h a x1 x3 x4 = some y) (hM : ((.inl (some (.int y.1)), y.2) : zX) = zEnd F) : Z F 7 cX9_reads RX9 "reads" (some .int) [] h 72 [(0, .ref a), (1, .int x1), (3, .int x3), (4, .int x4)] [] := by
  unfold fX9_reads_J72 at hf
  refine z_aload_n 0 dX9_reads_72 rfl rfl ?_
  refine z_getr fdX9_129_7 (Or.inr ⟨_, rfl⟩) (hL.t 0 rfl) (hL.p 39 rfl) dX9_reads_73 ?_
  refine z_iload_n 1 dX9_reads_76 rfl rfl ?_
  obtain ⟨hi_12, hf⟩ := zck_some hf
  refine z_iald (hL.t 40 rfl) hi_12 dX9_reads_77 ?_
  refine z_aload_n 0 dX9_reads_78 rfl rfl ?_
  refine z_getr fdX9_123_7 (Or.inr ⟨_, rfl⟩) (hL.t 0 rfl) (hL.p 37 rfl) dX9_reads_79 ?_
  refine z_iload_n 1 dX9_reads_82 rfl rfl ?_
  obtain ⟨hi_13, hf⟩ := zck_some hf
  refine z_iald (hL.t 38 rfl) hi_13 dX9_reads_83 ?_
  refine z_isub dX9_reads_84 ?_
  refine z_iload_n 2 dX9_reads_85 rfl rfl ?_
  refine z_iadd dX9_reads_86 ?_
  refine z_istore dX9_reads_87 (by decide) (lc' := [(0, .ref a), (1, .int x1), (3, .int x3), (4, .int x4), (5, .int (((zI h (a + 40) x1.toNatClampNeg) - (zI h (a + 38) x1.toNatClampNeg)) + x3))]) rfl ?_
  refine z_iload 3 dX9_reads_89 rfl ?_
  refine z_if_lt 145 dX9_reads_91 rfl hf (fun _ hf => ?_) (fun _ hf => ?_)
  · refine z_sub [0, 1, 3, 4] rfl ?_
    exact zX9_reads_J145 hD hL hf hM
  · refine z_iload_n 2 dX9_reads_94 rfl rfl ?_
    refine z_istore dX9_reads_95 (by decide) (lc' := [(0, .ref a), (1, .int x1), (3, .int x3), (4, .int x4), (5, .int (((zI h (a + 40) x1.toNatClampNeg) - (zI h (a + 38) x1.toNatClampNeg)) + x3)), (6, .int x3)]) rfl ?_
    obtain ⟨t_24, hl, hf⟩ := zb1_some hf
    refine z_loop (fun (s : zH × Int32) => (zBlk mB mP s.1 a → Z F 7 cX9_reads RX9 "reads" (some .int) [] s.1 97 [(0, .ref a), (1, .int x1), (3, .int x3), (4, .int x4), (5, .int (((zI h (a + 40) x1.toNatClampNeg) - (zI h (a + 38) x1.toNatClampNeg)) + x3)), (6, .int s.2)] [])) (fun (r : zH) => (zBlk mB mP r a → Z F 7 cX9_reads RX9 "reads" (some .int) [] r 135 [(0, .ref a), (1, .int x1), (3, .int x3), (4, .int x4), (5, .int (((zI h (a + 40) x1.toNatClampNeg) - (zI h (a + 38) x1.toNatClampNeg)) + x3))] [])) (fun s y hb hs hr hL => zX9_reads_L97 hD hL hb ⟨hs, hr⟩) hl ?_ hL
    intro hL
    show Z F 7 cX9_reads RX9 "reads" (some .int) [] t_24 135 [(0, .ref a), (1, .int x1), (3, .int x3), (4, .int x4), (5, .int (((zI h (a + 40) x1.toNatClampNeg) - (zI h (a + 38) x1.toNatClampNeg)) + x3))] []
    refine z_aload_n 0 dX9_reads_135 rfl rfl ?_
    refine z_getr fdX9_123_7 (Or.inr ⟨_, rfl⟩) (hL.t 0 rfl) (hL.p 37 rfl) dX9_reads_136 ?_
    refine z_iload_n 1 dX9_reads_139 rfl rfl ?_
    refine z_dup2 dX9_reads_140 rfl rfl ?_
    obtain ⟨hi_25, hf⟩ := zck_some hf
    refine z_iald (hL.t 38 rfl) hi_25 dX9_reads_141 ?_
    refine z_iload_n 2 dX9_reads_142 rfl rfl ?_
    refine z_isub dX9_reads_143 ?_
    obtain ⟨hi_26, hf⟩ := zck_some hf
    obtain ⟨h_27, he, hf⟩ := zlet_some hf
    refine z_iast (hL.t 38 rfl) (hL.nz 38) hi_26 he dX9_reads_144 ?_
    have hL := hL.I he
    refine z_sub [0, 1, 3, 4] rfl ?_
    exact zX9_reads_J145 hD hL hf hM
noncomputable def fX9_reads (h : zH) (a : Nat) (x1 : Int32) (x2 : Int32) : Option (Int32 × zH) := zb1 (fX9_load h a x1) (fun h_3 => zb1 (zlp (fun s => fX9_reads_L10 s.1 a x1 x2 s.2.1 s.2.2) (h_3, 0, 1)) (fun t_11 => fX9_reads_J72 t_11.1 a x1 t_11.2.1 t_11.2.2))
theorem zX9_reads {F : zF} {h : zH} {a : Nat} {x1 : Int32} {x2 : Int32} {y : Int32 × zH} (hD : 6 ≤ F.2.1) (hL : zBlk mB mP h a) (hf : fX9_reads h a x1 x2 = some y) (hM : ((.inl (some (.int y.1)), y.2) : zX) = zEnd F) : Z F 7 cX9_reads RX9 "reads" (some .int) [] h 0 [(0, .ref a), (1, .int x1), (2, .int x2)] [] := by
  unfold fX9_reads at hf
  refine z_aload_n 0 dX9_reads_0 rfl rfl ?_
  refine z_iload_n 1 dX9_reads_1 rfl rfl ?_
  obtain ⟨h_3, hc_1, hf⟩ := zb1_some hf
  have hct := ctX9_load (l := F.1) hL hc_1
  refine z_invVv svX9_388_7 hct (hL.t 0 rfl) ⟨Nat.le_trans (by decide) hD, by decide⟩ rfl rfl (Nat.le_of_ble_eq_true rfl) dX9_reads_2 ?_
  have hL := hL.ext mOk hct.1
  refine z_iconst 0 dX9_reads_5 rfl ?_
  refine z_istore_n dX9_reads_6 rfl (by decide) (lc' := [(0, .ref a), (1, .int x1), (2, .int x2), (3, .int 0)]) rfl ?_
  refine z_iconst 1 dX9_reads_7 rfl ?_
  refine z_istore dX9_reads_8 (by decide) (lc' := [(0, .ref a), (1, .int x1), (2, .int x2), (3, .int 0), (4, .int 1)]) rfl ?_
  obtain ⟨t_11, hl, hf⟩ := zb1_some hf
  refine z_loop (fun (s : zH × Int32 × Int32) => (zBlk mB mP s.1 a → Z F 7 cX9_reads RX9 "reads" (some .int) [] s.1 10 [(0, .ref a), (1, .int x1), (2, .int x2), (3, .int s.2.1), (4, .int s.2.2)] [])) (fun (r : zH × Int32 × Int32) => (zBlk mB mP r.1 a → Z F 7 cX9_reads RX9 "reads" (some .int) [] r.1 72 [(0, .ref a), (1, .int x1), (3, .int r.2.1), (4, .int r.2.2)] [])) (fun s y hb hs hr hL => zX9_reads_L10 hD hL hb ⟨hs, hr⟩) hl ?_ hL
  intro hL
  show Z F 7 cX9_reads RX9 "reads" (some .int) [] t_11.1 72 [(0, .ref a), (1, .int x1), (3, .int t_11.2.1), (4, .int t_11.2.2)] []
  exact zX9_reads_J72 hD hL hf hM
theorem ctX9_reads {l : Launch} {h : zH} {a : Nat} {x1 : Int32} {x2 : Int32} {v : Int32} {h' : zH} (hL : zBlk mB mP h a) (hf : fX9_reads h a x1 x2 = some (v, h')) : zC l yX9_reads (ws_ yX9_reads cX9_reads 7 (some .int)) 6 [.ref a, .int x1, .int x2] h (.inl (some (.int v)), h') :=
  z_start (by decide) (Nat.le_of_ble_eq_true rfl) (zX9_reads (F := (l, 6, h, (.inl (some (.int v)), h'))) (Nat.le_refl _) hL hf rfl)
theorem svX9_398_7 : zIv RX9 398 yX9_reads (ws_ yX9_reads cX9_reads 7 (some .int)) 7 7 2 := ⟨zGood_c q1885 q109, ⟨_, _, rfl, rfl, qs89⟩, Or.inl q1882, q1884, ⟨by decide, by decide⟩, by decide +kernel⟩
theorem svX9_395_7 : zIv RX9 395 yX9_writes (ws_ yX9_writes cX9_writes 7 (some .int)) 7 7 2 := ⟨zGood_c q1873 q109, ⟨_, _, rfl, rfl, qs86⟩, Or.inl q1870, q1872, ⟨by decide, by decide⟩, by decide +kernel⟩
noncomputable def fX9_feed_J60 (h : zH) (a : Nat) (x1 : Int32) (x2 : Int32) (k0 : Int32) (k1 : Int32) (k2 : Int32) : Option (Int32 × zH) := zb1 (fX9_in k2 k1 k0) (fun v_10 => if v_10 = 0 then (zb2 (fX9_tell h a ((-1))) (fun v_32 h_33 => some ((v_32, h_33)))) else (zck (vp_in x1 4) (if (zI h (a + 42) x1.toNatClampNeg) ≤ 300 then (zck (vp_in x1 4) (zck (vp_in x1 4) (zlet (zsI h (a + 40) x1.toNatClampNeg ((zI h (a + 40) x1.toNatClampNeg) + 1)) (fun h_14 => zck (vp_in x1 4) (if (zI h_14 (a + 34) x1.toNatClampNeg) = 0 then (zck (vp_in x1 4) (zck (vp_in (((8 : Int32) * x1) + (zI h_14 (a + 38) x1.toNatClampNeg)) 32) (zlet (zsI h_14 (a + 39) (((8 : Int32) * x1) + (zI h_14 (a + 38) x1.toNatClampNeg)).toNatClampNeg x2) (fun h_18 => zck (vp_in x1 4) (zck (vp_in x1 4) (zlet (zsI h_18 (a + 38) x1.toNatClampNeg ((zI h_18 (a + 38) x1.toNatClampNeg) + 1)) (fun h_21 => zb2 (fX9_reads h_21 a x1 0) (fun v_23 h_24 => some ((v_23, h_24)))))))))) else (zb2 (fX9_writes h_14 a x1 x2) (fun v_26 h_27 => some ((v_26, h_27))))))))) else (zb2 (fX9_tell h a ((-6))) (fun v_29 h_30 => some ((v_29, h_30)))))))
theorem zX9_feed_J60 {F : zF} {h : zH} {a : Nat} {x1 : Int32} {x2 : Int32} {k0 : Int32} {k1 : Int32} {k2 : Int32} {y : Int32 × zH} (hD : 67 ≤ F.2.1) (hL : zBlk mB mP h a) (hf : fX9_feed_J60 h a x1 x2 k0 k1 k2 = some y) (hM : ((.inl (some (.int y.1)), y.2) : zX) = zEnd F) : Z F 3 cX9_feed RX9 "feed" (some .int) [] h 60 [(0, .ref a), (1, .int x1), (2, .int x2)] [.int k0, .int k1, .int k2] := by
  unfold fX9_feed_J60 at hf
  obtain ⟨v_10, hc_9, hf⟩ := zb1_some hf
  refine z_invSi ssX9_156 (ctX9_in hc_9) ⟨Nat.le_trans (by decide) hD, by decide⟩ rfl rfl (Nat.le_of_ble_eq_true rfl) dX9_feed_60 ?_
  refine z_if_ne 72 dX9_feed_63 rfl hf (fun _ hf => ?_) (fun _ hf => ?_)
  · refine z_aload_n 0 dX9_feed_72 rfl rfl ?_
    refine z_getr fdX9_135_7 (Or.inr ⟨_, rfl⟩) (hL.t 0 rfl) (hL.p 41 rfl) dX9_feed_73 ?_
    refine z_iload_n 1 dX9_feed_76 rfl rfl ?_
    obtain ⟨hi_11, hf⟩ := zck_some hf
    refine z_iald (hL.t 42 rfl) hi_11 dX9_feed_77 ?_
    refine z_sipush 300 dX9_feed_78 rfl ?_
    refine z_icmp_le 91 dX9_feed_81 rfl hf (fun _ hf => ?_) (fun _ hf => ?_)
    · refine z_aload_n 0 dX9_feed_91 rfl rfl ?_
      refine z_getr fdX9_129_7 (Or.inr ⟨_, rfl⟩) (hL.t 0 rfl) (hL.p 39 rfl) dX9_feed_92 ?_
      refine z_iload_n 1 dX9_feed_95 rfl rfl ?_
      refine z_dup2 dX9_feed_96 rfl rfl ?_
      obtain ⟨hi_12, hf⟩ := zck_some hf
      refine z_iald (hL.t 40 rfl) hi_12 dX9_feed_97 ?_
      refine z_iconst 1 dX9_feed_98 rfl ?_
      refine z_iadd dX9_feed_99 ?_
      obtain ⟨hi_13, hf⟩ := zck_some hf
      obtain ⟨h_14, he, hf⟩ := zlet_some hf
      refine z_iast (hL.t 40 rfl) (hL.nz 40) hi_13 he dX9_feed_100 ?_
      have hL := hL.I he
      refine z_aload_n 0 dX9_feed_101 rfl rfl ?_
      refine z_getr fdX9_111_7 (Or.inr ⟨_, rfl⟩) (hL.t 0 rfl) (hL.p 33 rfl) dX9_feed_102 ?_
      refine z_iload_n 1 dX9_feed_105 rfl rfl ?_
      obtain ⟨hi_15, hf⟩ := zck_some hf
      refine z_zald (hL.t 34 rfl) hi_15 dX9_feed_106 ?_
      refine z_if_eq 117 dX9_feed_107 rfl hf (fun _ hf => ?_) (fun _ hf => ?_)
      · refine z_aload_n 0 dX9_feed_117 rfl rfl ?_
        refine z_getr fdX9_126_7 (Or.inr ⟨_, rfl⟩) (hL.t 0 rfl) (hL.p 38 rfl) dX9_feed_118 ?_
        refine z_bipush 8 dX9_feed_121 rfl ?_
        refine z_iload_n 1 dX9_feed_123 rfl rfl ?_
        refine z_imul dX9_feed_124 ?_
        refine z_aload_n 0 dX9_feed_125 rfl rfl ?_
        refine z_getr fdX9_123_7 (Or.inr ⟨_, rfl⟩) (hL.t 0 rfl) (hL.p 37 rfl) dX9_feed_126 ?_
        refine z_iload_n 1 dX9_feed_129 rfl rfl ?_
        obtain ⟨hi_16, hf⟩ := zck_some hf
        refine z_iald (hL.t 38 rfl) hi_16 dX9_feed_130 ?_
        refine z_iadd dX9_feed_131 ?_
        refine z_iload_n 2 dX9_feed_132 rfl rfl ?_
        obtain ⟨hi_17, hf⟩ := zck_some hf
        obtain ⟨h_18, he, hf⟩ := zlet_some hf
        refine z_iast (hL.t 39 rfl) (hL.nz 39) hi_17 he dX9_feed_133 ?_
        have hL := hL.I he
        refine z_aload_n 0 dX9_feed_134 rfl rfl ?_
        refine z_getr fdX9_123_7 (Or.inr ⟨_, rfl⟩) (hL.t 0 rfl) (hL.p 37 rfl) dX9_feed_135 ?_
        refine z_iload_n 1 dX9_feed_138 rfl rfl ?_
        refine z_dup2 dX9_feed_139 rfl rfl ?_
        obtain ⟨hi_19, hf⟩ := zck_some hf
        refine z_iald (hL.t 38 rfl) hi_19 dX9_feed_140 ?_
        refine z_iconst 1 dX9_feed_141 rfl ?_
        refine z_iadd dX9_feed_142 ?_
        obtain ⟨hi_20, hf⟩ := zck_some hf
        obtain ⟨h_21, he, hf⟩ := zlet_some hf
        refine z_iast (hL.t 38 rfl) (hL.nz 38) hi_20 he dX9_feed_143 ?_
        have hL := hL.I he
        refine z_aload_n 0 dX9_feed_144 rfl rfl ?_
        refine z_iload_n 1 dX9_feed_145 rfl rfl ?_
        refine z_iconst 0 dX9_feed_146 rfl ?_
        obtain ⟨v_23, h_24, hc_22, hf⟩ := zb2_some hf
        have hct := ctX9_reads (l := F.1) hL hc_22
        refine z_invVi svX9_398_7 hct (hL.t 0 rfl) ⟨Nat.le_trans (by decide) hD, by decide⟩ rfl rfl (Nat.le_of_ble_eq_true rfl) dX9_feed_147 ?_
        have hL := hL.ext mOk hct.1
        cases hf
        exact z_iret dX9_feed_150 rfl hM
      · refine z_aload_n 0 dX9_feed_110 rfl rfl ?_
        refine z_iload_n 1 dX9_feed_111 rfl rfl ?_
        refine z_iload_n 2 dX9_feed_112 rfl rfl ?_
        obtain ⟨v_26, h_27, hc_25, hf⟩ := zb2_some hf
        have hct := ctX9_writes (l := F.1) hL hc_25
        refine z_invVi svX9_395_7 hct (hL.t 0 rfl) ⟨Nat.le_trans (by decide) hD, by decide⟩ rfl rfl (Nat.le_of_ble_eq_true rfl) dX9_feed_113 ?_
        have hL := hL.ext mOk hct.1
        cases hf
        exact z_iret dX9_feed_116 rfl hM
    · refine z_aload_n 0 dX9_feed_84 rfl rfl ?_
      refine z_bipush (-6) dX9_feed_85 rfl ?_
      obtain ⟨v_29, h_30, hc_28, hf⟩ := zb2_some hf
      have hct := ctX9_tell (l := F.1) hL hc_28
      refine z_invVi svX9_166_7 hct (hL.t 0 rfl) ⟨Nat.le_trans (by decide) hD, by decide⟩ rfl rfl (Nat.le_of_ble_eq_true rfl) dX9_feed_87 ?_
      have hL := hL.ext mOk hct.1
      cases hf
      exact z_iret dX9_feed_90 rfl hM
  · refine z_aload_n 0 dX9_feed_66 rfl rfl ?_
    refine z_iconst (-1) dX9_feed_67 rfl ?_
    obtain ⟨v_32, h_33, hc_31, hf⟩ := zb2_some hf
    have hct := ctX9_tell (l := F.1) hL hc_31
    refine z_invVi svX9_166_7 hct (hL.t 0 rfl) ⟨Nat.le_trans (by decide) hD, by decide⟩ rfl rfl (Nat.le_of_ble_eq_true rfl) dX9_feed_68 ?_
    have hL := hL.ext mOk hct.1
    cases hf
    exact z_iret dX9_feed_71 rfl hM
noncomputable def fX9_feed (h : zH) (a : Nat) (x1 : Int32) (x2 : Int32) : Option (Int32 × zH) := zb1 (fX9_in x1 0 3) (fun v_2 => if v_2 = 0 then (zb2 (fX9_tell h a ((-1))) (fun v_38 h_39 => some ((v_38, h_39)))) else (zck (vp_in x1 4) (if (zI h (a + 32) x1.toNatClampNeg) = 0 then (zb2 (fX9_tell h a ((-2))) (fun v_5 h_6 => some ((v_5, h_6)))) else (zck (vp_in x1 4) (if (zI h (a + 41) x1.toNatClampNeg) = 0 then (zck (vp_in x1 4) (if (zI h (a + 34) x1.toNatClampNeg) = 0 then (fX9_feed_J60 h a x1 x2 255 0 x2) else (fX9_feed_J60 h a x1 x2 65535 0 x2))) else (zb2 (fX9_tell h a ((-2))) (fun v_35 h_36 => some ((v_35, h_36)))))))))
theorem zX9_feed {F : zF} {h : zH} {a : Nat} {x1 : Int32} {x2 : Int32} {y : Int32 × zH} (hD : 67 ≤ F.2.1) (hL : zBlk mB mP h a) (hf : fX9_feed h a x1 x2 = some y) (hM : ((.inl (some (.int y.1)), y.2) : zX) = zEnd F) : Z F 3 cX9_feed RX9 "feed" (some .int) [] h 0 [(0, .ref a), (1, .int x1), (2, .int x2)] [] := by
  unfold fX9_feed at hf
  refine z_iload_n 1 dX9_feed_0 rfl rfl ?_
  refine z_iconst 0 dX9_feed_1 rfl ?_
  refine z_iconst 3 dX9_feed_2 rfl ?_
  obtain ⟨v_2, hc_1, hf⟩ := zb1_some hf
  refine z_invSi ssX9_156 (ctX9_in hc_1) ⟨Nat.le_trans (by decide) hD, by decide⟩ rfl rfl (Nat.le_of_ble_eq_true rfl) dX9_feed_3 ?_
  refine z_if_ne 15 dX9_feed_6 rfl hf (fun _ hf => ?_) (fun _ hf => ?_)
  · refine z_aload_n 0 dX9_feed_15 rfl rfl ?_
    refine z_getr fdX9_105_7 (Or.inr ⟨_, rfl⟩) (hL.t 0 rfl) (hL.p 31 rfl) dX9_feed_16 ?_
    refine z_iload_n 1 dX9_feed_19 rfl rfl ?_
    obtain ⟨hi_3, hf⟩ := zck_some hf
    refine z_zald (hL.t 32 rfl) hi_3 dX9_feed_20 ?_
    refine z_if_eq 33 dX9_feed_21 rfl hf (fun _ hf => ?_) (fun _ hf => ?_)
    · refine z_aload_n 0 dX9_feed_33 rfl rfl ?_
      refine z_bipush (-2) dX9_feed_34 rfl ?_
      obtain ⟨v_5, h_6, hc_4, hf⟩ := zb2_some hf
      have hct := ctX9_tell (l := F.1) hL hc_4
      refine z_invVi svX9_166_7 hct (hL.t 0 rfl) ⟨Nat.le_trans (by decide) hD, by decide⟩ rfl rfl (Nat.le_of_ble_eq_true rfl) dX9_feed_36 ?_
      have hL := hL.ext mOk hct.1
      cases hf
      exact z_iret dX9_feed_39 rfl hM
    · refine z_aload_n 0 dX9_feed_24 rfl rfl ?_
      refine z_getr fdX9_132_7 (Or.inr ⟨_, rfl⟩) (hL.t 0 rfl) (hL.p 40 rfl) dX9_feed_25 ?_
      refine z_iload_n 1 dX9_feed_28 rfl rfl ?_
      obtain ⟨hi_7, hf⟩ := zck_some hf
      refine z_iald (hL.t 41 rfl) hi_7 dX9_feed_29 ?_
      refine z_if_eq 40 dX9_feed_30 rfl hf (fun _ hf => ?_) (fun _ hf => ?_)
      · refine z_iload_n 2 dX9_feed_40 rfl rfl ?_
        refine z_iconst 0 dX9_feed_41 rfl ?_
        refine z_aload_n 0 dX9_feed_42 rfl rfl ?_
        refine z_getr fdX9_111_7 (Or.inr ⟨_, rfl⟩) (hL.t 0 rfl) (hL.p 33 rfl) dX9_feed_43 ?_
        refine z_iload_n 1 dX9_feed_46 rfl rfl ?_
        obtain ⟨hi_8, hf⟩ := zck_some hf
        refine z_zald (hL.t 34 rfl) hi_8 dX9_feed_47 ?_
        refine z_if_eq 57 dX9_feed_48 rfl hf (fun _ hf => ?_) (fun _ hf => ?_)
        · refine z_sipush 255 dX9_feed_57 rfl ?_
          exact zX9_feed_J60 hD hL hf hM
        · refine z_ldcw q1869 dX9_feed_51 ?_
          refine z_goto 60 dX9_feed_54 rfl ?_
          exact zX9_feed_J60 hD hL hf hM
      · refine z_aload_n 0 dX9_feed_33 rfl rfl ?_
        refine z_bipush (-2) dX9_feed_34 rfl ?_
        obtain ⟨v_35, h_36, hc_34, hf⟩ := zb2_some hf
        have hct := ctX9_tell (l := F.1) hL hc_34
        refine z_invVi svX9_166_7 hct (hL.t 0 rfl) ⟨Nat.le_trans (by decide) hD, by decide⟩ rfl rfl (Nat.le_of_ble_eq_true rfl) dX9_feed_36 ?_
        have hL := hL.ext mOk hct.1
        cases hf
        exact z_iret dX9_feed_39 rfl hM
  · refine z_aload_n 0 dX9_feed_9 rfl rfl ?_
    refine z_iconst (-1) dX9_feed_10 rfl ?_
    obtain ⟨v_38, h_39, hc_37, hf⟩ := zb2_some hf
    have hct := ctX9_tell (l := F.1) hL hc_37
    refine z_invVi svX9_166_7 hct (hL.t 0 rfl) ⟨Nat.le_trans (by decide) hD, by decide⟩ rfl rfl (Nat.le_of_ble_eq_true rfl) dX9_feed_11 ?_
    have hL := hL.ext mOk hct.1
    cases hf
    exact z_iret dX9_feed_14 rfl hM
theorem ctX9_feed {l : Launch} {h : zH} {a : Nat} {x1 : Int32} {x2 : Int32} {v : Int32} {h' : zH} (hL : zBlk mB mP h a) (hf : fX9_feed h a x1 x2 = some (v, h')) : zC l yX9_feed (ws_ yX9_feed cX9_feed 3 (some .int)) 67 [.ref a, .int x1, .int x2] h (.inl (some (.int v)), h') :=
  z_start (by decide) (Nat.le_of_ble_eq_true rfl) (zX9_feed (F := (l, 67, h, (.inl (some (.int v)), h'))) (Nat.le_refl _) hL hf rfl)
noncomputable def fX9_end_J83 (h : zH) (a : Nat) (x1 : Int32) (k0 : Int32) : Option (Int32 × zH) := zck (vp_in x1 4) (zlet (zsI h (a + 37) x1.toNatClampNeg 4) (fun h_14 => zck (vp_in x1 4) (zlet (zsI h_14 (a + 38) x1.toNatClampNeg 0) (fun h_16 => zck (vp_in x1 4) (if (zI h_16 (a + 41) x1.toNatClampNeg) = 0 then (zck (vp_in x1 4) (zlet (zsI h_16 (a + 41) x1.toNatClampNeg 1) (fun h_19 => some ((k0, h_19))))) else (some ((k0, h_16))))))))
theorem zX9_end_J83 {F : zF} {h : zH} {a : Nat} {x1 : Int32} {k0 : Int32} {y : Int32 × zH} (hD : 67 ≤ F.2.1) (hL : zBlk mB mP h a) (hf : fX9_end_J83 h a x1 k0 = some y) (hM : ((.inl (some (.int y.1)), y.2) : zX) = zEnd F) : Z F 3 cX9_end RX9 "end" (some .int) [] h 83 [(0, .ref a), (1, .int x1)] [.int k0] := by
  unfold fX9_end_J83 at hf
  refine z_istore_n dX9_end_83 rfl (by decide) (lc' := [(0, .ref a), (1, .int x1), (2, .int k0)]) rfl ?_
  refine z_aload_n 0 dX9_end_84 rfl rfl ?_
  refine z_getr fdX9_120_7 (Or.inr ⟨_, rfl⟩) (hL.t 0 rfl) (hL.p 36 rfl) dX9_end_85 ?_
  refine z_iload_n 1 dX9_end_88 rfl rfl ?_
  refine z_iconst 4 dX9_end_89 rfl ?_
  obtain ⟨hi_13, hf⟩ := zck_some hf
  obtain ⟨h_14, he, hf⟩ := zlet_some hf
  refine z_iast (hL.t 37 rfl) (hL.nz 37) hi_13 he dX9_end_90 ?_
  have hL := hL.I he
  refine z_aload_n 0 dX9_end_91 rfl rfl ?_
  refine z_getr fdX9_123_7 (Or.inr ⟨_, rfl⟩) (hL.t 0 rfl) (hL.p 37 rfl) dX9_end_92 ?_
  refine z_iload_n 1 dX9_end_95 rfl rfl ?_
  refine z_iconst 0 dX9_end_96 rfl ?_
  obtain ⟨hi_15, hf⟩ := zck_some hf
  obtain ⟨h_16, he, hf⟩ := zlet_some hf
  refine z_iast (hL.t 38 rfl) (hL.nz 38) hi_15 he dX9_end_97 ?_
  have hL := hL.I he
  refine z_aload_n 0 dX9_end_98 rfl rfl ?_
  refine z_getr fdX9_132_7 (Or.inr ⟨_, rfl⟩) (hL.t 0 rfl) (hL.p 40 rfl) dX9_end_99 ?_
  refine z_iload_n 1 dX9_end_102 rfl rfl ?_
  obtain ⟨hi_17, hf⟩ := zck_some hf
  refine z_iald (hL.t 41 rfl) hi_17 dX9_end_103 ?_
  refine z_if_ne 114 dX9_end_104 rfl hf (fun _ hf => ?_) (fun _ hf => ?_)
  · refine z_iload_n 2 dX9_end_114 rfl rfl ?_
    cases hf
    exact z_iret dX9_end_115 rfl hM
  · refine z_aload_n 0 dX9_end_107 rfl rfl ?_
    refine z_getr fdX9_132_7 (Or.inr ⟨_, rfl⟩) (hL.t 0 rfl) (hL.p 40 rfl) dX9_end_108 ?_
    refine z_iload_n 1 dX9_end_111 rfl rfl ?_
    refine z_iconst 1 dX9_end_112 rfl ?_
    obtain ⟨hi_18, hf⟩ := zck_some hf
    obtain ⟨h_19, he, hf⟩ := zlet_some hf
    refine z_iast (hL.t 41 rfl) (hL.nz 41) hi_18 he dX9_end_113 ?_
    have hL := hL.I he
    refine z_iload_n 2 dX9_end_114 rfl rfl ?_
    cases hf
    exact z_iret dX9_end_115 rfl hM
noncomputable def fX9_end (h : zH) (a : Nat) (x1 : Int32) : Option (Int32 × zH) := zb1 (fX9_in x1 0 3) (fun v_2 => if v_2 = 0 then (zb2 (fX9_tell h a ((-1))) (fun v_30 h_31 => some ((v_30, h_31)))) else (zck (vp_in x1 4) (if (zI h (a + 32) x1.toNatClampNeg) = 0 then (zb2 (fX9_tell h a ((-2))) (fun v_5 h_6 => some ((v_5, h_6)))) else (zck (vp_in x1 4) (if (zI h (a + 41) x1.toNatClampNeg) = 0 then (zck (vp_in x1 4) (if (zI h (a + 42) x1.toNatClampNeg) ≤ 300 then (zck (vp_in x1 4) (if (zI h (a + 34) x1.toNatClampNeg) = 0 then (zb2 (fX9_reads h a x1 1) (fun v_11 h_12 => fX9_end_J83 h_12 a x1 v_11)) else (zb2 (fX9_writes h a x1 ((-1))) (fun v_21 h_22 => fX9_end_J83 h_22 a x1 v_21)))) else (zb2 (fX9_tell h a ((-6))) (fun v_24 h_25 => some ((v_24, h_25)))))) else (zb2 (fX9_tell h a ((-2))) (fun v_27 h_28 => some ((v_27, h_28)))))))))
theorem zX9_end {F : zF} {h : zH} {a : Nat} {x1 : Int32} {y : Int32 × zH} (hD : 67 ≤ F.2.1) (hL : zBlk mB mP h a) (hf : fX9_end h a x1 = some y) (hM : ((.inl (some (.int y.1)), y.2) : zX) = zEnd F) : Z F 3 cX9_end RX9 "end" (some .int) [] h 0 [(0, .ref a), (1, .int x1)] [] := by
  unfold fX9_end at hf
  refine z_iload_n 1 dX9_end_0 rfl rfl ?_
  refine z_iconst 0 dX9_end_1 rfl ?_
  refine z_iconst 3 dX9_end_2 rfl ?_
  obtain ⟨v_2, hc_1, hf⟩ := zb1_some hf
  refine z_invSi ssX9_156 (ctX9_in hc_1) ⟨Nat.le_trans (by decide) hD, by decide⟩ rfl rfl (Nat.le_of_ble_eq_true rfl) dX9_end_3 ?_
  refine z_if_ne 15 dX9_end_6 rfl hf (fun _ hf => ?_) (fun _ hf => ?_)
  · refine z_aload_n 0 dX9_end_15 rfl rfl ?_
    refine z_getr fdX9_105_7 (Or.inr ⟨_, rfl⟩) (hL.t 0 rfl) (hL.p 31 rfl) dX9_end_16 ?_
    refine z_iload_n 1 dX9_end_19 rfl rfl ?_
    obtain ⟨hi_3, hf⟩ := zck_some hf
    refine z_zald (hL.t 32 rfl) hi_3 dX9_end_20 ?_
    refine z_if_eq 33 dX9_end_21 rfl hf (fun _ hf => ?_) (fun _ hf => ?_)
    · refine z_aload_n 0 dX9_end_33 rfl rfl ?_
      refine z_bipush (-2) dX9_end_34 rfl ?_
      obtain ⟨v_5, h_6, hc_4, hf⟩ := zb2_some hf
      have hct := ctX9_tell (l := F.1) hL hc_4
      refine z_invVi svX9_166_7 hct (hL.t 0 rfl) ⟨Nat.le_trans (by decide) hD, by decide⟩ rfl rfl (Nat.le_of_ble_eq_true rfl) dX9_end_36 ?_
      have hL := hL.ext mOk hct.1
      cases hf
      exact z_iret dX9_end_39 rfl hM
    · refine z_aload_n 0 dX9_end_24 rfl rfl ?_
      refine z_getr fdX9_132_7 (Or.inr ⟨_, rfl⟩) (hL.t 0 rfl) (hL.p 40 rfl) dX9_end_25 ?_
      refine z_iload_n 1 dX9_end_28 rfl rfl ?_
      obtain ⟨hi_7, hf⟩ := zck_some hf
      refine z_iald (hL.t 41 rfl) hi_7 dX9_end_29 ?_
      refine z_if_eq 40 dX9_end_30 rfl hf (fun _ hf => ?_) (fun _ hf => ?_)
      · refine z_aload_n 0 dX9_end_40 rfl rfl ?_
        refine z_getr fdX9_135_7 (Or.inr ⟨_, rfl⟩) (hL.t 0 rfl) (hL.p 41 rfl) dX9_end_41 ?_
        refine z_iload_n 1 dX9_end_44 rfl rfl ?_
        obtain ⟨hi_8, hf⟩ := zck_some hf
        refine z_iald (hL.t 42 rfl) hi_8 dX9_end_45 ?_
        refine z_sipush 300 dX9_end_46 rfl ?_
        refine z_icmp_le 59 dX9_end_49 rfl hf (fun _ hf => ?_) (fun _ hf => ?_)
        · refine z_aload_n 0 dX9_end_59 rfl rfl ?_
          refine z_getr fdX9_111_7 (Or.inr ⟨_, rfl⟩) (hL.t 0 rfl) (hL.p 33 rfl) dX9_end_60 ?_
          refine z_iload_n 1 dX9_end_63 rfl rfl ?_
          obtain ⟨hi_9, hf⟩ := zck_some hf
          refine z_zald (hL.t 34 rfl) hi_9 dX9_end_64 ?_
          refine z_if_eq 77 dX9_end_65 rfl hf (fun _ hf => ?_) (fun _ hf => ?_)
          · refine z_aload_n 0 dX9_end_77 rfl rfl ?_
            refine z_iload_n 1 dX9_end_78 rfl rfl ?_
            refine z_iconst 1 dX9_end_79 rfl ?_
            obtain ⟨v_11, h_12, hc_10, hf⟩ := zb2_some hf
            have hct := ctX9_reads (l := F.1) hL hc_10
            refine z_invVi svX9_398_7 hct (hL.t 0 rfl) ⟨Nat.le_trans (by decide) hD, by decide⟩ rfl rfl (Nat.le_of_ble_eq_true rfl) dX9_end_80 ?_
            have hL := hL.ext mOk hct.1
            exact zX9_end_J83 hD hL hf hM
          · refine z_aload_n 0 dX9_end_68 rfl rfl ?_
            refine z_iload_n 1 dX9_end_69 rfl rfl ?_
            refine z_iconst (-1) dX9_end_70 rfl ?_
            obtain ⟨v_21, h_22, hc_20, hf⟩ := zb2_some hf
            have hct := ctX9_writes (l := F.1) hL hc_20
            refine z_invVi svX9_395_7 hct (hL.t 0 rfl) ⟨Nat.le_trans (by decide) hD, by decide⟩ rfl rfl (Nat.le_of_ble_eq_true rfl) dX9_end_71 ?_
            have hL := hL.ext mOk hct.1
            refine z_goto 83 dX9_end_74 rfl ?_
            exact zX9_end_J83 hD hL hf hM
        · refine z_aload_n 0 dX9_end_52 rfl rfl ?_
          refine z_bipush (-6) dX9_end_53 rfl ?_
          obtain ⟨v_24, h_25, hc_23, hf⟩ := zb2_some hf
          have hct := ctX9_tell (l := F.1) hL hc_23
          refine z_invVi svX9_166_7 hct (hL.t 0 rfl) ⟨Nat.le_trans (by decide) hD, by decide⟩ rfl rfl (Nat.le_of_ble_eq_true rfl) dX9_end_55 ?_
          have hL := hL.ext mOk hct.1
          cases hf
          exact z_iret dX9_end_58 rfl hM
      · refine z_aload_n 0 dX9_end_33 rfl rfl ?_
        refine z_bipush (-2) dX9_end_34 rfl ?_
        obtain ⟨v_27, h_28, hc_26, hf⟩ := zb2_some hf
        have hct := ctX9_tell (l := F.1) hL hc_26
        refine z_invVi svX9_166_7 hct (hL.t 0 rfl) ⟨Nat.le_trans (by decide) hD, by decide⟩ rfl rfl (Nat.le_of_ble_eq_true rfl) dX9_end_36 ?_
        have hL := hL.ext mOk hct.1
        cases hf
        exact z_iret dX9_end_39 rfl hM
  · refine z_aload_n 0 dX9_end_9 rfl rfl ?_
    refine z_iconst (-1) dX9_end_10 rfl ?_
    obtain ⟨v_30, h_31, hc_29, hf⟩ := zb2_some hf
    have hct := ctX9_tell (l := F.1) hL hc_29
    refine z_invVi svX9_166_7 hct (hL.t 0 rfl) ⟨Nat.le_trans (by decide) hD, by decide⟩ rfl rfl (Nat.le_of_ble_eq_true rfl) dX9_end_11 ?_
    have hL := hL.ext mOk hct.1
    cases hf
    exact z_iret dX9_end_14 rfl hM
theorem ctX9_end {l : Launch} {h : zH} {a : Nat} {x1 : Int32} {v : Int32} {h' : zH} (hL : zBlk mB mP h a) (hf : fX9_end h a x1 = some (v, h')) : zC l yX9_end (ws_ yX9_end cX9_end 3 (some .int)) 67 [.ref a, .int x1] h (.inl (some (.int v)), h') :=
  z_start (by decide) (Nat.le_of_ble_eq_true rfl) (zX9_end (F := (l, 67, h, (.inl (some (.int v)), h'))) (Nat.le_refl _) hL hf rfl)
noncomputable def fX9_take_L63 (h : zH) (a : Nat) (x1 : Int32) (x2 : Int32) (x3 : Int32) : Option ((zH × Int32) ⊕ ((Int32 × zH))) := zck (vp_in x1 4) (if (zI h (a + 42) x1.toNatClampNeg) ≤ x3 then (some (.inr ((x2, h)))) else (zck (vp_in ((((1200 : Int32) * x1) + x3) + 1) 4800) (zck (vp_in (((1200 : Int32) * x1) + x3) 4800) (zlet (zsI h (a + 43) (((1200 : Int32) * x1) + x3).toNatClampNeg (zI h (a + 43) ((((1200 : Int32) * x1) + x3) + 1).toNatClampNeg)) (fun h_15 => some (.inl ((h_15, x3 + 1))))))))
theorem zX9_take_L63 {F : zF} {h : zH} {a : Nat} {x1 : Int32} {x2 : Int32} {x3 : Int32} {y : (zH × Int32) ⊕ ((Int32 × zH))} (hD : 2 ≤ F.2.1) (hL : zBlk mB mP h a) (hf : fX9_take_L63 h a x1 x2 x3 = some y) (hM : ((∀ s' : zH × Int32, y = .inl s' → (zBlk mB mP s'.1 a → Z F 4 cX9_take RX9 "take" (some .int) [] s'.1 63 [(0, .ref a), (1, .int x1), (2, .int x2), (3, .int s'.2)] [])) ∧ ∀ r : (Int32 × zH), y = .inr r → ((.inl (some (.int r.1)), r.2) : zX) = zEnd F)) : Z F 4 cX9_take RX9 "take" (some .int) [] h 63 [(0, .ref a), (1, .int x1), (2, .int x2), (3, .int x3)] [] := by
  unfold fX9_take_L63 at hf
  refine z_iload_n 3 dX9_take_63 rfl rfl ?_
  refine z_aload_n 0 dX9_take_64 rfl rfl ?_
  refine z_getr fdX9_135_7 (Or.inr ⟨_, rfl⟩) (hL.t 0 rfl) (hL.p 41 rfl) dX9_take_65 ?_
  refine z_iload_n 1 dX9_take_68 rfl rfl ?_
  obtain ⟨hi_12, hf⟩ := zck_some hf
  refine z_iald (hL.t 42 rfl) hi_12 dX9_take_69 ?_
  refine z_icmp_ge 105 dX9_take_70 rfl hf (fun _ hf => ?_) (fun _ hf => ?_)
  · refine z_iload_n 2 dX9_take_105 rfl rfl ?_
    cases hf
    exact z_iret dX9_take_106 rfl (hM.2 _ rfl)
  · refine z_aload_n 0 dX9_take_73 rfl rfl ?_
    refine z_getr fdX9_138_7 (Or.inr ⟨_, rfl⟩) (hL.t 0 rfl) (hL.p 42 rfl) dX9_take_74 ?_
    refine z_sipush 1200 dX9_take_77 rfl ?_
    refine z_iload_n 1 dX9_take_80 rfl rfl ?_
    refine z_imul dX9_take_81 ?_
    refine z_iload_n 3 dX9_take_82 rfl rfl ?_
    refine z_iadd dX9_take_83 ?_
    refine z_aload_n 0 dX9_take_84 rfl rfl ?_
    refine z_getr fdX9_138_7 (Or.inr ⟨_, rfl⟩) (hL.t 0 rfl) (hL.p 42 rfl) dX9_take_85 ?_
    refine z_sipush 1200 dX9_take_88 rfl ?_
    refine z_iload_n 1 dX9_take_91 rfl rfl ?_
    refine z_imul dX9_take_92 ?_
    refine z_iload_n 3 dX9_take_93 rfl rfl ?_
    refine z_iadd dX9_take_94 ?_
    refine z_iconst 1 dX9_take_95 rfl ?_
    refine z_iadd dX9_take_96 ?_
    obtain ⟨hi_13, hf⟩ := zck_some hf
    refine z_iald (hL.t 43 rfl) hi_13 dX9_take_97 ?_
    obtain ⟨hi_14, hf⟩ := zck_some hf
    obtain ⟨h_15, he, hf⟩ := zlet_some hf
    refine z_iast (hL.t 43 rfl) (hL.nz 43) hi_14 he dX9_take_98 ?_
    have hL := hL.I he
    refine z_iinc 3 (x3 + 1) dX9_take_99 rfl rfl (by decide) (lc' := [(0, .ref a), (1, .int x1), (2, .int x2), (3, .int (x3 + 1))]) rfl ?_
    refine z_goto 63 dX9_take_102 rfl ?_
    cases hf
    exact (hM.1 _ rfl) hL
noncomputable def fX9_take (h : zH) (a : Nat) (x1 : Int32) : Option (Int32 × zH) := zb1 (fX9_in x1 0 3) (fun v_2 => if v_2 = 0 then (zb2 (fX9_tell h a ((-1))) (fun v_20 h_21 => some ((v_20, h_21)))) else (zck (vp_in x1 4) (if (zI h (a + 32) x1.toNatClampNeg) = 0 then (zb2 (fX9_tell h a ((-2))) (fun v_5 h_6 => some ((v_5, h_6)))) else (zck (vp_in x1 4) (if (zI h (a + 42) x1.toNatClampNeg) = 0 then (zb2 (fX9_tell h a ((-2))) (fun v_17 h_18 => some ((v_17, h_18)))) else (zck (vp_in ((1200 : Int32) * x1) 4800) (zck (vp_in x1 4) (zck (vp_in x1 4) (zlet (zsI h (a + 42) x1.toNatClampNeg ((zI h (a + 42) x1.toNatClampNeg) - 1)) (fun h_11 => zlp (fun s => fX9_take_L63 s.1 a x1 (zI h (a + 43) ((1200 : Int32) * x1).toNatClampNeg) s.2) (h_11, 0)))))))))))
theorem zX9_take {F : zF} {h : zH} {a : Nat} {x1 : Int32} {y : Int32 × zH} (hD : 2 ≤ F.2.1) (hL : zBlk mB mP h a) (hf : fX9_take h a x1 = some y) (hM : ((.inl (some (.int y.1)), y.2) : zX) = zEnd F) : Z F 4 cX9_take RX9 "take" (some .int) [] h 0 [(0, .ref a), (1, .int x1)] [] := by
  unfold fX9_take at hf
  refine z_iload_n 1 dX9_take_0 rfl rfl ?_
  refine z_iconst 0 dX9_take_1 rfl ?_
  refine z_iconst 3 dX9_take_2 rfl ?_
  obtain ⟨v_2, hc_1, hf⟩ := zb1_some hf
  refine z_invSi ssX9_156 (ctX9_in hc_1) ⟨Nat.le_trans (by decide) hD, by decide⟩ rfl rfl (Nat.le_of_ble_eq_true rfl) dX9_take_3 ?_
  refine z_if_ne 15 dX9_take_6 rfl hf (fun _ hf => ?_) (fun _ hf => ?_)
  · refine z_aload_n 0 dX9_take_15 rfl rfl ?_
    refine z_getr fdX9_105_7 (Or.inr ⟨_, rfl⟩) (hL.t 0 rfl) (hL.p 31 rfl) dX9_take_16 ?_
    refine z_iload_n 1 dX9_take_19 rfl rfl ?_
    obtain ⟨hi_3, hf⟩ := zck_some hf
    refine z_zald (hL.t 32 rfl) hi_3 dX9_take_20 ?_
    refine z_if_eq 33 dX9_take_21 rfl hf (fun _ hf => ?_) (fun _ hf => ?_)
    · refine z_aload_n 0 dX9_take_33 rfl rfl ?_
      refine z_bipush (-2) dX9_take_34 rfl ?_
      obtain ⟨v_5, h_6, hc_4, hf⟩ := zb2_some hf
      have hct := ctX9_tell (l := F.1) hL hc_4
      refine z_invVi svX9_166_7 hct (hL.t 0 rfl) ⟨Nat.le_trans (by decide) hD, by decide⟩ rfl rfl (Nat.le_of_ble_eq_true rfl) dX9_take_36 ?_
      have hL := hL.ext mOk hct.1
      cases hf
      exact z_iret dX9_take_39 rfl hM
    · refine z_aload_n 0 dX9_take_24 rfl rfl ?_
      refine z_getr fdX9_135_7 (Or.inr ⟨_, rfl⟩) (hL.t 0 rfl) (hL.p 41 rfl) dX9_take_25 ?_
      refine z_iload_n 1 dX9_take_28 rfl rfl ?_
      obtain ⟨hi_7, hf⟩ := zck_some hf
      refine z_iald (hL.t 42 rfl) hi_7 dX9_take_29 ?_
      refine z_if_ne 40 dX9_take_30 rfl hf (fun _ hf => ?_) (fun _ hf => ?_)
      · refine z_aload_n 0 dX9_take_40 rfl rfl ?_
        refine z_getr fdX9_138_7 (Or.inr ⟨_, rfl⟩) (hL.t 0 rfl) (hL.p 42 rfl) dX9_take_41 ?_
        refine z_sipush 1200 dX9_take_44 rfl ?_
        refine z_iload_n 1 dX9_take_47 rfl rfl ?_
        refine z_imul dX9_take_48 ?_
        obtain ⟨hi_8, hf⟩ := zck_some hf
        refine z_iald (hL.t 43 rfl) hi_8 dX9_take_49 ?_
        refine z_istore_n dX9_take_50 rfl (by decide) (lc' := [(0, .ref a), (1, .int x1), (2, .int (zI h (a + 43) ((1200 : Int32) * x1).toNatClampNeg))]) rfl ?_
        refine z_aload_n 0 dX9_take_51 rfl rfl ?_
        refine z_getr fdX9_135_7 (Or.inr ⟨_, rfl⟩) (hL.t 0 rfl) (hL.p 41 rfl) dX9_take_52 ?_
        refine z_iload_n 1 dX9_take_55 rfl rfl ?_
        refine z_dup2 dX9_take_56 rfl rfl ?_
        obtain ⟨hi_9, hf⟩ := zck_some hf
        refine z_iald (hL.t 42 rfl) hi_9 dX9_take_57 ?_
        refine z_iconst 1 dX9_take_58 rfl ?_
        refine z_isub dX9_take_59 ?_
        obtain ⟨hi_10, hf⟩ := zck_some hf
        obtain ⟨h_11, he, hf⟩ := zlet_some hf
        refine z_iast (hL.t 42 rfl) (hL.nz 42) hi_10 he dX9_take_60 ?_
        have hL := hL.I he
        refine z_iconst 0 dX9_take_61 rfl ?_
        refine z_istore_n dX9_take_62 rfl (by decide) (lc' := [(0, .ref a), (1, .int x1), (2, .int (zI h (a + 43) ((1200 : Int32) * x1).toNatClampNeg)), (3, .int 0)]) rfl ?_
        exact z_loop (fun (s : zH × Int32) => (zBlk mB mP s.1 a → Z F 4 cX9_take RX9 "take" (some .int) [] s.1 63 [(0, .ref a), (1, .int x1), (2, .int (zI h (a + 43) ((1200 : Int32) * x1).toNatClampNeg)), (3, .int s.2)] [])) (fun (r : (Int32 × zH)) => ((.inl (some (.int r.1)), r.2) : zX) = zEnd F) (fun s y hb hs hr hL => zX9_take_L63 hD hL hb ⟨hs, hr⟩) hf hM hL
      · refine z_aload_n 0 dX9_take_33 rfl rfl ?_
        refine z_bipush (-2) dX9_take_34 rfl ?_
        obtain ⟨v_17, h_18, hc_16, hf⟩ := zb2_some hf
        have hct := ctX9_tell (l := F.1) hL hc_16
        refine z_invVi svX9_166_7 hct (hL.t 0 rfl) ⟨Nat.le_trans (by decide) hD, by decide⟩ rfl rfl (Nat.le_of_ble_eq_true rfl) dX9_take_36 ?_
        have hL := hL.ext mOk hct.1
        cases hf
        exact z_iret dX9_take_39 rfl hM
  · refine z_aload_n 0 dX9_take_9 rfl rfl ?_
    refine z_iconst (-1) dX9_take_10 rfl ?_
    obtain ⟨v_20, h_21, hc_19, hf⟩ := zb2_some hf
    have hct := ctX9_tell (l := F.1) hL hc_19
    refine z_invVi svX9_166_7 hct (hL.t 0 rfl) ⟨Nat.le_trans (by decide) hD, by decide⟩ rfl rfl (Nat.le_of_ble_eq_true rfl) dX9_take_11 ?_
    have hL := hL.ext mOk hct.1
    cases hf
    exact z_iret dX9_take_14 rfl hM
theorem ctX9_take {l : Launch} {h : zH} {a : Nat} {x1 : Int32} {v : Int32} {h' : zH} (hL : zBlk mB mP h a) (hf : fX9_take h a x1 = some (v, h')) : zC l yX9_take (ws_ yX9_take cX9_take 4 (some .int)) 2 [.ref a, .int x1] h (.inl (some (.int v)), h') :=
  z_start (by decide) (Nat.le_of_ble_eq_true rfl) (zX9_take (F := (l, 2, h, (.inl (some (.int v)), h'))) (Nat.le_refl _) hL hf rfl)
noncomputable def fX9_machine (h : zH) (a : Nat) (x1 : Int32) (x2 : Int32) : Option (Int32 × zH) := zb1 (fX9_in x1 0 3) (fun v_2 => if v_2 = 0 then (zb2 (fX9_tell h a ((-1))) (fun v_16 h_17 => some ((v_16, h_17)))) else (zck (vp_in x1 4) (if (zI h (a + 32) x1.toNatClampNeg) = 0 then (zb2 (fX9_tell h a ((-2))) (fun v_13 h_14 => some ((v_13, h_14)))) else (if x2 = 0 then (zck (vp_in x1 4) (some ((zI h (a + 42) x1.toNatClampNeg, h)))) else (if x2 = 1 then (zck (vp_in x1 4) (some ((zI h (a + 36) x1.toNatClampNeg, h)))) else (if x2 = 2 then (zck (vp_in x1 4) (some ((zI h (a + 37) x1.toNatClampNeg, h)))) else (if x2 = 3 then (zck (vp_in x1 4) (some ((zI h (a + 38) x1.toNatClampNeg, h)))) else (if x2 = 4 then (zck (vp_in x1 4) (some ((zI h (a + 41) x1.toNatClampNeg, h)))) else (zb2 (fX9_tell h a ((-1))) (fun v_5 h_6 => some ((v_5, h_6))))))))))))
theorem zX9_machine {F : zF} {h : zH} {a : Nat} {x1 : Int32} {x2 : Int32} {y : Int32 × zH} (hD : 2 ≤ F.2.1) (hL : zBlk mB mP h a) (hf : fX9_machine h a x1 x2 = some y) (hM : ((.inl (some (.int y.1)), y.2) : zX) = zEnd F) : Z F 3 cX9_machine RX9 "machine" (some .int) [] h 0 [(0, .ref a), (1, .int x1), (2, .int x2)] [] := by
  unfold fX9_machine at hf
  refine z_iload_n 1 dX9_machine_0 rfl rfl ?_
  refine z_iconst 0 dX9_machine_1 rfl ?_
  refine z_iconst 3 dX9_machine_2 rfl ?_
  obtain ⟨v_2, hc_1, hf⟩ := zb1_some hf
  refine z_invSi ssX9_156 (ctX9_in hc_1) ⟨Nat.le_trans (by decide) hD, by decide⟩ rfl rfl (Nat.le_of_ble_eq_true rfl) dX9_machine_3 ?_
  refine z_if_ne 15 dX9_machine_6 rfl hf (fun _ hf => ?_) (fun _ hf => ?_)
  · refine z_aload_n 0 dX9_machine_15 rfl rfl ?_
    refine z_getr fdX9_105_7 (Or.inr ⟨_, rfl⟩) (hL.t 0 rfl) (hL.p 31 rfl) dX9_machine_16 ?_
    refine z_iload_n 1 dX9_machine_19 rfl rfl ?_
    obtain ⟨hi_3, hf⟩ := zck_some hf
    refine z_zald (hL.t 32 rfl) hi_3 dX9_machine_20 ?_
    refine z_if_ne 31 dX9_machine_21 rfl hf (fun _ hf => ?_) (fun _ hf => ?_)
    · refine z_iload_n 2 dX9_machine_31 rfl rfl ?_
      refine z_swI hf (fun hx hf => ?_) (fun hx0 hf => ?_)
      · refine z_swT 68 dX9_machine_32 hx rfl (by decide) (by decide) rfl ?_
        refine z_aload_n 0 dX9_machine_68 rfl rfl ?_
        refine z_getr fdX9_135_7 (Or.inr ⟨_, rfl⟩) (hL.t 0 rfl) (hL.p 41 rfl) dX9_machine_69 ?_
        refine z_iload_n 1 dX9_machine_72 rfl rfl ?_
        obtain ⟨hi_11, hf⟩ := zck_some hf
        refine z_iald (hL.t 42 rfl) hi_11 dX9_machine_73 ?_
        cases hf
        exact z_iret dX9_machine_74 rfl hM
      · refine z_swI hf (fun hx hf => ?_) (fun hx1 hf => ?_)
        · refine z_swT 75 dX9_machine_32 hx rfl (by decide) (by decide) rfl ?_
          refine z_aload_n 0 dX9_machine_75 rfl rfl ?_
          refine z_getr fdX9_117_7 (Or.inr ⟨_, rfl⟩) (hL.t 0 rfl) (hL.p 35 rfl) dX9_machine_76 ?_
          refine z_iload_n 1 dX9_machine_79 rfl rfl ?_
          obtain ⟨hi_10, hf⟩ := zck_some hf
          refine z_iald (hL.t 36 rfl) hi_10 dX9_machine_80 ?_
          cases hf
          exact z_iret dX9_machine_81 rfl hM
        · refine z_swI hf (fun hx hf => ?_) (fun hx2 hf => ?_)
          · refine z_swT 82 dX9_machine_32 hx rfl (by decide) (by decide) rfl ?_
            refine z_aload_n 0 dX9_machine_82 rfl rfl ?_
            refine z_getr fdX9_120_7 (Or.inr ⟨_, rfl⟩) (hL.t 0 rfl) (hL.p 36 rfl) dX9_machine_83 ?_
            refine z_iload_n 1 dX9_machine_86 rfl rfl ?_
            obtain ⟨hi_9, hf⟩ := zck_some hf
            refine z_iald (hL.t 37 rfl) hi_9 dX9_machine_87 ?_
            cases hf
            exact z_iret dX9_machine_88 rfl hM
          · refine z_swI hf (fun hx hf => ?_) (fun hx3 hf => ?_)
            · refine z_swT 89 dX9_machine_32 hx rfl (by decide) (by decide) rfl ?_
              refine z_aload_n 0 dX9_machine_89 rfl rfl ?_
              refine z_getr fdX9_123_7 (Or.inr ⟨_, rfl⟩) (hL.t 0 rfl) (hL.p 37 rfl) dX9_machine_90 ?_
              refine z_iload_n 1 dX9_machine_93 rfl rfl ?_
              obtain ⟨hi_8, hf⟩ := zck_some hf
              refine z_iald (hL.t 38 rfl) hi_8 dX9_machine_94 ?_
              cases hf
              exact z_iret dX9_machine_95 rfl hM
            · refine z_swI hf (fun hx hf => ?_) (fun hx4 hf => ?_)
              · refine z_swT 96 dX9_machine_32 hx rfl (by decide) (by decide) rfl ?_
                refine z_aload_n 0 dX9_machine_96 rfl rfl ?_
                refine z_getr fdX9_132_7 (Or.inr ⟨_, rfl⟩) (hL.t 0 rfl) (hL.p 40 rfl) dX9_machine_97 ?_
                refine z_iload_n 1 dX9_machine_100 rfl rfl ?_
                obtain ⟨hi_7, hf⟩ := zck_some hf
                refine z_iald (hL.t 41 rfl) hi_7 dX9_machine_101 ?_
                cases hf
                exact z_iret dX9_machine_102 rfl hM
              · refine z_swO 103 dX9_machine_32 rfl (z_out_0_4 hx0 hx1 hx2 hx3 hx4) ?_
                refine z_aload_n 0 dX9_machine_103 rfl rfl ?_
                refine z_iconst (-1) dX9_machine_104 rfl ?_
                obtain ⟨v_5, h_6, hc_4, hf⟩ := zb2_some hf
                have hct := ctX9_tell (l := F.1) hL hc_4
                refine z_invVi svX9_166_7 hct (hL.t 0 rfl) ⟨Nat.le_trans (by decide) hD, by decide⟩ rfl rfl (Nat.le_of_ble_eq_true rfl) dX9_machine_105 ?_
                have hL := hL.ext mOk hct.1
                cases hf
                exact z_iret dX9_machine_108 rfl hM
    · refine z_aload_n 0 dX9_machine_24 rfl rfl ?_
      refine z_bipush (-2) dX9_machine_25 rfl ?_
      obtain ⟨v_13, h_14, hc_12, hf⟩ := zb2_some hf
      have hct := ctX9_tell (l := F.1) hL hc_12
      refine z_invVi svX9_166_7 hct (hL.t 0 rfl) ⟨Nat.le_trans (by decide) hD, by decide⟩ rfl rfl (Nat.le_of_ble_eq_true rfl) dX9_machine_27 ?_
      have hL := hL.ext mOk hct.1
      cases hf
      exact z_iret dX9_machine_30 rfl hM
  · refine z_aload_n 0 dX9_machine_9 rfl rfl ?_
    refine z_iconst (-1) dX9_machine_10 rfl ?_
    obtain ⟨v_16, h_17, hc_15, hf⟩ := zb2_some hf
    have hct := ctX9_tell (l := F.1) hL hc_15
    refine z_invVi svX9_166_7 hct (hL.t 0 rfl) ⟨Nat.le_trans (by decide) hD, by decide⟩ rfl rfl (Nat.le_of_ble_eq_true rfl) dX9_machine_11 ?_
    have hL := hL.ext mOk hct.1
    cases hf
    exact z_iret dX9_machine_14 rfl hM
theorem ctX9_machine {l : Launch} {h : zH} {a : Nat} {x1 : Int32} {x2 : Int32} {v : Int32} {h' : zH} (hL : zBlk mB mP h a) (hf : fX9_machine h a x1 x2 = some (v, h')) : zC l yX9_machine (ws_ yX9_machine cX9_machine 3 (some .int)) 2 [.ref a, .int x1, .int x2] h (.inl (some (.int v)), h') :=
  z_start (by decide) (Nat.le_of_ble_eq_true rfl) (zX9_machine (F := (l, 2, h, (.inl (some (.int v)), h'))) (Nat.le_refl _) hL hf rfl)
noncomputable def fX9_coverage_L75 (h : zH) (a : Nat) (x1 : Int32) (x3 : Int32) (x4 : Int32) (x5 : Int32) : Option ((zH × Int32 × Int32) ⊕ ((Int32 × zH))) := if x3 < x5 then (some (.inr ((x4, h)))) else (zb1 (fX9_isPoint x5) (fun v_18 => if v_18 = 0 then (some (.inl ((h, x4 + 0, x5 + 1)))) else (zb2 (fX9_find h a x1 x5) (fun v_20 h_21 => if v_20 = 0 then (some (.inl ((h_21, x4 + 0, x5 + 1)))) else (some (.inl ((h_21, x4 + 1, x5 + 1))))))))
theorem zX9_coverage_L75 {F : zF} {h : zH} {a : Nat} {x1 : Int32} {x3 : Int32} {x4 : Int32} {x5 : Int32} {y : (zH × Int32 × Int32) ⊕ ((Int32 × zH))} (hD : 3 ≤ F.2.1) (hL : zBlk mB mP h a) (hf : fX9_coverage_L75 h a x1 x3 x4 x5 = some y) (hM : ((∀ s' : zH × Int32 × Int32, y = .inl s' → (zBlk mB mP s'.1 a → Z F 6 cX9_coverage RX9 "coverage" (some .int) [] s'.1 75 [(0, .ref a), (1, .int x1), (3, .int x3), (4, .int s'.2.1), (5, .int s'.2.2)] [])) ∧ ∀ r : (Int32 × zH), y = .inr r → ((.inl (some (.int r.1)), r.2) : zX) = zEnd F)) : Z F 6 cX9_coverage RX9 "coverage" (some .int) [] h 75 [(0, .ref a), (1, .int x1), (3, .int x3), (4, .int x4), (5, .int x5)] [] := by
  unfold fX9_coverage_L75 at hf
  refine z_iload 4 dX9_coverage_75 rfl ?_
  refine z_iload_n 2 dX9_coverage_77 rfl rfl ?_
  refine z_icmp_gt 115 dX9_coverage_78 rfl hf (fun _ hf => ?_) (fun _ hf => ?_)
  · refine z_iload 3 dX9_coverage_115 rfl ?_
    cases hf
    exact z_iret dX9_coverage_117 rfl (hM.2 _ rfl)
  · refine z_iload 3 dX9_coverage_81 rfl ?_
    refine z_iload 4 dX9_coverage_83 rfl ?_
    obtain ⟨v_18, hc_17, hf⟩ := zb1_some hf
    refine z_invSi ssX9_187 (ctX9_isPoint hc_17) ⟨Nat.le_trans (by decide) hD, by decide⟩ rfl rfl (Nat.le_of_ble_eq_true rfl) dX9_coverage_85 ?_
    refine z_if_eq 105 dX9_coverage_88 rfl hf (fun _ hf => ?_) (fun _ hf => ?_)
    · refine z_iconst 0 dX9_coverage_105 rfl ?_
      refine z_iadd dX9_coverage_106 ?_
      refine z_istore dX9_coverage_107 (by decide) (lc' := [(0, .ref a), (1, .int x1), (3, .int x3), (4, .int (x4 + 0)), (5, .int x5)]) rfl ?_
      refine z_iinc 4 (x5 + 1) dX9_coverage_109 rfl rfl (by decide) (lc' := [(0, .ref a), (1, .int x1), (3, .int x3), (4, .int (x4 + 0)), (5, .int (x5 + 1))]) rfl ?_
      refine z_goto 75 dX9_coverage_112 rfl ?_
      cases hf
      exact (hM.1 _ rfl) hL
    · refine z_aload_n 0 dX9_coverage_91 rfl rfl ?_
      refine z_iload_n 1 dX9_coverage_92 rfl rfl ?_
      refine z_iload 4 dX9_coverage_93 rfl ?_
      obtain ⟨v_20, h_21, hc_19, hf⟩ := zb2_some hf
      have hct := ctX9_find (l := F.1) hL hc_19
      refine z_invVi svX9_252_7 hct (hL.t 0 rfl) ⟨Nat.le_trans (by decide) hD, by decide⟩ rfl rfl (Nat.le_of_ble_eq_true rfl) dX9_coverage_95 ?_
      have hL := hL.ext mOk hct.1
      refine z_if_eq 105 dX9_coverage_98 rfl hf (fun _ hf => ?_) (fun _ hf => ?_)
      · refine z_iconst 0 dX9_coverage_105 rfl ?_
        refine z_iadd dX9_coverage_106 ?_
        refine z_istore dX9_coverage_107 (by decide) (lc' := [(0, .ref a), (1, .int x1), (3, .int x3), (4, .int (x4 + 0)), (5, .int x5)]) rfl ?_
        refine z_iinc 4 (x5 + 1) dX9_coverage_109 rfl rfl (by decide) (lc' := [(0, .ref a), (1, .int x1), (3, .int x3), (4, .int (x4 + 0)), (5, .int (x5 + 1))]) rfl ?_
        refine z_goto 75 dX9_coverage_112 rfl ?_
        cases hf
        exact (hM.1 _ rfl) hL
      · refine z_iconst 1 dX9_coverage_101 rfl ?_
        refine z_goto 106 dX9_coverage_102 rfl ?_
        refine z_iadd dX9_coverage_106 ?_
        refine z_istore dX9_coverage_107 (by decide) (lc' := [(0, .ref a), (1, .int x1), (3, .int x3), (4, .int (x4 + 1)), (5, .int x5)]) rfl ?_
        refine z_iinc 4 (x5 + 1) dX9_coverage_109 rfl rfl (by decide) (lc' := [(0, .ref a), (1, .int x1), (3, .int x3), (4, .int (x4 + 1)), (5, .int (x5 + 1))]) rfl ?_
        refine z_goto 75 dX9_coverage_112 rfl ?_
        cases hf
        exact (hM.1 _ rfl) hL
noncomputable def fX9_coverage (h : zH) (a : Nat) (x1 : Int32) (x2 : Int32) (x3 : Int32) : Option (Int32 × zH) := zb1 (fX9_isPage h a x1) (fun v_2 => if v_2 = 0 then (zb2 (fX9_tell h a ((-1))) (fun v_29 h_30 => some ((v_29, h_30)))) else (zck (vp_in x1 11) (if (zI h (a + 2) x1.toNatClampNeg) = 0 then (zb2 (fX9_tell h a ((-5))) (fun v_26 h_27 => some ((v_26, h_27)))) else (zb1 (fX9_in x2 0 1114111) (fun v_5 => if v_5 = 0 then (zb2 (fX9_tell h a ((-1))) (fun v_7 h_8 => some ((v_7, h_8)))) else (zb1 (fX9_in x3 0 1114111) (fun v_10 => if v_10 = 0 then (zb2 (fX9_tell h a ((-1))) (fun v_12 h_13 => some ((v_12, h_13)))) else (if x3 < x2 then (zb2 (fX9_tell h a ((-1))) (fun v_15 h_16 => some ((v_15, h_16)))) else (if (x3 - x2) < 65536 then (zlp (fun s => fX9_coverage_L75 s.1 a x1 x3 s.2.1 s.2.2) (h, 0, x2)) else (zb2 (fX9_tell h a ((-1))) (fun v_23 h_24 => some ((v_23, h_24)))))))))))))
theorem zX9_coverage {F : zF} {h : zH} {a : Nat} {x1 : Int32} {x2 : Int32} {x3 : Int32} {y : Int32 × zH} (hD : 3 ≤ F.2.1) (hL : zBlk mB mP h a) (hf : fX9_coverage h a x1 x2 x3 = some y) (hM : ((.inl (some (.int y.1)), y.2) : zX) = zEnd F) : Z F 6 cX9_coverage RX9 "coverage" (some .int) [] h 0 [(0, .ref a), (1, .int x1), (2, .int x2), (3, .int x3)] [] := by
  unfold fX9_coverage at hf
  refine z_aload_n 0 dX9_coverage_0 rfl rfl ?_
  refine z_iload_n 1 dX9_coverage_1 rfl rfl ?_
  obtain ⟨v_2, hc_1, hf⟩ := zb1_some hf
  refine z_invVi svX9_170_7 (ctX9_isPage hL hc_1) (hL.t 0 rfl) ⟨Nat.le_trans (by decide) hD, by decide⟩ rfl rfl (Nat.le_of_ble_eq_true rfl) dX9_coverage_2 ?_
  refine z_if_ne 14 dX9_coverage_5 rfl hf (fun _ hf => ?_) (fun _ hf => ?_)
  · refine z_aload_n 0 dX9_coverage_14 rfl rfl ?_
    refine z_getr fdX9_13_7 (Or.inr ⟨_, rfl⟩) (hL.t 0 rfl) (hL.p 1 rfl) dX9_coverage_15 ?_
    refine z_iload_n 1 dX9_coverage_18 rfl rfl ?_
    obtain ⟨hi_3, hf⟩ := zck_some hf
    refine z_zald (hL.t 2 rfl) hi_3 dX9_coverage_19 ?_
    refine z_if_ne 30 dX9_coverage_20 rfl hf (fun _ hf => ?_) (fun _ hf => ?_)
    · refine z_iload_n 2 dX9_coverage_30 rfl rfl ?_
      refine z_iconst 0 dX9_coverage_31 rfl ?_
      refine z_ldc q1641 dX9_coverage_32 ?_
      obtain ⟨v_5, hc_4, hf⟩ := zb1_some hf
      refine z_invSi ssX9_156 (ctX9_in hc_4) ⟨Nat.le_trans (by decide) hD, by decide⟩ rfl rfl (Nat.le_of_ble_eq_true rfl) dX9_coverage_34 ?_
      refine z_if_eq 63 dX9_coverage_37 rfl hf (fun _ hf => ?_) (fun _ hf => ?_)
      · refine z_aload_n 0 dX9_coverage_63 rfl rfl ?_
        refine z_iconst (-1) dX9_coverage_64 rfl ?_
        obtain ⟨v_7, h_8, hc_6, hf⟩ := zb2_some hf
        have hct := ctX9_tell (l := F.1) hL hc_6
        refine z_invVi svX9_166_7 hct (hL.t 0 rfl) ⟨Nat.le_trans (by decide) hD, by decide⟩ rfl rfl (Nat.le_of_ble_eq_true rfl) dX9_coverage_65 ?_
        have hL := hL.ext mOk hct.1
        cases hf
        exact z_iret dX9_coverage_68 rfl hM
      · refine z_iload_n 3 dX9_coverage_40 rfl rfl ?_
        refine z_iconst 0 dX9_coverage_41 rfl ?_
        refine z_ldc q1641 dX9_coverage_42 ?_
        obtain ⟨v_10, hc_9, hf⟩ := zb1_some hf
        refine z_invSi ssX9_156 (ctX9_in hc_9) ⟨Nat.le_trans (by decide) hD, by decide⟩ rfl rfl (Nat.le_of_ble_eq_true rfl) dX9_coverage_44 ?_
        refine z_if_eq 63 dX9_coverage_47 rfl hf (fun _ hf => ?_) (fun _ hf => ?_)
        · refine z_aload_n 0 dX9_coverage_63 rfl rfl ?_
          refine z_iconst (-1) dX9_coverage_64 rfl ?_
          obtain ⟨v_12, h_13, hc_11, hf⟩ := zb2_some hf
          have hct := ctX9_tell (l := F.1) hL hc_11
          refine z_invVi svX9_166_7 hct (hL.t 0 rfl) ⟨Nat.le_trans (by decide) hD, by decide⟩ rfl rfl (Nat.le_of_ble_eq_true rfl) dX9_coverage_65 ?_
          have hL := hL.ext mOk hct.1
          cases hf
          exact z_iret dX9_coverage_68 rfl hM
        · refine z_iload_n 3 dX9_coverage_50 rfl rfl ?_
          refine z_iload_n 2 dX9_coverage_51 rfl rfl ?_
          refine z_icmp_lt 63 dX9_coverage_52 rfl hf (fun _ hf => ?_) (fun _ hf => ?_)
          · refine z_aload_n 0 dX9_coverage_63 rfl rfl ?_
            refine z_iconst (-1) dX9_coverage_64 rfl ?_
            obtain ⟨v_15, h_16, hc_14, hf⟩ := zb2_some hf
            have hct := ctX9_tell (l := F.1) hL hc_14
            refine z_invVi svX9_166_7 hct (hL.t 0 rfl) ⟨Nat.le_trans (by decide) hD, by decide⟩ rfl rfl (Nat.le_of_ble_eq_true rfl) dX9_coverage_65 ?_
            have hL := hL.ext mOk hct.1
            cases hf
            exact z_iret dX9_coverage_68 rfl hM
          · refine z_iload_n 3 dX9_coverage_55 rfl rfl ?_
            refine z_iload_n 2 dX9_coverage_56 rfl rfl ?_
            refine z_isub dX9_coverage_57 ?_
            refine z_ldc q1712 dX9_coverage_58 ?_
            refine z_icmp_lt 69 dX9_coverage_60 rfl hf (fun _ hf => ?_) (fun _ hf => ?_)
            · refine z_iconst 0 dX9_coverage_69 rfl ?_
              refine z_istore dX9_coverage_70 (by decide) (lc' := [(0, .ref a), (1, .int x1), (2, .int x2), (3, .int x3), (4, .int 0)]) rfl ?_
              refine z_iload_n 2 dX9_coverage_72 rfl rfl ?_
              refine z_istore dX9_coverage_73 (by decide) (lc' := [(0, .ref a), (1, .int x1), (2, .int x2), (3, .int x3), (4, .int 0), (5, .int x2)]) rfl ?_
              refine z_sub [0, 1, 3, 4, 5] rfl ?_
              exact z_loop (fun (s : zH × Int32 × Int32) => (zBlk mB mP s.1 a → Z F 6 cX9_coverage RX9 "coverage" (some .int) [] s.1 75 [(0, .ref a), (1, .int x1), (3, .int x3), (4, .int s.2.1), (5, .int s.2.2)] [])) (fun (r : (Int32 × zH)) => ((.inl (some (.int r.1)), r.2) : zX) = zEnd F) (fun s y hb hs hr hL => zX9_coverage_L75 hD hL hb ⟨hs, hr⟩) hf hM hL
            · refine z_aload_n 0 dX9_coverage_63 rfl rfl ?_
              refine z_iconst (-1) dX9_coverage_64 rfl ?_
              obtain ⟨v_23, h_24, hc_22, hf⟩ := zb2_some hf
              have hct := ctX9_tell (l := F.1) hL hc_22
              refine z_invVi svX9_166_7 hct (hL.t 0 rfl) ⟨Nat.le_trans (by decide) hD, by decide⟩ rfl rfl (Nat.le_of_ble_eq_true rfl) dX9_coverage_65 ?_
              have hL := hL.ext mOk hct.1
              cases hf
              exact z_iret dX9_coverage_68 rfl hM
    · refine z_aload_n 0 dX9_coverage_23 rfl rfl ?_
      refine z_bipush (-5) dX9_coverage_24 rfl ?_
      obtain ⟨v_26, h_27, hc_25, hf⟩ := zb2_some hf
      have hct := ctX9_tell (l := F.1) hL hc_25
      refine z_invVi svX9_166_7 hct (hL.t 0 rfl) ⟨Nat.le_trans (by decide) hD, by decide⟩ rfl rfl (Nat.le_of_ble_eq_true rfl) dX9_coverage_26 ?_
      have hL := hL.ext mOk hct.1
      cases hf
      exact z_iret dX9_coverage_29 rfl hM
  · refine z_aload_n 0 dX9_coverage_8 rfl rfl ?_
    refine z_iconst (-1) dX9_coverage_9 rfl ?_
    obtain ⟨v_29, h_30, hc_28, hf⟩ := zb2_some hf
    have hct := ctX9_tell (l := F.1) hL hc_28
    refine z_invVi svX9_166_7 hct (hL.t 0 rfl) ⟨Nat.le_trans (by decide) hD, by decide⟩ rfl rfl (Nat.le_of_ble_eq_true rfl) dX9_coverage_10 ?_
    have hL := hL.ext mOk hct.1
    cases hf
    exact z_iret dX9_coverage_13 rfl hM
theorem ctX9_coverage {l : Launch} {h : zH} {a : Nat} {x1 : Int32} {x2 : Int32} {x3 : Int32} {v : Int32} {h' : zH} (hL : zBlk mB mP h a) (hf : fX9_coverage h a x1 x2 x3 = some (v, h')) : zC l yX9_coverage (ws_ yX9_coverage cX9_coverage 6 (some .int)) 3 [.ref a, .int x1, .int x2, .int x3] h (.inl (some (.int v)), h') :=
  z_start (by decide) (Nat.le_of_ble_eq_true rfl) (zX9_coverage (F := (l, 3, h, (.inl (some (.int v)), h'))) (Nat.le_refl _) hL hf rfl)
noncomputable def fX9_aloneOf (h : zH) (a : Nat) (x1 : Int32) (x2 : Int32) : Option (Int32 × zH) := zb2 (fX9_find h a x1 x2) (fun v_2 h_3 => if v_2 = 0 then (some (((-1), h_3))) else (zlet (zsI h_3 a 34 0) (fun h_4 => zlet (zsP h_4 a 36 (some (a + 45))) (fun h_5 => zlet (zsI h_5 a 37 0) (fun h_6 => zlet (zsI h_6 a 38 1200) (fun h_7 => zb2 (fX9_putPoint h_7 a x1) (fun v_9 h_10 => zb2 (fX9_goHome h_10 a x1) (fun v_12 h_13 => if v_12 = 0 then (if v_9 = 0 then (some ((zI h_13 a 37, h_13))) else (some (((-1), h_13)))) else (some (((-1), h_13)))))))))))
theorem zX9_aloneOf {F : zF} {h : zH} {a : Nat} {x1 : Int32} {x2 : Int32} {y : Int32 × zH} (hD : 14 ≤ F.2.1) (hL : zBlk mB mP h a) (hf : fX9_aloneOf h a x1 x2 = some y) (hM : ((.inl (some (.int y.1)), y.2) : zX) = zEnd F) : Z F 4 cX9_aloneOf RX9 "aloneOf" (some .int) [] h 0 [(0, .ref a), (1, .int x1), (2, .int x2)] [] := by
  unfold fX9_aloneOf at hf
  refine z_aload_n 0 dX9_aloneOf_0 rfl rfl ?_
  refine z_iload_n 1 dX9_aloneOf_1 rfl rfl ?_
  refine z_iload_n 2 dX9_aloneOf_2 rfl rfl ?_
  obtain ⟨v_2, h_3, hc_1, hf⟩ := zb2_some hf
  have hct := ctX9_find (l := F.1) hL hc_1
  refine z_invVi svX9_252_7 hct (hL.t 0 rfl) ⟨Nat.le_trans (by decide) hD, by decide⟩ rfl rfl (Nat.le_of_ble_eq_true rfl) dX9_aloneOf_3 ?_
  have hL := hL.ext mOk hct.1
  refine z_if_ne 11 dX9_aloneOf_6 rfl hf (fun _ hf => ?_) (fun _ hf => ?_)
  · refine z_aload_n 0 dX9_aloneOf_11 rfl rfl ?_
    refine z_iconst 0 dX9_aloneOf_12 rfl ?_
    obtain ⟨h_4, he, hf⟩ := zlet_some hf
    refine z_puti fdX9_289_7 (hL.t 0 rfl) (hL.nz 0) he dX9_aloneOf_13 ?_
    have hL := hL.I he
    refine z_aload_n 0 dX9_aloneOf_16 rfl rfl ?_
    refine z_aload_n 0 dX9_aloneOf_17 rfl rfl ?_
    refine z_getr fdX9_144_7 (Or.inr ⟨_, rfl⟩) (hL.t 0 rfl) (hL.p 44 rfl) dX9_aloneOf_18 ?_
    obtain ⟨h_5, he, hf⟩ := zlet_some hf
    refine z_putr fdX9_269_7 (Or.inr ⟨_, rfl⟩) (hL.t 0 rfl) (hL.nz 0) he dX9_aloneOf_21 ?_
    have hL := hL.P he (hL.t 0 rfl) (by decide)
    refine z_aload_n 0 dX9_aloneOf_24 rfl rfl ?_
    refine z_iconst 0 dX9_aloneOf_25 rfl ?_
    obtain ⟨h_6, he, hf⟩ := zlet_some hf
    refine z_puti fdX9_272_7 (hL.t 0 rfl) (hL.nz 0) he dX9_aloneOf_26 ?_
    have hL := hL.I he
    refine z_aload_n 0 dX9_aloneOf_29 rfl rfl ?_
    refine z_sipush 1200 dX9_aloneOf_30 rfl ?_
    obtain ⟨h_7, he, hf⟩ := zlet_some hf
    refine z_puti fdX9_328_7 (hL.t 0 rfl) (hL.nz 0) he dX9_aloneOf_33 ?_
    have hL := hL.I he
    refine z_aload_n 0 dX9_aloneOf_36 rfl rfl ?_
    refine z_iload_n 1 dX9_aloneOf_37 rfl rfl ?_
    obtain ⟨v_9, h_10, hc_8, hf⟩ := zb2_some hf
    have hct := ctX9_putPoint (l := F.1) hL hc_8
    refine z_invVi svX9_348_7 hct (hL.t 0 rfl) ⟨Nat.le_trans (by decide) hD, by decide⟩ rfl rfl (Nat.le_of_ble_eq_true rfl) dX9_aloneOf_38 ?_
    have hL := hL.ext mOk hct.1
    refine z_istore_n dX9_aloneOf_41 rfl (by decide) (lc' := [(0, .ref a), (1, .int x1), (2, .int x2), (3, .int v_9)]) rfl ?_
    refine z_aload_n 0 dX9_aloneOf_42 rfl rfl ?_
    refine z_iload_n 1 dX9_aloneOf_43 rfl rfl ?_
    obtain ⟨v_12, h_13, hc_11, hf⟩ := zb2_some hf
    have hct := ctX9_goHome (l := F.1) hL hc_11
    refine z_invVi svX9_367_7 hct (hL.t 0 rfl) ⟨Nat.le_trans (by decide) hD, by decide⟩ rfl rfl (Nat.le_of_ble_eq_true rfl) dX9_aloneOf_44 ?_
    have hL := hL.ext mOk hct.1
    refine z_if_ne 61 dX9_aloneOf_47 rfl hf (fun _ hf => ?_) (fun _ hf => ?_)
    · refine z_iconst (-1) dX9_aloneOf_61 rfl ?_
      cases hf
      exact z_iret dX9_aloneOf_62 rfl hM
    · refine z_iload_n 3 dX9_aloneOf_50 rfl rfl ?_
      refine z_if_ne 61 dX9_aloneOf_51 rfl hf (fun _ hf => ?_) (fun _ hf => ?_)
      · refine z_iconst (-1) dX9_aloneOf_61 rfl ?_
        cases hf
        exact z_iret dX9_aloneOf_62 rfl hM
      · refine z_aload_n 0 dX9_aloneOf_54 rfl rfl ?_
        refine z_geti fdX9_272_7 (hL.t 0 rfl) dX9_aloneOf_55 ?_
        refine z_goto 62 dX9_aloneOf_58 rfl ?_
        cases hf
        exact z_iret dX9_aloneOf_62 rfl hM
  · refine z_iconst (-1) dX9_aloneOf_9 rfl ?_
    cases hf
    exact z_iret dX9_aloneOf_10 rfl hM
theorem ctX9_aloneOf {l : Launch} {h : zH} {a : Nat} {x1 : Int32} {x2 : Int32} {v : Int32} {h' : zH} (hL : zBlk mB mP h a) (hf : fX9_aloneOf h a x1 x2 = some (v, h')) : zC l yX9_aloneOf (ws_ yX9_aloneOf cX9_aloneOf 4 (some .int)) 14 [.ref a, .int x1, .int x2] h (.inl (some (.int v)), h') :=
  z_start (by decide) (Nat.le_of_ble_eq_true rfl) (zX9_aloneOf (F := (l, 14, h, (.inl (some (.int v)), h'))) (Nat.le_refl _) hL hf rfl)
theorem svX9_402_7 : zIv RX9 402 yX9_aloneOf (ws_ yX9_aloneOf cX9_aloneOf 4 (some .int)) 4 7 2 := ⟨zGood_c q1909 q109, ⟨_, _, rfl, rfl, qs90⟩, Or.inl q1906, q1908, ⟨by decide, by decide⟩, by decide +kernel⟩
theorem fdX9_147_7 : zFd RX9 147 7 66 (.array .int) true := ⟨_, _, _, rfl, rfl, by decide, rfl, rfl, Or.inl q1458, Or.inl rfl⟩
noncomputable def fX9_differ_L106 (h : zH) (a : Nat) (x1 : Int32) (x2 : Int32) (x3 : Int32) (x4 : Int32) (x5 : Int32) (x6 : Int32) : Option ((zH × Int32) ⊕ (zH)) := if x5 ≤ x6 then (some (.inr h)) else (zck (vp_in x6 1200) (zck (vp_in x6 64) (zlet (zsI h (a + 46) x6.toNatClampNeg (zI h (a + 45) x6.toNatClampNeg)) (fun h_28 => some (.inl ((h_28, x6 + 1)))))))
theorem zX9_differ_L106 {F : zF} {h : zH} {a : Nat} {x1 : Int32} {x2 : Int32} {x3 : Int32} {x4 : Int32} {x5 : Int32} {x6 : Int32} {y : (zH × Int32) ⊕ (zH)} (hD : 15 ≤ F.2.1) (hL : zBlk mB mP h a) (hf : fX9_differ_L106 h a x1 x2 x3 x4 x5 x6 = some y) (hM : ((∀ s' : zH × Int32, y = .inl s' → (zBlk mB mP s'.1 a → Z F 8 cX9_differ RX9 "differ" (some .int) [] s'.1 106 [(0, .ref a), (1, .int x1), (2, .int x2), (3, .int x3), (4, .int x4), (5, .int x5), (6, .int s'.2)] [])) ∧ ∀ r : zH, y = .inr r → (zBlk mB mP r a → Z F 8 cX9_differ RX9 "differ" (some .int) [] r 133 [(0, .ref a), (1, .int x1), (2, .int x2), (3, .int x3), (4, .int x4), (5, .int x5)] []))) : Z F 8 cX9_differ RX9 "differ" (some .int) [] h 106 [(0, .ref a), (1, .int x1), (2, .int x2), (3, .int x3), (4, .int x4), (5, .int x5), (6, .int x6)] [] := by
  unfold fX9_differ_L106 at hf
  refine z_iload 6 dX9_differ_106 rfl ?_
  refine z_iload 5 dX9_differ_108 rfl ?_
  refine z_icmp_ge 133 dX9_differ_110 rfl hf (fun _ hf => ?_) (fun _ hf => ?_)
  · cases hf
    refine z_sub [0, 1, 2, 3, 4, 5] rfl ?_
    exact (hM.2 _ rfl) hL
  · refine z_aload_n 0 dX9_differ_113 rfl rfl ?_
    refine z_getr fdX9_147_7 (Or.inr ⟨_, rfl⟩) (hL.t 0 rfl) (hL.p 45 rfl) dX9_differ_114 ?_
    refine z_iload 6 dX9_differ_117 rfl ?_
    refine z_aload_n 0 dX9_differ_119 rfl rfl ?_
    refine z_getr fdX9_144_7 (Or.inr ⟨_, rfl⟩) (hL.t 0 rfl) (hL.p 44 rfl) dX9_differ_120 ?_
    refine z_iload 6 dX9_differ_123 rfl ?_
    obtain ⟨hi_26, hf⟩ := zck_some hf
    refine z_iald (hL.t 45 rfl) hi_26 dX9_differ_125 ?_
    obtain ⟨hi_27, hf⟩ := zck_some hf
    obtain ⟨h_28, he, hf⟩ := zlet_some hf
    refine z_iast (hL.t 46 rfl) (hL.nz 46) hi_27 he dX9_differ_126 ?_
    have hL := hL.I he
    refine z_iinc 6 (x6 + 1) dX9_differ_127 rfl rfl (by decide) (lc' := [(0, .ref a), (1, .int x1), (2, .int x2), (3, .int x3), (4, .int x4), (5, .int x5), (6, .int (x6 + 1))]) rfl ?_
    refine z_goto 106 dX9_differ_130 rfl ?_
    cases hf
    exact (hM.1 _ rfl) hL
noncomputable def fX9_differ_L155 (h : zH) (a : Nat) (x1 : Int32) (x2 : Int32) (x3 : Int32) (x4 : Int32) (x5 : Int32) (x6 : Int32) (x7 : Int32) : Option ((Int32 × Int32) ⊕ (Int32)) := if x5 ≤ x7 then (some (.inr x6)) else (if x6 = 0 then (some (.inr x6)) else (zck (vp_in x7 64) (zck (vp_in x7 1200) (if (zI h (a + 46) x7.toNatClampNeg) = (zI h (a + 45) x7.toNatClampNeg) then (some (.inl ((1, x7 + 1)))) else (some (.inl ((0, x7 + 1))))))))
theorem zX9_differ_L155 {F : zF} {h : zH} {a : Nat} {x1 : Int32} {x2 : Int32} {x3 : Int32} {x4 : Int32} {x5 : Int32} {x6 : Int32} {x7 : Int32} {y : (Int32 × Int32) ⊕ (Int32)} (hD : 15 ≤ F.2.1) (hL : zBlk mB mP h a) (hf : fX9_differ_L155 h a x1 x2 x3 x4 x5 x6 x7 = some y) (hM : ((∀ s' : Int32 × Int32, y = .inl s' → Z F 8 cX9_differ RX9 "differ" (some .int) [] h 155 [(0, .ref a), (1, .int x1), (2, .int x2), (3, .int x3), (4, .int x4), (5, .int x5), (6, .int s'.1), (7, .int s'.2)] []) ∧ ∀ r : Int32, y = .inr r → Z F 8 cX9_differ RX9 "differ" (some .int) [] h 197 [(0, .ref a), (1, .int x1), (2, .int x2), (3, .int x3), (4, .int x4), (6, .int r)] [])) : Z F 8 cX9_differ RX9 "differ" (some .int) [] h 155 [(0, .ref a), (1, .int x1), (2, .int x2), (3, .int x3), (4, .int x4), (5, .int x5), (6, .int x6), (7, .int x7)] [] := by
  unfold fX9_differ_L155 at hf
  refine z_iload 7 dX9_differ_155 rfl ?_
  refine z_iload 5 dX9_differ_157 rfl ?_
  refine z_icmp_ge 197 dX9_differ_159 rfl hf (fun _ hf => ?_) (fun _ hf => ?_)
  · cases hf
    refine z_sub [0, 1, 2, 3, 4, 6] rfl ?_
    exact (hM.2 _ rfl)
  · refine z_iload 6 dX9_differ_162 rfl ?_
    refine z_if_eq 197 dX9_differ_164 rfl hf (fun _ hf => ?_) (fun _ hf => ?_)
    · cases hf
      refine z_sub [0, 1, 2, 3, 4, 6] rfl ?_
      exact (hM.2 _ rfl)
    · refine z_aload_n 0 dX9_differ_167 rfl rfl ?_
      refine z_getr fdX9_147_7 (Or.inr ⟨_, rfl⟩) (hL.t 0 rfl) (hL.p 45 rfl) dX9_differ_168 ?_
      refine z_iload 7 dX9_differ_171 rfl ?_
      obtain ⟨hi_33, hf⟩ := zck_some hf
      refine z_iald (hL.t 46 rfl) hi_33 dX9_differ_173 ?_
      refine z_aload_n 0 dX9_differ_174 rfl rfl ?_
      refine z_getr fdX9_144_7 (Or.inr ⟨_, rfl⟩) (hL.t 0 rfl) (hL.p 44 rfl) dX9_differ_175 ?_
      refine z_iload 7 dX9_differ_178 rfl ?_
      obtain ⟨hi_34, hf⟩ := zck_some hf
      refine z_iald (hL.t 45 rfl) hi_34 dX9_differ_180 ?_
      refine z_icmp_ne 188 dX9_differ_181 rfl hf (fun _ hf => ?_) (fun _ hf => ?_)
      · refine z_iconst 0 dX9_differ_188 rfl ?_
        refine z_istore dX9_differ_189 (by decide) (lc' := [(0, .ref a), (1, .int x1), (2, .int x2), (3, .int x3), (4, .int x4), (5, .int x5), (6, .int 0), (7, .int x7)]) rfl ?_
        refine z_iinc 7 (x7 + 1) dX9_differ_191 rfl rfl (by decide) (lc' := [(0, .ref a), (1, .int x1), (2, .int x2), (3, .int x3), (4, .int x4), (5, .int x5), (6, .int 0), (7, .int (x7 + 1))]) rfl ?_
        refine z_goto 155 dX9_differ_194 rfl ?_
        cases hf
        exact (hM.1 _ rfl)
      · refine z_iconst 1 dX9_differ_184 rfl ?_
        refine z_goto 189 dX9_differ_185 rfl ?_
        refine z_istore dX9_differ_189 (by decide) (lc' := [(0, .ref a), (1, .int x1), (2, .int x2), (3, .int x3), (4, .int x4), (5, .int x5), (6, .int 1), (7, .int x7)]) rfl ?_
        refine z_iinc 7 (x7 + 1) dX9_differ_191 rfl rfl (by decide) (lc' := [(0, .ref a), (1, .int x1), (2, .int x2), (3, .int x3), (4, .int x4), (5, .int x5), (6, .int 1), (7, .int (x7 + 1))]) rfl ?_
        refine z_goto 155 dX9_differ_194 rfl ?_
        cases hf
        exact (hM.1 _ rfl)
noncomputable def fX9_differ_J150 (h : zH) (a : Nat) (x1 : Int32) (x2 : Int32) (x3 : Int32) (x4 : Int32) (x5 : Int32) (k0 : Int32) : Option ((zH × Int32) ⊕ ((Int32 × zH))) := zb1 (zlp (fun s => fX9_differ_L155 h a x1 x2 x3 x4 x5 s.1 s.2) (k0, 0)) (fun t_35 => if t_35 = 0 then (some (.inr ((x4, h)))) else (some (.inl ((h, x4 + 1)))))
theorem zX9_differ_J150 {F : zF} {h : zH} {a : Nat} {x1 : Int32} {x2 : Int32} {x3 : Int32} {x4 : Int32} {x5 : Int32} {k0 : Int32} {y : (zH × Int32) ⊕ ((Int32 × zH))} (hD : 15 ≤ F.2.1) (hL : zBlk mB mP h a) (hf : fX9_differ_J150 h a x1 x2 x3 x4 x5 k0 = some y) (hM : ((∀ s' : zH × Int32, y = .inl s' → (zBlk mB mP s'.1 a → Z F 8 cX9_differ RX9 "differ" (some .int) [] s'.1 66 [(0, .ref a), (1, .int x1), (2, .int x2), (3, .int x3), (4, .int s'.2)] [])) ∧ ∀ r : (Int32 × zH), y = .inr r → ((.inl (some (.int r.1)), r.2) : zX) = zEnd F)) : Z F 8 cX9_differ RX9 "differ" (some .int) [] h 150 [(0, .ref a), (1, .int x1), (2, .int x2), (3, .int x3), (4, .int x4), (5, .int x5)] [.int k0] := by
  unfold fX9_differ_J150 at hf
  refine z_istore dX9_differ_150 (by decide) (lc' := [(0, .ref a), (1, .int x1), (2, .int x2), (3, .int x3), (4, .int x4), (5, .int x5), (6, .int k0)]) rfl ?_
  refine z_iconst 0 dX9_differ_152 rfl ?_
  refine z_istore dX9_differ_153 (by decide) (lc' := [(0, .ref a), (1, .int x1), (2, .int x2), (3, .int x3), (4, .int x4), (5, .int x5), (6, .int k0), (7, .int 0)]) rfl ?_
  obtain ⟨t_35, hl, hf⟩ := zb1_some hf
  refine z_loop (fun (s : Int32 × Int32) => Z F 8 cX9_differ RX9 "differ" (some .int) [] h 155 [(0, .ref a), (1, .int x1), (2, .int x2), (3, .int x3), (4, .int x4), (5, .int x5), (6, .int s.1), (7, .int s.2)] []) (fun (r : Int32) => Z F 8 cX9_differ RX9 "differ" (some .int) [] h 197 [(0, .ref a), (1, .int x1), (2, .int x2), (3, .int x3), (4, .int x4), (6, .int r)] []) (fun s y hb hs hr => zX9_differ_L155 hD hL hb ⟨hs, hr⟩) hl ?_
  show Z F 8 cX9_differ RX9 "differ" (some .int) [] h 197 [(0, .ref a), (1, .int x1), (2, .int x2), (3, .int x3), (4, .int x4), (6, .int t_35)] []
  refine z_iload 5 dX9_differ_197 rfl ?_
  refine z_if_ne 205 dX9_differ_199 rfl hf (fun _ hf => ?_) (fun _ hf => ?_)
  · refine z_iinc 4 (x4 + 1) dX9_differ_205 rfl rfl (by decide) (lc' := [(0, .ref a), (1, .int x1), (2, .int x2), (3, .int x3), (4, .int (x4 + 1)), (6, .int t_35)]) rfl ?_
    refine z_goto 66 dX9_differ_208 rfl ?_
    cases hf
    refine z_sub [0, 1, 2, 3, 4] rfl ?_
    exact (hM.1 _ rfl) hL
  · refine z_iload 4 dX9_differ_202 rfl ?_
    cases hf
    exact z_iret dX9_differ_204 rfl (hM.2 _ rfl)
noncomputable def fX9_differ_L66 (h : zH) (a : Nat) (x1 : Int32) (x2 : Int32) (x3 : Int32) (x4 : Int32) : Option ((zH × Int32) ⊕ ((Int32 × zH))) := if (x3 + 4096) ≤ x4 then (zb2 (fX9_tell h a ((-2))) (fun v_16 h_17 => some (.inr ((v_16, h_17))))) else (if 1114111 < x4 then (zb2 (fX9_tell h a ((-2))) (fun v_19 h_20 => some (.inr ((v_19, h_20))))) else (zb1 (fX9_isPoint x4) (fun v_22 => if v_22 = 0 then (some (.inl ((h, x4 + 1)))) else (zb2 (fX9_aloneOf h a x1 x4) (fun v_24 h_25 => zb1 (zlp (fun s => fX9_differ_L106 s.1 a x1 x2 x3 x4 v_24 s.2) (h_25, 0)) (fun t_29 => zb2 (fX9_aloneOf t_29 a x2 x4) (fun v_31 h_32 => if v_31 = v_24 then (fX9_differ_J150 h_32 a x1 x2 x3 x4 v_24 1) else (fX9_differ_J150 h_32 a x1 x2 x3 x4 v_24 0))))))))
theorem zX9_differ_L66 {F : zF} {h : zH} {a : Nat} {x1 : Int32} {x2 : Int32} {x3 : Int32} {x4 : Int32} {y : (zH × Int32) ⊕ ((Int32 × zH))} (hD : 15 ≤ F.2.1) (hL : zBlk mB mP h a) (hf : fX9_differ_L66 h a x1 x2 x3 x4 = some y) (hM : ((∀ s' : zH × Int32, y = .inl s' → (zBlk mB mP s'.1 a → Z F 8 cX9_differ RX9 "differ" (some .int) [] s'.1 66 [(0, .ref a), (1, .int x1), (2, .int x2), (3, .int x3), (4, .int s'.2)] [])) ∧ ∀ r : (Int32 × zH), y = .inr r → ((.inl (some (.int r.1)), r.2) : zX) = zEnd F)) : Z F 8 cX9_differ RX9 "differ" (some .int) [] h 66 [(0, .ref a), (1, .int x1), (2, .int x2), (3, .int x3), (4, .int x4)] [] := by
  unfold fX9_differ_L66 at hf
  refine z_iload 4 dX9_differ_66 rfl ?_
  refine z_iload_n 3 dX9_differ_68 rfl rfl ?_
  refine z_sipush 4096 dX9_differ_69 rfl ?_
  refine z_iadd dX9_differ_72 ?_
  refine z_icmp_ge 211 dX9_differ_73 rfl hf (fun _ hf => ?_) (fun _ hf => ?_)
  · refine z_aload_n 0 dX9_differ_211 rfl rfl ?_
    refine z_bipush (-2) dX9_differ_212 rfl ?_
    obtain ⟨v_16, h_17, hc_15, hf⟩ := zb2_some hf
    have hct := ctX9_tell (l := F.1) hL hc_15
    refine z_invVi svX9_166_7 hct (hL.t 0 rfl) ⟨Nat.le_trans (by decide) hD, by decide⟩ rfl rfl (Nat.le_of_ble_eq_true rfl) dX9_differ_214 ?_
    have hL := hL.ext mOk hct.1
    cases hf
    exact z_iret dX9_differ_217 rfl (hM.2 _ rfl)
  · refine z_iload 4 dX9_differ_76 rfl ?_
    refine z_ldc q1641 dX9_differ_78 ?_
    refine z_icmp_gt 211 dX9_differ_80 rfl hf (fun _ hf => ?_) (fun _ hf => ?_)
    · refine z_aload_n 0 dX9_differ_211 rfl rfl ?_
      refine z_bipush (-2) dX9_differ_212 rfl ?_
      obtain ⟨v_19, h_20, hc_18, hf⟩ := zb2_some hf
      have hct := ctX9_tell (l := F.1) hL hc_18
      refine z_invVi svX9_166_7 hct (hL.t 0 rfl) ⟨Nat.le_trans (by decide) hD, by decide⟩ rfl rfl (Nat.le_of_ble_eq_true rfl) dX9_differ_214 ?_
      have hL := hL.ext mOk hct.1
      cases hf
      exact z_iret dX9_differ_217 rfl (hM.2 _ rfl)
    · refine z_iload 4 dX9_differ_83 rfl ?_
      obtain ⟨v_22, hc_21, hf⟩ := zb1_some hf
      refine z_invSi ssX9_187 (ctX9_isPoint hc_21) ⟨Nat.le_trans (by decide) hD, by decide⟩ rfl rfl (Nat.le_of_ble_eq_true rfl) dX9_differ_85 ?_
      refine z_if_ne 94 dX9_differ_88 rfl hf (fun _ hf => ?_) (fun _ hf => ?_)
      · refine z_aload_n 0 dX9_differ_94 rfl rfl ?_
        refine z_iload_n 1 dX9_differ_95 rfl rfl ?_
        refine z_iload 4 dX9_differ_96 rfl ?_
        obtain ⟨v_24, h_25, hc_23, hf⟩ := zb2_some hf
        have hct := ctX9_aloneOf (l := F.1) hL hc_23
        refine z_invVi svX9_402_7 hct (hL.t 0 rfl) ⟨Nat.le_trans (by decide) hD, by decide⟩ rfl rfl (Nat.le_of_ble_eq_true rfl) dX9_differ_98 ?_
        have hL := hL.ext mOk hct.1
        refine z_istore dX9_differ_101 (by decide) (lc' := [(0, .ref a), (1, .int x1), (2, .int x2), (3, .int x3), (4, .int x4), (5, .int v_24)]) rfl ?_
        refine z_iconst 0 dX9_differ_103 rfl ?_
        refine z_istore dX9_differ_104 (by decide) (lc' := [(0, .ref a), (1, .int x1), (2, .int x2), (3, .int x3), (4, .int x4), (5, .int v_24), (6, .int 0)]) rfl ?_
        obtain ⟨t_29, hl, hf⟩ := zb1_some hf
        refine z_loop (fun (s : zH × Int32) => (zBlk mB mP s.1 a → Z F 8 cX9_differ RX9 "differ" (some .int) [] s.1 106 [(0, .ref a), (1, .int x1), (2, .int x2), (3, .int x3), (4, .int x4), (5, .int v_24), (6, .int s.2)] [])) (fun (r : zH) => (zBlk mB mP r a → Z F 8 cX9_differ RX9 "differ" (some .int) [] r 133 [(0, .ref a), (1, .int x1), (2, .int x2), (3, .int x3), (4, .int x4), (5, .int v_24)] [])) (fun s y hb hs hr hL => zX9_differ_L106 hD hL hb ⟨hs, hr⟩) hl ?_ hL
        intro hL
        show Z F 8 cX9_differ RX9 "differ" (some .int) [] t_29 133 [(0, .ref a), (1, .int x1), (2, .int x2), (3, .int x3), (4, .int x4), (5, .int v_24)] []
        refine z_aload_n 0 dX9_differ_133 rfl rfl ?_
        refine z_iload_n 2 dX9_differ_134 rfl rfl ?_
        refine z_iload 4 dX9_differ_135 rfl ?_
        obtain ⟨v_31, h_32, hc_30, hf⟩ := zb2_some hf
        have hct := ctX9_aloneOf (l := F.1) hL hc_30
        refine z_invVi svX9_402_7 hct (hL.t 0 rfl) ⟨Nat.le_trans (by decide) hD, by decide⟩ rfl rfl (Nat.le_of_ble_eq_true rfl) dX9_differ_137 ?_
        have hL := hL.ext mOk hct.1
        refine z_iload 5 dX9_differ_140 rfl ?_
        refine z_icmp_ne 149 dX9_differ_142 rfl hf (fun _ hf => ?_) (fun _ hf => ?_)
        · refine z_iconst 0 dX9_differ_149 rfl ?_
          exact zX9_differ_J150 hD hL hf hM
        · refine z_iconst 1 dX9_differ_145 rfl ?_
          refine z_goto 150 dX9_differ_146 rfl ?_
          exact zX9_differ_J150 hD hL hf hM
      · refine z_goto 205 dX9_differ_91 rfl ?_
        refine z_iinc 4 (x4 + 1) dX9_differ_205 rfl rfl (by decide) (lc' := [(0, .ref a), (1, .int x1), (2, .int x2), (3, .int x3), (4, .int (x4 + 1))]) rfl ?_
        refine z_goto 66 dX9_differ_208 rfl ?_
        cases hf
        exact (hM.1 _ rfl) hL
noncomputable def fX9_differ (h : zH) (a : Nat) (x1 : Int32) (x2 : Int32) (x3 : Int32) : Option (Int32 × zH) := zb1 (fX9_isPage h a x1) (fun v_2 => if v_2 = 0 then (zb2 (fX9_tell h a ((-1))) (fun v_4 h_5 => some ((v_4, h_5)))) else (zb1 (fX9_isPage h a x2) (fun v_7 => if v_7 = 0 then (zb2 (fX9_tell h a ((-1))) (fun v_43 h_44 => some ((v_43, h_44)))) else (zck (vp_in x1 11) (if (zI h (a + 2) x1.toNatClampNeg) = 0 then (zb2 (fX9_tell h a ((-5))) (fun v_10 h_11 => some ((v_10, h_11)))) else (zck (vp_in x2 11) (if (zI h (a + 2) x2.toNatClampNeg) = 0 then (zb2 (fX9_tell h a ((-5))) (fun v_40 h_41 => some ((v_40, h_41)))) else (zb1 (fX9_in x3 0 1114111) (fun v_14 => if v_14 = 0 then (zb2 (fX9_tell h a ((-1))) (fun v_37 h_38 => some ((v_37, h_38)))) else (zlp (fun s => fX9_differ_L66 s.1 a x1 x2 x3 s.2) (h, x3)))))))))))
theorem zX9_differ {F : zF} {h : zH} {a : Nat} {x1 : Int32} {x2 : Int32} {x3 : Int32} {y : Int32 × zH} (hD : 15 ≤ F.2.1) (hL : zBlk mB mP h a) (hf : fX9_differ h a x1 x2 x3 = some y) (hM : ((.inl (some (.int y.1)), y.2) : zX) = zEnd F) : Z F 8 cX9_differ RX9 "differ" (some .int) [] h 0 [(0, .ref a), (1, .int x1), (2, .int x2), (3, .int x3)] [] := by
  unfold fX9_differ at hf
  refine z_aload_n 0 dX9_differ_0 rfl rfl ?_
  refine z_iload_n 1 dX9_differ_1 rfl rfl ?_
  obtain ⟨v_2, hc_1, hf⟩ := zb1_some hf
  refine z_invVi svX9_170_7 (ctX9_isPage hL hc_1) (hL.t 0 rfl) ⟨Nat.le_trans (by decide) hD, by decide⟩ rfl rfl (Nat.le_of_ble_eq_true rfl) dX9_differ_2 ?_
  refine z_if_eq 16 dX9_differ_5 rfl hf (fun _ hf => ?_) (fun _ hf => ?_)
  · refine z_aload_n 0 dX9_differ_16 rfl rfl ?_
    refine z_iconst (-1) dX9_differ_17 rfl ?_
    obtain ⟨v_4, h_5, hc_3, hf⟩ := zb2_some hf
    have hct := ctX9_tell (l := F.1) hL hc_3
    refine z_invVi svX9_166_7 hct (hL.t 0 rfl) ⟨Nat.le_trans (by decide) hD, by decide⟩ rfl rfl (Nat.le_of_ble_eq_true rfl) dX9_differ_18 ?_
    have hL := hL.ext mOk hct.1
    cases hf
    exact z_iret dX9_differ_21 rfl hM
  · refine z_aload_n 0 dX9_differ_8 rfl rfl ?_
    refine z_iload_n 2 dX9_differ_9 rfl rfl ?_
    obtain ⟨v_7, hc_6, hf⟩ := zb1_some hf
    refine z_invVi svX9_170_7 (ctX9_isPage hL hc_6) (hL.t 0 rfl) ⟨Nat.le_trans (by decide) hD, by decide⟩ rfl rfl (Nat.le_of_ble_eq_true rfl) dX9_differ_10 ?_
    refine z_if_ne 22 dX9_differ_13 rfl hf (fun _ hf => ?_) (fun _ hf => ?_)
    · refine z_aload_n 0 dX9_differ_22 rfl rfl ?_
      refine z_getr fdX9_13_7 (Or.inr ⟨_, rfl⟩) (hL.t 0 rfl) (hL.p 1 rfl) dX9_differ_23 ?_
      refine z_iload_n 1 dX9_differ_26 rfl rfl ?_
      obtain ⟨hi_8, hf⟩ := zck_some hf
      refine z_zald (hL.t 2 rfl) hi_8 dX9_differ_27 ?_
      refine z_if_eq 40 dX9_differ_28 rfl hf (fun _ hf => ?_) (fun _ hf => ?_)
      · refine z_aload_n 0 dX9_differ_40 rfl rfl ?_
        refine z_bipush (-5) dX9_differ_41 rfl ?_
        obtain ⟨v_10, h_11, hc_9, hf⟩ := zb2_some hf
        have hct := ctX9_tell (l := F.1) hL hc_9
        refine z_invVi svX9_166_7 hct (hL.t 0 rfl) ⟨Nat.le_trans (by decide) hD, by decide⟩ rfl rfl (Nat.le_of_ble_eq_true rfl) dX9_differ_43 ?_
        have hL := hL.ext mOk hct.1
        cases hf
        exact z_iret dX9_differ_46 rfl hM
      · refine z_aload_n 0 dX9_differ_31 rfl rfl ?_
        refine z_getr fdX9_13_7 (Or.inr ⟨_, rfl⟩) (hL.t 0 rfl) (hL.p 1 rfl) dX9_differ_32 ?_
        refine z_iload_n 2 dX9_differ_35 rfl rfl ?_
        obtain ⟨hi_12, hf⟩ := zck_some hf
        refine z_zald (hL.t 2 rfl) hi_12 dX9_differ_36 ?_
        refine z_if_ne 47 dX9_differ_37 rfl hf (fun _ hf => ?_) (fun _ hf => ?_)
        · refine z_iload_n 3 dX9_differ_47 rfl rfl ?_
          refine z_iconst 0 dX9_differ_48 rfl ?_
          refine z_ldc q1641 dX9_differ_49 ?_
          obtain ⟨v_14, hc_13, hf⟩ := zb1_some hf
          refine z_invSi ssX9_156 (ctX9_in hc_13) ⟨Nat.le_trans (by decide) hD, by decide⟩ rfl rfl (Nat.le_of_ble_eq_true rfl) dX9_differ_51 ?_
          refine z_if_ne 63 dX9_differ_54 rfl hf (fun _ hf => ?_) (fun _ hf => ?_)
          · refine z_iload_n 3 dX9_differ_63 rfl rfl ?_
            refine z_istore dX9_differ_64 (by decide) (lc' := [(0, .ref a), (1, .int x1), (2, .int x2), (3, .int x3), (4, .int x3)]) rfl ?_
            exact z_loop (fun (s : zH × Int32) => (zBlk mB mP s.1 a → Z F 8 cX9_differ RX9 "differ" (some .int) [] s.1 66 [(0, .ref a), (1, .int x1), (2, .int x2), (3, .int x3), (4, .int s.2)] [])) (fun (r : (Int32 × zH)) => ((.inl (some (.int r.1)), r.2) : zX) = zEnd F) (fun s y hb hs hr hL => zX9_differ_L66 hD hL hb ⟨hs, hr⟩) hf hM hL
          · refine z_aload_n 0 dX9_differ_57 rfl rfl ?_
            refine z_iconst (-1) dX9_differ_58 rfl ?_
            obtain ⟨v_37, h_38, hc_36, hf⟩ := zb2_some hf
            have hct := ctX9_tell (l := F.1) hL hc_36
            refine z_invVi svX9_166_7 hct (hL.t 0 rfl) ⟨Nat.le_trans (by decide) hD, by decide⟩ rfl rfl (Nat.le_of_ble_eq_true rfl) dX9_differ_59 ?_
            have hL := hL.ext mOk hct.1
            cases hf
            exact z_iret dX9_differ_62 rfl hM
        · refine z_aload_n 0 dX9_differ_40 rfl rfl ?_
          refine z_bipush (-5) dX9_differ_41 rfl ?_
          obtain ⟨v_40, h_41, hc_39, hf⟩ := zb2_some hf
          have hct := ctX9_tell (l := F.1) hL hc_39
          refine z_invVi svX9_166_7 hct (hL.t 0 rfl) ⟨Nat.le_trans (by decide) hD, by decide⟩ rfl rfl (Nat.le_of_ble_eq_true rfl) dX9_differ_43 ?_
          have hL := hL.ext mOk hct.1
          cases hf
          exact z_iret dX9_differ_46 rfl hM
    · refine z_aload_n 0 dX9_differ_16 rfl rfl ?_
      refine z_iconst (-1) dX9_differ_17 rfl ?_
      obtain ⟨v_43, h_44, hc_42, hf⟩ := zb2_some hf
      have hct := ctX9_tell (l := F.1) hL hc_42
      refine z_invVi svX9_166_7 hct (hL.t 0 rfl) ⟨Nat.le_trans (by decide) hD, by decide⟩ rfl rfl (Nat.le_of_ble_eq_true rfl) dX9_differ_18 ?_
      have hL := hL.ext mOk hct.1
      cases hf
      exact z_iret dX9_differ_21 rfl hM
theorem ctX9_differ {l : Launch} {h : zH} {a : Nat} {x1 : Int32} {x2 : Int32} {x3 : Int32} {v : Int32} {h' : zH} (hL : zBlk mB mP h a) (hf : fX9_differ h a x1 x2 x3 = some (v, h')) : zC l yX9_differ (ws_ yX9_differ cX9_differ 8 (some .int)) 15 [.ref a, .int x1, .int x2, .int x3] h (.inl (some (.int v)), h') :=
  z_start (by decide) (Nat.le_of_ble_eq_true rfl) (zX9_differ (F := (l, 15, h, (.inl (some (.int v)), h'))) (Nat.le_refl _) hL hf rfl)
theorem fdX9_87_7 : zFd RX9 87 7 44 (.array .int) true := ⟨_, _, _, rfl, rfl, by decide, rfl, rfl, Or.inl q1436, Or.inl rfl⟩
noncomputable def fX9_misread_L92 (h : zH) (a : Nat) (x3 : Int32) (x4 : Int32) (x5 : Int32) (x6 : Int32) : Option ((Int32 × Int32) ⊕ ((Int32 × zH))) := if x3 ≤ x6 then (some (.inr ((x5, h)))) else (if x4 ≤ x6 then (some (.inr ((x5, h)))) else (zck (vp_in x6 4000) (zck (vp_in x6 4000) (if (zI h (a + 25) x6.toNatClampNeg) = (zI h (a + 26) x6.toNatClampNeg) then (some (.inl ((x5 + 0, x6 + 1)))) else (some (.inl ((x5 + 1, x6 + 1))))))))
theorem zX9_misread_L92 {F : zF} {h : zH} {a : Nat} {x3 : Int32} {x4 : Int32} {x5 : Int32} {x6 : Int32} {y : (Int32 × Int32) ⊕ ((Int32 × zH))} (hD : 7 ≤ F.2.1) (hL : zBlk mB mP h a) (hf : fX9_misread_L92 h a x3 x4 x5 x6 = some y) (hM : ((∀ s' : Int32 × Int32, y = .inl s' → Z F 7 cX9_misread RX9 "misread" (some .int) [] h 92 [(0, .ref a), (3, .int x3), (4, .int x4), (5, .int s'.1), (6, .int s'.2)] []) ∧ ∀ r : (Int32 × zH), y = .inr r → ((.inl (some (.int r.1)), r.2) : zX) = zEnd F)) : Z F 7 cX9_misread RX9 "misread" (some .int) [] h 92 [(0, .ref a), (3, .int x3), (4, .int x4), (5, .int x5), (6, .int x6)] [] := by
  unfold fX9_misread_L92 at hf
  refine z_iload 4 dX9_misread_92 rfl ?_
  refine z_iload_n 1 dX9_misread_94 rfl rfl ?_
  refine z_icmp_ge 138 dX9_misread_95 rfl hf (fun _ hf => ?_) (fun _ hf => ?_)
  · refine z_iload 3 dX9_misread_138 rfl ?_
    cases hf
    exact z_iret dX9_misread_140 rfl (hM.2 _ rfl)
  · refine z_iload 4 dX9_misread_98 rfl ?_
    refine z_iload 2 dX9_misread_100 rfl ?_
    refine z_icmp_ge 138 dX9_misread_102 rfl hf (fun _ hf => ?_) (fun _ hf => ?_)
    · refine z_iload 3 dX9_misread_138 rfl ?_
      cases hf
      exact z_iret dX9_misread_140 rfl (hM.2 _ rfl)
    · refine z_iload 3 dX9_misread_105 rfl ?_
      refine z_aload_n 0 dX9_misread_107 rfl rfl ?_
      refine z_getr fdX9_84_7 (Or.inr ⟨_, rfl⟩) (hL.t 0 rfl) (hL.p 24 rfl) dX9_misread_108 ?_
      refine z_iload 4 dX9_misread_111 rfl ?_
      obtain ⟨hi_19, hf⟩ := zck_some hf
      refine z_iald (hL.t 25 rfl) hi_19 dX9_misread_113 ?_
      refine z_aload_n 0 dX9_misread_114 rfl rfl ?_
      refine z_getr fdX9_87_7 (Or.inr ⟨_, rfl⟩) (hL.t 0 rfl) (hL.p 25 rfl) dX9_misread_115 ?_
      refine z_iload 4 dX9_misread_118 rfl ?_
      obtain ⟨hi_20, hf⟩ := zck_some hf
      refine z_iald (hL.t 26 rfl) hi_20 dX9_misread_120 ?_
      refine z_icmp_ne 128 dX9_misread_121 rfl hf (fun _ hf => ?_) (fun _ hf => ?_)
      · refine z_iconst 1 dX9_misread_128 rfl ?_
        refine z_iadd dX9_misread_129 ?_
        refine z_istore dX9_misread_130 (by decide) (lc' := [(0, .ref a), (3, .int x3), (4, .int x4), (5, .int (x5 + 1)), (6, .int x6)]) rfl ?_
        refine z_iinc 4 (x6 + 1) dX9_misread_132 rfl rfl (by decide) (lc' := [(0, .ref a), (3, .int x3), (4, .int x4), (5, .int (x5 + 1)), (6, .int (x6 + 1))]) rfl ?_
        refine z_goto 92 dX9_misread_135 rfl ?_
        cases hf
        exact (hM.1 _ rfl)
      · refine z_iconst 0 dX9_misread_124 rfl ?_
        refine z_goto 129 dX9_misread_125 rfl ?_
        refine z_iadd dX9_misread_129 ?_
        refine z_istore dX9_misread_130 (by decide) (lc' := [(0, .ref a), (3, .int x3), (4, .int x4), (5, .int (x5 + 0)), (6, .int x6)]) rfl ?_
        refine z_iinc 4 (x6 + 1) dX9_misread_132 rfl rfl (by decide) (lc' := [(0, .ref a), (3, .int x3), (4, .int x4), (5, .int (x5 + 0)), (6, .int (x6 + 1))]) rfl ?_
        refine z_goto 92 dX9_misread_135 rfl ?_
        cases hf
        exact (hM.1 _ rfl)
noncomputable def fX9_misread_J87 (h : zH) (a : Nat) (x3 : Int32) (x4 : Int32) (k0 : Int32) : Option (Int32 × zH) := zlp (fun s => fX9_misread_L92 h a x3 x4 s.1 s.2) (k0, 0)
theorem zX9_misread_J87 {F : zF} {h : zH} {a : Nat} {x3 : Int32} {x4 : Int32} {k0 : Int32} {y : Int32 × zH} (hD : 7 ≤ F.2.1) (hL : zBlk mB mP h a) (hf : fX9_misread_J87 h a x3 x4 k0 = some y) (hM : ((.inl (some (.int y.1)), y.2) : zX) = zEnd F) : Z F 7 cX9_misread RX9 "misread" (some .int) [] h 87 [(0, .ref a), (3, .int x3), (4, .int x4)] [.int k0] := by
  unfold fX9_misread_J87 at hf
  refine z_istore dX9_misread_87 (by decide) (lc' := [(0, .ref a), (3, .int x3), (4, .int x4), (5, .int k0)]) rfl ?_
  refine z_iconst 0 dX9_misread_89 rfl ?_
  refine z_istore dX9_misread_90 (by decide) (lc' := [(0, .ref a), (3, .int x3), (4, .int x4), (5, .int k0), (6, .int 0)]) rfl ?_
  exact z_loop (fun (s : Int32 × Int32) => Z F 7 cX9_misread RX9 "misread" (some .int) [] h 92 [(0, .ref a), (3, .int x3), (4, .int x4), (5, .int s.1), (6, .int s.2)] []) (fun (r : (Int32 × zH)) => ((.inl (some (.int r.1)), r.2) : zX) = zEnd F) (fun s y hb hs hr => zX9_misread_L92 hD hL hb ⟨hs, hr⟩) hf hM
noncomputable def fX9_misread (h : zH) (a : Nat) (x1 : Int32) (x2 : Int32) : Option (Int32 × zH) := zb1 (fX9_isPage h a x1) (fun v_2 => if v_2 = 0 then (zb2 (fX9_tell h a ((-1))) (fun v_4 h_5 => some ((v_4, h_5)))) else (zb1 (fX9_isPage h a x2) (fun v_7 => if v_7 = 0 then (zb2 (fX9_tell h a ((-1))) (fun v_25 h_26 => some ((v_25, h_26)))) else (zck (vp_in x1 11) (if (zI h (a + 2) x1.toNatClampNeg) = 0 then (zb2 (fX9_tell h a ((-5))) (fun v_10 h_11 => some ((v_10, h_11)))) else (zck (vp_in x2 11) (if (zI h (a + 2) x2.toNatClampNeg) = 0 then (zb2 (fX9_tell h a ((-5))) (fun v_22 h_23 => some ((v_22, h_23)))) else (zb2 (fX9_readAll h a x1 3 (a + 25)) (fun v_14 h_15 => zb2 (fX9_readAll h_15 a x2 3 (a + 26)) (fun v_17 h_18 => if v_14 ≤ v_17 then (fX9_misread_J87 h_18 a v_14 v_17 (v_17 - v_14)) else (fX9_misread_J87 h_18 a v_14 v_17 (v_14 - v_17))))))))))))
theorem zX9_misread {F : zF} {h : zH} {a : Nat} {x1 : Int32} {x2 : Int32} {y : Int32 × zH} (hD : 7 ≤ F.2.1) (hL : zBlk mB mP h a) (hf : fX9_misread h a x1 x2 = some y) (hM : ((.inl (some (.int y.1)), y.2) : zX) = zEnd F) : Z F 7 cX9_misread RX9 "misread" (some .int) [] h 0 [(0, .ref a), (1, .int x1), (2, .int x2)] [] := by
  unfold fX9_misread at hf
  refine z_aload_n 0 dX9_misread_0 rfl rfl ?_
  refine z_iload_n 1 dX9_misread_1 rfl rfl ?_
  obtain ⟨v_2, hc_1, hf⟩ := zb1_some hf
  refine z_invVi svX9_170_7 (ctX9_isPage hL hc_1) (hL.t 0 rfl) ⟨Nat.le_trans (by decide) hD, by decide⟩ rfl rfl (Nat.le_of_ble_eq_true rfl) dX9_misread_2 ?_
  refine z_if_eq 16 dX9_misread_5 rfl hf (fun _ hf => ?_) (fun _ hf => ?_)
  · refine z_aload_n 0 dX9_misread_16 rfl rfl ?_
    refine z_iconst (-1) dX9_misread_17 rfl ?_
    obtain ⟨v_4, h_5, hc_3, hf⟩ := zb2_some hf
    have hct := ctX9_tell (l := F.1) hL hc_3
    refine z_invVi svX9_166_7 hct (hL.t 0 rfl) ⟨Nat.le_trans (by decide) hD, by decide⟩ rfl rfl (Nat.le_of_ble_eq_true rfl) dX9_misread_18 ?_
    have hL := hL.ext mOk hct.1
    cases hf
    exact z_iret dX9_misread_21 rfl hM
  · refine z_aload_n 0 dX9_misread_8 rfl rfl ?_
    refine z_iload_n 2 dX9_misread_9 rfl rfl ?_
    obtain ⟨v_7, hc_6, hf⟩ := zb1_some hf
    refine z_invVi svX9_170_7 (ctX9_isPage hL hc_6) (hL.t 0 rfl) ⟨Nat.le_trans (by decide) hD, by decide⟩ rfl rfl (Nat.le_of_ble_eq_true rfl) dX9_misread_10 ?_
    refine z_if_ne 22 dX9_misread_13 rfl hf (fun _ hf => ?_) (fun _ hf => ?_)
    · refine z_aload_n 0 dX9_misread_22 rfl rfl ?_
      refine z_getr fdX9_13_7 (Or.inr ⟨_, rfl⟩) (hL.t 0 rfl) (hL.p 1 rfl) dX9_misread_23 ?_
      refine z_iload_n 1 dX9_misread_26 rfl rfl ?_
      obtain ⟨hi_8, hf⟩ := zck_some hf
      refine z_zald (hL.t 2 rfl) hi_8 dX9_misread_27 ?_
      refine z_if_eq 40 dX9_misread_28 rfl hf (fun _ hf => ?_) (fun _ hf => ?_)
      · refine z_aload_n 0 dX9_misread_40 rfl rfl ?_
        refine z_bipush (-5) dX9_misread_41 rfl ?_
        obtain ⟨v_10, h_11, hc_9, hf⟩ := zb2_some hf
        have hct := ctX9_tell (l := F.1) hL hc_9
        refine z_invVi svX9_166_7 hct (hL.t 0 rfl) ⟨Nat.le_trans (by decide) hD, by decide⟩ rfl rfl (Nat.le_of_ble_eq_true rfl) dX9_misread_43 ?_
        have hL := hL.ext mOk hct.1
        cases hf
        exact z_iret dX9_misread_46 rfl hM
      · refine z_aload_n 0 dX9_misread_31 rfl rfl ?_
        refine z_getr fdX9_13_7 (Or.inr ⟨_, rfl⟩) (hL.t 0 rfl) (hL.p 1 rfl) dX9_misread_32 ?_
        refine z_iload_n 2 dX9_misread_35 rfl rfl ?_
        obtain ⟨hi_12, hf⟩ := zck_some hf
        refine z_zald (hL.t 2 rfl) hi_12 dX9_misread_36 ?_
        refine z_if_ne 47 dX9_misread_37 rfl hf (fun _ hf => ?_) (fun _ hf => ?_)
        · refine z_aload_n 0 dX9_misread_47 rfl rfl ?_
          refine z_iload_n 1 dX9_misread_48 rfl rfl ?_
          refine z_iconst 3 dX9_misread_49 rfl ?_
          refine z_aload_n 0 dX9_misread_50 rfl rfl ?_
          refine z_getr fdX9_84_7 (Or.inr ⟨_, rfl⟩) (hL.t 0 rfl) (hL.p 24 rfl) dX9_misread_51 ?_
          obtain ⟨v_14, h_15, hc_13, hf⟩ := zb2_some hf
          have hct := ctX9_readAll (l := F.1) hL hc_13
          refine z_invVi svX9_370_7 hct (hL.t 0 rfl) ⟨Nat.le_trans (by decide) hD, by decide⟩ rfl rfl (Nat.le_of_ble_eq_true rfl) dX9_misread_54 ?_
          have hL := hL.ext mOk hct.1
          refine z_istore_n dX9_misread_57 rfl (by decide) (lc' := [(0, .ref a), (1, .int x1), (2, .int x2), (3, .int v_14)]) rfl ?_
          refine z_aload_n 0 dX9_misread_58 rfl rfl ?_
          refine z_iload_n 2 dX9_misread_59 rfl rfl ?_
          refine z_iconst 3 dX9_misread_60 rfl ?_
          refine z_aload_n 0 dX9_misread_61 rfl rfl ?_
          refine z_getr fdX9_87_7 (Or.inr ⟨_, rfl⟩) (hL.t 0 rfl) (hL.p 25 rfl) dX9_misread_62 ?_
          obtain ⟨v_17, h_18, hc_16, hf⟩ := zb2_some hf
          have hct := ctX9_readAll (l := F.1) hL hc_16
          refine z_invVi svX9_370_7 hct (hL.t 0 rfl) ⟨Nat.le_trans (by decide) hD, by decide⟩ rfl rfl (Nat.le_of_ble_eq_true rfl) dX9_misread_65 ?_
          have hL := hL.ext mOk hct.1
          refine z_istore dX9_misread_68 (by decide) (lc' := [(0, .ref a), (1, .int x1), (2, .int x2), (3, .int v_14), (4, .int v_17)]) rfl ?_
          refine z_iload_n 3 dX9_misread_70 rfl rfl ?_
          refine z_iload 4 dX9_misread_71 rfl ?_
          refine z_icmp_le 83 dX9_misread_73 rfl hf (fun _ hf => ?_) (fun _ hf => ?_)
          · refine z_iload 4 dX9_misread_83 rfl ?_
            refine z_iload_n 3 dX9_misread_85 rfl rfl ?_
            refine z_isub dX9_misread_86 ?_
            refine z_sub [0, 3, 4] rfl ?_
            exact zX9_misread_J87 hD hL hf hM
          · refine z_iload_n 3 dX9_misread_76 rfl rfl ?_
            refine z_iload 4 dX9_misread_77 rfl ?_
            refine z_isub dX9_misread_79 ?_
            refine z_goto 87 dX9_misread_80 rfl ?_
            refine z_sub [0, 3, 4] rfl ?_
            exact zX9_misread_J87 hD hL hf hM
        · refine z_aload_n 0 dX9_misread_40 rfl rfl ?_
          refine z_bipush (-5) dX9_misread_41 rfl ?_
          obtain ⟨v_22, h_23, hc_21, hf⟩ := zb2_some hf
          have hct := ctX9_tell (l := F.1) hL hc_21
          refine z_invVi svX9_166_7 hct (hL.t 0 rfl) ⟨Nat.le_trans (by decide) hD, by decide⟩ rfl rfl (Nat.le_of_ble_eq_true rfl) dX9_misread_43 ?_
          have hL := hL.ext mOk hct.1
          cases hf
          exact z_iret dX9_misread_46 rfl hM
    · refine z_aload_n 0 dX9_misread_16 rfl rfl ?_
      refine z_iconst (-1) dX9_misread_17 rfl ?_
      obtain ⟨v_25, h_26, hc_24, hf⟩ := zb2_some hf
      have hct := ctX9_tell (l := F.1) hL hc_24
      refine z_invVi svX9_166_7 hct (hL.t 0 rfl) ⟨Nat.le_trans (by decide) hD, by decide⟩ rfl rfl (Nat.le_of_ble_eq_true rfl) dX9_misread_18 ?_
      have hL := hL.ext mOk hct.1
      cases hf
      exact z_iret dX9_misread_21 rfl hM
theorem ctX9_misread {l : Launch} {h : zH} {a : Nat} {x1 : Int32} {x2 : Int32} {v : Int32} {h' : zH} (hL : zBlk mB mP h a) (hf : fX9_misread h a x1 x2 = some (v, h')) : zC l yX9_misread (ws_ yX9_misread cX9_misread 7 (some .int)) 7 [.ref a, .int x1, .int x2] h (.inl (some (.int v)), h') :=
  z_start (by decide) (Nat.le_of_ble_eq_true rfl) (zX9_misread (F := (l, 7, h, (.inl (some (.int v)), h'))) (Nat.le_refl _) hL hf rfl)
noncomputable def fX9_faults (h : zH) (a : Nat) (x1 : Int32) : Option (Int32 × zH) := zb1 (fX9_isPage h a x1) (fun v_2 => if v_2 = 0 then (zb2 (fX9_tell h a ((-1))) (fun v_11 h_12 => some ((v_11, h_12)))) else (zck (vp_in x1 11) (if (zI h (a + 2) x1.toNatClampNeg) = 0 then (zb2 (fX9_tell h a ((-5))) (fun v_8 h_9 => some ((v_8, h_9)))) else (zb2 (fX9_readAll h a x1 2 (a + 25)) (fun v_5 h_6 => some ((zI h_6 a 39, h_6)))))))
theorem zX9_faults {F : zF} {h : zH} {a : Nat} {x1 : Int32} {y : Int32 × zH} (hD : 7 ≤ F.2.1) (hL : zBlk mB mP h a) (hf : fX9_faults h a x1 = some y) (hM : ((.inl (some (.int y.1)), y.2) : zX) = zEnd F) : Z F 3 cX9_faults RX9 "faults" (some .int) [] h 0 [(0, .ref a), (1, .int x1)] [] := by
  unfold fX9_faults at hf
  refine z_aload_n 0 dX9_faults_0 rfl rfl ?_
  refine z_iload_n 1 dX9_faults_1 rfl rfl ?_
  obtain ⟨v_2, hc_1, hf⟩ := zb1_some hf
  refine z_invVi svX9_170_7 (ctX9_isPage hL hc_1) (hL.t 0 rfl) ⟨Nat.le_trans (by decide) hD, by decide⟩ rfl rfl (Nat.le_of_ble_eq_true rfl) dX9_faults_2 ?_
  refine z_if_ne 14 dX9_faults_5 rfl hf (fun _ hf => ?_) (fun _ hf => ?_)
  · refine z_aload_n 0 dX9_faults_14 rfl rfl ?_
    refine z_getr fdX9_13_7 (Or.inr ⟨_, rfl⟩) (hL.t 0 rfl) (hL.p 1 rfl) dX9_faults_15 ?_
    refine z_iload_n 1 dX9_faults_18 rfl rfl ?_
    obtain ⟨hi_3, hf⟩ := zck_some hf
    refine z_zald (hL.t 2 rfl) hi_3 dX9_faults_19 ?_
    refine z_if_ne 30 dX9_faults_20 rfl hf (fun _ hf => ?_) (fun _ hf => ?_)
    · refine z_aload_n 0 dX9_faults_30 rfl rfl ?_
      refine z_iload_n 1 dX9_faults_31 rfl rfl ?_
      refine z_iconst 2 dX9_faults_32 rfl ?_
      refine z_aload_n 0 dX9_faults_33 rfl rfl ?_
      refine z_getr fdX9_84_7 (Or.inr ⟨_, rfl⟩) (hL.t 0 rfl) (hL.p 24 rfl) dX9_faults_34 ?_
      obtain ⟨v_5, h_6, hc_4, hf⟩ := zb2_some hf
      have hct := ctX9_readAll (l := F.1) hL hc_4
      refine z_invVi svX9_370_7 hct (hL.t 0 rfl) ⟨Nat.le_trans (by decide) hD, by decide⟩ rfl rfl (Nat.le_of_ble_eq_true rfl) dX9_faults_37 ?_
      have hL := hL.ext mOk hct.1
      refine z_istore_n dX9_faults_40 rfl (by decide) (lc' := [(0, .ref a), (1, .int x1), (2, .int v_5)]) rfl ?_
      refine z_aload_n 0 dX9_faults_41 rfl rfl ?_
      refine z_geti fdX9_314_7 (hL.t 0 rfl) dX9_faults_42 ?_
      cases hf
      exact z_iret dX9_faults_45 rfl hM
    · refine z_aload_n 0 dX9_faults_23 rfl rfl ?_
      refine z_bipush (-5) dX9_faults_24 rfl ?_
      obtain ⟨v_8, h_9, hc_7, hf⟩ := zb2_some hf
      have hct := ctX9_tell (l := F.1) hL hc_7
      refine z_invVi svX9_166_7 hct (hL.t 0 rfl) ⟨Nat.le_trans (by decide) hD, by decide⟩ rfl rfl (Nat.le_of_ble_eq_true rfl) dX9_faults_26 ?_
      have hL := hL.ext mOk hct.1
      cases hf
      exact z_iret dX9_faults_29 rfl hM
  · refine z_aload_n 0 dX9_faults_8 rfl rfl ?_
    refine z_iconst (-1) dX9_faults_9 rfl ?_
    obtain ⟨v_11, h_12, hc_10, hf⟩ := zb2_some hf
    have hct := ctX9_tell (l := F.1) hL hc_10
    refine z_invVi svX9_166_7 hct (hL.t 0 rfl) ⟨Nat.le_trans (by decide) hD, by decide⟩ rfl rfl (Nat.le_of_ble_eq_true rfl) dX9_faults_10 ?_
    have hL := hL.ext mOk hct.1
    cases hf
    exact z_iret dX9_faults_13 rfl hM
theorem ctX9_faults {l : Launch} {h : zH} {a : Nat} {x1 : Int32} {v : Int32} {h' : zH} (hL : zBlk mB mP h a) (hf : fX9_faults h a x1 = some (v, h')) : zC l yX9_faults (ws_ yX9_faults cX9_faults 3 (some .int)) 7 [.ref a, .int x1] h (.inl (some (.int v)), h') :=
  z_start (by decide) (Nat.le_of_ble_eq_true rfl) (zX9_faults (F := (l, 7, h, (.inl (some (.int v)), h'))) (Nat.le_refl _) hL hf rfl)
noncomputable def fX9_detect_L6 (h : zH) (a : Nat) (x1 : Int32) (x2 : Int32) (x3 : Int32) : Option ((zH × Int32 × Int32 × Int32) ⊕ ((Int32 × zH))) := if (zI h a 0) ≤ x3 then (if 0 ≤ x1 then (some (.inr ((x1, h)))) else (zb2 (fX9_tell h a ((-2))) (fun v_2 h_3 => some (.inr ((v_2, h_3)))))) else (zck (vp_in x3 11) (if (zI h (a + 2) x3.toNatClampNeg) = 0 then (some (.inl ((h, x1, x2, x3 + 1)))) else (zb2 (fX9_readAll h a x3 2 (a + 25)) (fun v_6 h_7 => if x1 < 0 then (some (.inl ((h_7, x3, zI h_7 a 39, x3 + 1)))) else (if (zI h_7 a 39) < x2 then (some (.inl ((h_7, x3, zI h_7 a 39, x3 + 1)))) else (some (.inl ((h_7, x1, x2, x3 + 1)))))))))
theorem zX9_detect_L6 {F : zF} {h : zH} {a : Nat} {x1 : Int32} {x2 : Int32} {x3 : Int32} {y : (zH × Int32 × Int32 × Int32) ⊕ ((Int32 × zH))} (hD : 7 ≤ F.2.1) (hL : zBlk mB mP h a) (hf : fX9_detect_L6 h a x1 x2 x3 = some y) (hM : ((∀ s' : zH × Int32 × Int32 × Int32, y = .inl s' → (zBlk mB mP s'.1 a → Z F 5 cX9_detect RX9 "detect" (some .int) [] s'.1 6 [(0, .ref a), (1, .int s'.2.1), (2, .int s'.2.2.1), (3, .int s'.2.2.2)] [])) ∧ ∀ r : (Int32 × zH), y = .inr r → ((.inl (some (.int r.1)), r.2) : zX) = zEnd F)) : Z F 5 cX9_detect RX9 "detect" (some .int) [] h 6 [(0, .ref a), (1, .int x1), (2, .int x2), (3, .int x3)] [] := by
  unfold fX9_detect_L6 at hf
  refine z_iload_n 3 dX9_detect_6 rfl rfl ?_
  refine z_aload_n 0 dX9_detect_7 rfl rfl ?_
  refine z_geti fdX9_163_7 (hL.t 0 rfl) dX9_detect_8 ?_
  refine z_icmp_ge 66 dX9_detect_11 rfl hf (fun _ hf => ?_) (fun _ hf => ?_)
  · refine z_iload_n 1 dX9_detect_66 rfl rfl ?_
    refine z_if_ge 79 dX9_detect_67 rfl hf (fun _ hf => ?_) (fun _ hf => ?_)
    · refine z_iload_n 1 dX9_detect_79 rfl rfl ?_
      cases hf
      exact z_iret dX9_detect_80 rfl (hM.2 _ rfl)
    · refine z_aload_n 0 dX9_detect_70 rfl rfl ?_
      refine z_bipush (-2) dX9_detect_71 rfl ?_
      obtain ⟨v_2, h_3, hc_1, hf⟩ := zb2_some hf
      have hct := ctX9_tell (l := F.1) hL hc_1
      refine z_invVi svX9_166_7 hct (hL.t 0 rfl) ⟨Nat.le_trans (by decide) hD, by decide⟩ rfl rfl (Nat.le_of_ble_eq_true rfl) dX9_detect_73 ?_
      have hL := hL.ext mOk hct.1
      refine z_goto 80 dX9_detect_76 rfl ?_
      cases hf
      exact z_iret dX9_detect_80 rfl (hM.2 _ rfl)
  · refine z_aload_n 0 dX9_detect_14 rfl rfl ?_
    refine z_getr fdX9_13_7 (Or.inr ⟨_, rfl⟩) (hL.t 0 rfl) (hL.p 1 rfl) dX9_detect_15 ?_
    refine z_iload_n 3 dX9_detect_18 rfl rfl ?_
    obtain ⟨hi_4, hf⟩ := zck_some hf
    refine z_zald (hL.t 2 rfl) hi_4 dX9_detect_19 ?_
    refine z_if_ne 26 dX9_detect_20 rfl hf (fun _ hf => ?_) (fun _ hf => ?_)
    · refine z_aload_n 0 dX9_detect_26 rfl rfl ?_
      refine z_iload_n 3 dX9_detect_27 rfl rfl ?_
      refine z_iconst 2 dX9_detect_28 rfl ?_
      refine z_aload_n 0 dX9_detect_29 rfl rfl ?_
      refine z_getr fdX9_84_7 (Or.inr ⟨_, rfl⟩) (hL.t 0 rfl) (hL.p 24 rfl) dX9_detect_30 ?_
      obtain ⟨v_6, h_7, hc_5, hf⟩ := zb2_some hf
      have hct := ctX9_readAll (l := F.1) hL hc_5
      refine z_invVi svX9_370_7 hct (hL.t 0 rfl) ⟨Nat.le_trans (by decide) hD, by decide⟩ rfl rfl (Nat.le_of_ble_eq_true rfl) dX9_detect_33 ?_
      have hL := hL.ext mOk hct.1
      refine z_istore dX9_detect_36 (by decide) (lc' := [(0, .ref a), (1, .int x1), (2, .int x2), (3, .int x3), (4, .int v_6)]) rfl ?_
      refine z_iload_n 1 dX9_detect_38 rfl rfl ?_
      refine z_if_lt 53 dX9_detect_39 rfl hf (fun _ hf => ?_) (fun _ hf => ?_)
      · refine z_iload_n 3 dX9_detect_53 rfl rfl ?_
        refine z_istore_n dX9_detect_54 rfl (by decide) (lc' := [(0, .ref a), (1, .int x3), (2, .int x2), (3, .int x3), (4, .int v_6)]) rfl ?_
        refine z_aload_n 0 dX9_detect_55 rfl rfl ?_
        refine z_geti fdX9_314_7 (hL.t 0 rfl) dX9_detect_56 ?_
        refine z_istore_n dX9_detect_59 rfl (by decide) (lc' := [(0, .ref a), (1, .int x3), (2, .int (zI h_7 a 39)), (3, .int x3), (4, .int v_6)]) rfl ?_
        refine z_iinc 3 (x3 + 1) dX9_detect_60 rfl rfl (by decide) (lc' := [(0, .ref a), (1, .int x3), (2, .int (zI h_7 a 39)), (3, .int (x3 + 1)), (4, .int v_6)]) rfl ?_
        refine z_goto 6 dX9_detect_63 rfl ?_
        cases hf
        refine z_sub [0, 1, 2, 3] rfl ?_
        exact (hM.1 _ rfl) hL
      · refine z_aload_n 0 dX9_detect_42 rfl rfl ?_
        refine z_geti fdX9_314_7 (hL.t 0 rfl) dX9_detect_43 ?_
        refine z_iload_n 2 dX9_detect_46 rfl rfl ?_
        refine z_icmp_lt 53 dX9_detect_47 rfl hf (fun _ hf => ?_) (fun _ hf => ?_)
        · refine z_iload_n 3 dX9_detect_53 rfl rfl ?_
          refine z_istore_n dX9_detect_54 rfl (by decide) (lc' := [(0, .ref a), (1, .int x3), (2, .int x2), (3, .int x3), (4, .int v_6)]) rfl ?_
          refine z_aload_n 0 dX9_detect_55 rfl rfl ?_
          refine z_geti fdX9_314_7 (hL.t 0 rfl) dX9_detect_56 ?_
          refine z_istore_n dX9_detect_59 rfl (by decide) (lc' := [(0, .ref a), (1, .int x3), (2, .int (zI h_7 a 39)), (3, .int x3), (4, .int v_6)]) rfl ?_
          refine z_iinc 3 (x3 + 1) dX9_detect_60 rfl rfl (by decide) (lc' := [(0, .ref a), (1, .int x3), (2, .int (zI h_7 a 39)), (3, .int (x3 + 1)), (4, .int v_6)]) rfl ?_
          refine z_goto 6 dX9_detect_63 rfl ?_
          cases hf
          refine z_sub [0, 1, 2, 3] rfl ?_
          exact (hM.1 _ rfl) hL
        · refine z_goto 60 dX9_detect_50 rfl ?_
          refine z_iinc 3 (x3 + 1) dX9_detect_60 rfl rfl (by decide) (lc' := [(0, .ref a), (1, .int x1), (2, .int x2), (3, .int (x3 + 1)), (4, .int v_6)]) rfl ?_
          refine z_goto 6 dX9_detect_63 rfl ?_
          cases hf
          refine z_sub [0, 1, 2, 3] rfl ?_
          exact (hM.1 _ rfl) hL
    · refine z_goto 60 dX9_detect_23 rfl ?_
      refine z_iinc 3 (x3 + 1) dX9_detect_60 rfl rfl (by decide) (lc' := [(0, .ref a), (1, .int x1), (2, .int x2), (3, .int (x3 + 1))]) rfl ?_
      refine z_goto 6 dX9_detect_63 rfl ?_
      cases hf
      exact (hM.1 _ rfl) hL
noncomputable def fX9_detect (h : zH) (a : Nat) : Option (Int32 × zH) := zlp (fun s => fX9_detect_L6 s.1 a s.2.1 s.2.2.1 s.2.2.2) (h, (-1), 0, 0)
theorem zX9_detect {F : zF} {h : zH} {a : Nat} {y : Int32 × zH} (hD : 7 ≤ F.2.1) (hL : zBlk mB mP h a) (hf : fX9_detect h a = some y) (hM : ((.inl (some (.int y.1)), y.2) : zX) = zEnd F) : Z F 5 cX9_detect RX9 "detect" (some .int) [] h 0 [(0, .ref a)] [] := by
  unfold fX9_detect at hf
  refine z_iconst (-1) dX9_detect_0 rfl ?_
  refine z_istore_n dX9_detect_1 rfl (by decide) (lc' := [(0, .ref a), (1, .int ((-1)))]) rfl ?_
  refine z_iconst 0 dX9_detect_2 rfl ?_
  refine z_istore_n dX9_detect_3 rfl (by decide) (lc' := [(0, .ref a), (1, .int ((-1))), (2, .int 0)]) rfl ?_
  refine z_iconst 0 dX9_detect_4 rfl ?_
  refine z_istore_n dX9_detect_5 rfl (by decide) (lc' := [(0, .ref a), (1, .int ((-1))), (2, .int 0), (3, .int 0)]) rfl ?_
  exact z_loop (fun (s : zH × Int32 × Int32 × Int32) => (zBlk mB mP s.1 a → Z F 5 cX9_detect RX9 "detect" (some .int) [] s.1 6 [(0, .ref a), (1, .int s.2.1), (2, .int s.2.2.1), (3, .int s.2.2.2)] [])) (fun (r : (Int32 × zH)) => ((.inl (some (.int r.1)), r.2) : zX) = zEnd F) (fun s y hb hs hr hL => zX9_detect_L6 hD hL hb ⟨hs, hr⟩) hf hM hL
theorem ctX9_detect {l : Launch} {h : zH} {a : Nat} {v : Int32} {h' : zH} (hL : zBlk mB mP h a) (hf : fX9_detect h a = some (v, h')) : zC l yX9_detect (ws_ yX9_detect cX9_detect 5 (some .int)) 7 [.ref a] h (.inl (some (.int v)), h') :=
  z_start (by decide) (Nat.le_of_ble_eq_true rfl) (zX9_detect (F := (l, 7, h, (.inl (some (.int v)), h'))) (Nat.le_refl _) hL hf rfl)
noncomputable def fX9_lengths_J88 (h : zH) (a : Nat) (x1 : Int32) (x2 : Int32) (x3 : Int32) (x4 : Int32) : Option ((zH × Int32 × Int32) ⊕ ((Int32 × zH))) := zlet (zsI h a 48 1) (fun h_11 => zb2 (fX9_writeAll h_11 a x1 0 (a + 15) (zI h_11 a 16) x4 1000000) (fun v_13 h_14 => zlet (zsI h_14 a 48 0) (fun h_15 => if 0 ≤ v_13 then (if x3 < 0 then (some (.inl ((h_15, v_13, x4 + 1)))) else (if x2 = 0 then (if x3 ≤ v_13 then (some (.inl ((h_15, x3, x4 + 1)))) else (some (.inl ((h_15, v_13, x4 + 1))))) else (if v_13 ≤ x3 then (some (.inl ((h_15, x3, x4 + 1)))) else (some (.inl ((h_15, v_13, x4 + 1))))))) else (zb2 (fX9_tell h_15 a v_13) (fun v_17 h_18 => some (.inr ((v_17, h_18))))))))
theorem zX9_lengths_J88 {F : zF} {h : zH} {a : Nat} {x1 : Int32} {x2 : Int32} {x3 : Int32} {x4 : Int32} {y : (zH × Int32 × Int32) ⊕ ((Int32 × zH))} (hD : 67 ≤ F.2.1) (hL : zBlk mB mP h a) (hf : fX9_lengths_J88 h a x1 x2 x3 x4 = some y) (hM : ((∀ s' : zH × Int32 × Int32, y = .inl s' → (zBlk mB mP s'.1 a → Z F 6 cX9_lengths RX9 "lengths" (some .int) [] s'.1 50 [(0, .ref a), (1, .int x1), (2, .int x2), (3, .int s'.2.1), (4, .int s'.2.2)] [])) ∧ ∀ r : (Int32 × zH), y = .inr r → ((.inl (some (.int r.1)), r.2) : zX) = zEnd F)) : Z F 6 cX9_lengths RX9 "lengths" (some .int) [] h 88 [(0, .ref a), (1, .int x1), (2, .int x2), (3, .int x3), (4, .int x4)] [] := by
  unfold fX9_lengths_J88 at hf
  refine z_aload_n 0 dX9_lengths_88 rfl rfl ?_
  refine z_iconst 1 dX9_lengths_89 rfl ?_
  obtain ⟨h_11, he, hf⟩ := zlet_some hf
  refine z_putz fdX9_331_7 (Or.inr rfl) (hL.t 0 rfl) (hL.nz 0) he dX9_lengths_90 ?_
  have hL := hL.I he
  refine z_aload_n 0 dX9_lengths_93 rfl rfl ?_
  refine z_iload_n 1 dX9_lengths_94 rfl rfl ?_
  refine z_iconst 0 dX9_lengths_95 rfl ?_
  refine z_aload_n 0 dX9_lengths_96 rfl rfl ?_
  refine z_getr fdX9_53_7 (Or.inr ⟨_, rfl⟩) (hL.t 0 rfl) (hL.p 14 rfl) dX9_lengths_97 ?_
  refine z_aload_n 0 dX9_lengths_100 rfl rfl ?_
  refine z_geti fdX9_258_7 (hL.t 0 rfl) dX9_lengths_101 ?_
  refine z_iload 4 dX9_lengths_104 rfl ?_
  refine z_ldcw q1926 dX9_lengths_106 ?_
  obtain ⟨v_13, h_14, hc_12, hf⟩ := zb2_some hf
  have hct := ctX9_writeAll (l := F.1) hL hc_12
  refine z_invVi svX9_377_7 hct (hL.t 0 rfl) ⟨Nat.le_trans (by decide) hD, by decide⟩ rfl rfl (Nat.le_of_ble_eq_true rfl) dX9_lengths_109 ?_
  have hL := hL.ext mOk hct.1
  refine z_istore dX9_lengths_112 (by decide) (lc' := [(0, .ref a), (1, .int x1), (2, .int x2), (3, .int x3), (4, .int x4), (5, .int v_13)]) rfl ?_
  refine z_aload_n 0 dX9_lengths_114 rfl rfl ?_
  refine z_iconst 0 dX9_lengths_115 rfl ?_
  obtain ⟨h_15, he, hf⟩ := zlet_some hf
  refine z_putz fdX9_331_7 (Or.inl rfl) (hL.t 0 rfl) (hL.nz 0) he dX9_lengths_116 ?_
  have hL := hL.I he
  refine z_iload 5 dX9_lengths_119 rfl ?_
  refine z_if_ge 131 dX9_lengths_121 rfl hf (fun _ hf => ?_) (fun _ hf => ?_)
  · refine z_iload_n 3 dX9_lengths_131 rfl rfl ?_
    refine z_if_lt 154 dX9_lengths_132 rfl hf (fun _ hf => ?_) (fun _ hf => ?_)
    · refine z_iload 5 dX9_lengths_154 rfl ?_
      refine z_goto 160 dX9_lengths_156 rfl ?_
      refine z_istore_n dX9_lengths_160 rfl (by decide) (lc' := [(0, .ref a), (1, .int x1), (2, .int x2), (3, .int v_13), (4, .int x4), (5, .int v_13)]) rfl ?_
      refine z_iinc 4 (x4 + 1) dX9_lengths_161 rfl rfl (by decide) (lc' := [(0, .ref a), (1, .int x1), (2, .int x2), (3, .int v_13), (4, .int (x4 + 1)), (5, .int v_13)]) rfl ?_
      refine z_goto 50 dX9_lengths_164 rfl ?_
      cases hf
      refine z_sub [0, 1, 2, 3, 4] rfl ?_
      exact (hM.1 _ rfl) hL
    · refine z_iload_n 2 dX9_lengths_135 rfl rfl ?_
      refine z_if_ne 148 dX9_lengths_136 rfl hf (fun _ hf => ?_) (fun _ hf => ?_)
      · refine z_iload 5 dX9_lengths_148 rfl ?_
        refine z_iload_n 3 dX9_lengths_150 rfl rfl ?_
        refine z_icmp_le 159 dX9_lengths_151 rfl hf (fun _ hf => ?_) (fun _ hf => ?_)
        · refine z_iload_n 3 dX9_lengths_159 rfl rfl ?_
          refine z_istore_n dX9_lengths_160 rfl (by decide) (lc' := [(0, .ref a), (1, .int x1), (2, .int x2), (3, .int x3), (4, .int x4), (5, .int v_13)]) rfl ?_
          refine z_iinc 4 (x4 + 1) dX9_lengths_161 rfl rfl (by decide) (lc' := [(0, .ref a), (1, .int x1), (2, .int x2), (3, .int x3), (4, .int (x4 + 1)), (5, .int v_13)]) rfl ?_
          refine z_goto 50 dX9_lengths_164 rfl ?_
          cases hf
          refine z_sub [0, 1, 2, 3, 4] rfl ?_
          exact (hM.1 _ rfl) hL
        · refine z_iload 5 dX9_lengths_154 rfl ?_
          refine z_goto 160 dX9_lengths_156 rfl ?_
          refine z_istore_n dX9_lengths_160 rfl (by decide) (lc' := [(0, .ref a), (1, .int x1), (2, .int x2), (3, .int v_13), (4, .int x4), (5, .int v_13)]) rfl ?_
          refine z_iinc 4 (x4 + 1) dX9_lengths_161 rfl rfl (by decide) (lc' := [(0, .ref a), (1, .int x1), (2, .int x2), (3, .int v_13), (4, .int (x4 + 1)), (5, .int v_13)]) rfl ?_
          refine z_goto 50 dX9_lengths_164 rfl ?_
          cases hf
          refine z_sub [0, 1, 2, 3, 4] rfl ?_
          exact (hM.1 _ rfl) hL
      · refine z_iload 5 dX9_lengths_139 rfl ?_
        refine z_iload_n 3 dX9_lengths_141 rfl rfl ?_
        refine z_icmp_ge 159 dX9_lengths_142 rfl hf (fun _ hf => ?_) (fun _ hf => ?_)
        · refine z_iload_n 3 dX9_lengths_159 rfl rfl ?_
          refine z_istore_n dX9_lengths_160 rfl (by decide) (lc' := [(0, .ref a), (1, .int x1), (2, .int x2), (3, .int x3), (4, .int x4), (5, .int v_13)]) rfl ?_
          refine z_iinc 4 (x4 + 1) dX9_lengths_161 rfl rfl (by decide) (lc' := [(0, .ref a), (1, .int x1), (2, .int x2), (3, .int x3), (4, .int (x4 + 1)), (5, .int v_13)]) rfl ?_
          refine z_goto 50 dX9_lengths_164 rfl ?_
          cases hf
          refine z_sub [0, 1, 2, 3, 4] rfl ?_
          exact (hM.1 _ rfl) hL
        · refine z_goto 154 dX9_lengths_145 rfl ?_
          refine z_iload 5 dX9_lengths_154 rfl ?_
          refine z_goto 160 dX9_lengths_156 rfl ?_
          refine z_istore_n dX9_lengths_160 rfl (by decide) (lc' := [(0, .ref a), (1, .int x1), (2, .int x2), (3, .int v_13), (4, .int x4), (5, .int v_13)]) rfl ?_
          refine z_iinc 4 (x4 + 1) dX9_lengths_161 rfl rfl (by decide) (lc' := [(0, .ref a), (1, .int x1), (2, .int x2), (3, .int v_13), (4, .int (x4 + 1)), (5, .int v_13)]) rfl ?_
          refine z_goto 50 dX9_lengths_164 rfl ?_
          cases hf
          refine z_sub [0, 1, 2, 3, 4] rfl ?_
          exact (hM.1 _ rfl) hL
  · refine z_aload_n 0 dX9_lengths_124 rfl rfl ?_
    refine z_iload 5 dX9_lengths_125 rfl ?_
    obtain ⟨v_17, h_18, hc_16, hf⟩ := zb2_some hf
    have hct := ctX9_tell (l := F.1) hL hc_16
    refine z_invVi svX9_166_7 hct (hL.t 0 rfl) ⟨Nat.le_trans (by decide) hD, by decide⟩ rfl rfl (Nat.le_of_ble_eq_true rfl) dX9_lengths_127 ?_
    have hL := hL.ext mOk hct.1
    cases hf
    exact z_iret dX9_lengths_130 rfl (hM.2 _ rfl)
noncomputable def fX9_lengths_L50 (h : zH) (a : Nat) (x1 : Int32) (x2 : Int32) (x3 : Int32) (x4 : Int32) : Option ((zH × Int32 × Int32) ⊕ ((Int32 × zH))) := if 4 ≤ x4 then (some (.inr ((x3, h)))) else (zb1 (fX9_reach h a x1) (fun h_8 => zck (vp_in x4 4) (if (zI h_8 (a + 22) x4.toNatClampNeg) = 0 then (some (.inl ((h_8, x3, x4 + 1)))) else (zck (vp_in x1 11) (if (zI h_8 (a + 1) x1.toNatClampNeg) = 0 then (fX9_lengths_J88 h_8 a x1 x2 x3 x4) else (if x4 ≤ 0 then (fX9_lengths_J88 h_8 a x1 x2 x3 x4) else (some (.inl ((h_8, x3, x4 + 1))))))))))
theorem zX9_lengths_L50 {F : zF} {h : zH} {a : Nat} {x1 : Int32} {x2 : Int32} {x3 : Int32} {x4 : Int32} {y : (zH × Int32 × Int32) ⊕ ((Int32 × zH))} (hD : 67 ≤ F.2.1) (hL : zBlk mB mP h a) (hf : fX9_lengths_L50 h a x1 x2 x3 x4 = some y) (hM : ((∀ s' : zH × Int32 × Int32, y = .inl s' → (zBlk mB mP s'.1 a → Z F 6 cX9_lengths RX9 "lengths" (some .int) [] s'.1 50 [(0, .ref a), (1, .int x1), (2, .int x2), (3, .int s'.2.1), (4, .int s'.2.2)] [])) ∧ ∀ r : (Int32 × zH), y = .inr r → ((.inl (some (.int r.1)), r.2) : zX) = zEnd F)) : Z F 6 cX9_lengths RX9 "lengths" (some .int) [] h 50 [(0, .ref a), (1, .int x1), (2, .int x2), (3, .int x3), (4, .int x4)] [] := by
  unfold fX9_lengths_L50 at hf
  refine z_iload 4 dX9_lengths_50 rfl ?_
  refine z_iconst 4 dX9_lengths_52 rfl ?_
  refine z_icmp_ge 167 dX9_lengths_53 rfl hf (fun _ hf => ?_) (fun _ hf => ?_)
  · refine z_iload_n 3 dX9_lengths_167 rfl rfl ?_
    cases hf
    exact z_iret dX9_lengths_168 rfl (hM.2 _ rfl)
  · refine z_aload_n 0 dX9_lengths_56 rfl rfl ?_
    refine z_iload_n 1 dX9_lengths_57 rfl rfl ?_
    obtain ⟨h_8, hc_6, hf⟩ := zb1_some hf
    have hct := ctX9_reach (l := F.1) hL hc_6
    refine z_invVv svX9_217_7 hct (hL.t 0 rfl) ⟨Nat.le_trans (by decide) hD, by decide⟩ rfl rfl (Nat.le_of_ble_eq_true rfl) dX9_lengths_58 ?_
    have hL := hL.ext mOk hct.1
    refine z_aload_n 0 dX9_lengths_61 rfl rfl ?_
    refine z_getr fdX9_75_7 (Or.inr ⟨_, rfl⟩) (hL.t 0 rfl) (hL.p 21 rfl) dX9_lengths_62 ?_
    refine z_iload 4 dX9_lengths_65 rfl ?_
    obtain ⟨hi_9, hf⟩ := zck_some hf
    refine z_zald (hL.t 22 rfl) hi_9 dX9_lengths_67 ?_
    refine z_if_eq 161 dX9_lengths_68 rfl hf (fun _ hf => ?_) (fun _ hf => ?_)
    · refine z_iinc 4 (x4 + 1) dX9_lengths_161 rfl rfl (by decide) (lc' := [(0, .ref a), (1, .int x1), (2, .int x2), (3, .int x3), (4, .int (x4 + 1))]) rfl ?_
      refine z_goto 50 dX9_lengths_164 rfl ?_
      cases hf
      exact (hM.1 _ rfl) hL
    · refine z_aload_n 0 dX9_lengths_71 rfl rfl ?_
      refine z_getr fdX9_9_7 (Or.inr ⟨_, rfl⟩) (hL.t 0 rfl) (hL.p 0 rfl) dX9_lengths_72 ?_
      refine z_iload_n 1 dX9_lengths_75 rfl rfl ?_
      obtain ⟨hi_10, hf⟩ := zck_some hf
      refine z_iald (hL.t 1 rfl) hi_10 dX9_lengths_76 ?_
      refine z_if_eq 88 dX9_lengths_77 rfl hf (fun _ hf => ?_) (fun _ hf => ?_)
      · exact zX9_lengths_J88 hD hL hf hM
      · refine z_iload 4 dX9_lengths_80 rfl ?_
        refine z_if_le 88 dX9_lengths_82 rfl hf (fun _ hf => ?_) (fun _ hf => ?_)
        · exact zX9_lengths_J88 hD hL hf hM
        · refine z_goto 161 dX9_lengths_85 rfl ?_
          refine z_iinc 4 (x4 + 1) dX9_lengths_161 rfl rfl (by decide) (lc' := [(0, .ref a), (1, .int x1), (2, .int x2), (3, .int x3), (4, .int (x4 + 1))]) rfl ?_
          refine z_goto 50 dX9_lengths_164 rfl ?_
          cases hf
          exact (hM.1 _ rfl) hL
noncomputable def fX9_lengths (h : zH) (a : Nat) (x1 : Int32) (x2 : Int32) : Option (Int32 × zH) := zb1 (fX9_isPage h a x1) (fun v_2 => if v_2 = 0 then (zb2 (fX9_tell h a ((-1))) (fun v_26 h_27 => some ((v_26, h_27)))) else (zck (vp_in x1 11) (if (zI h (a + 2) x1.toNatClampNeg) = 0 then (zb2 (fX9_tell h a ((-5))) (fun v_23 h_24 => some ((v_23, h_24)))) else (zb1 (fX9_in x2 0 1) (fun v_5 => if v_5 = 0 then (zb2 (fX9_tell h a ((-1))) (fun v_20 h_21 => some ((v_20, h_21)))) else (zlp (fun s => fX9_lengths_L50 s.1 a x1 x2 s.2.1 s.2.2) (h, (-1), 0)))))))
theorem zX9_lengths {F : zF} {h : zH} {a : Nat} {x1 : Int32} {x2 : Int32} {y : Int32 × zH} (hD : 67 ≤ F.2.1) (hL : zBlk mB mP h a) (hf : fX9_lengths h a x1 x2 = some y) (hM : ((.inl (some (.int y.1)), y.2) : zX) = zEnd F) : Z F 6 cX9_lengths RX9 "lengths" (some .int) [] h 0 [(0, .ref a), (1, .int x1), (2, .int x2)] [] := by
  unfold fX9_lengths at hf
  refine z_aload_n 0 dX9_lengths_0 rfl rfl ?_
  refine z_iload_n 1 dX9_lengths_1 rfl rfl ?_
  obtain ⟨v_2, hc_1, hf⟩ := zb1_some hf
  refine z_invVi svX9_170_7 (ctX9_isPage hL hc_1) (hL.t 0 rfl) ⟨Nat.le_trans (by decide) hD, by decide⟩ rfl rfl (Nat.le_of_ble_eq_true rfl) dX9_lengths_2 ?_
  refine z_if_ne 14 dX9_lengths_5 rfl hf (fun _ hf => ?_) (fun _ hf => ?_)
  · refine z_aload_n 0 dX9_lengths_14 rfl rfl ?_
    refine z_getr fdX9_13_7 (Or.inr ⟨_, rfl⟩) (hL.t 0 rfl) (hL.p 1 rfl) dX9_lengths_15 ?_
    refine z_iload_n 1 dX9_lengths_18 rfl rfl ?_
    obtain ⟨hi_3, hf⟩ := zck_some hf
    refine z_zald (hL.t 2 rfl) hi_3 dX9_lengths_19 ?_
    refine z_if_ne 30 dX9_lengths_20 rfl hf (fun _ hf => ?_) (fun _ hf => ?_)
    · refine z_iload_n 2 dX9_lengths_30 rfl rfl ?_
      refine z_iconst 0 dX9_lengths_31 rfl ?_
      refine z_iconst 1 dX9_lengths_32 rfl ?_
      obtain ⟨v_5, hc_4, hf⟩ := zb1_some hf
      refine z_invSi ssX9_156 (ctX9_in hc_4) ⟨Nat.le_trans (by decide) hD, by decide⟩ rfl rfl (Nat.le_of_ble_eq_true rfl) dX9_lengths_33 ?_
      refine z_if_ne 45 dX9_lengths_36 rfl hf (fun _ hf => ?_) (fun _ hf => ?_)
      · refine z_iconst (-1) dX9_lengths_45 rfl ?_
        refine z_istore_n dX9_lengths_46 rfl (by decide) (lc' := [(0, .ref a), (1, .int x1), (2, .int x2), (3, .int ((-1)))]) rfl ?_
        refine z_iconst 0 dX9_lengths_47 rfl ?_
        refine z_istore dX9_lengths_48 (by decide) (lc' := [(0, .ref a), (1, .int x1), (2, .int x2), (3, .int ((-1))), (4, .int 0)]) rfl ?_
        exact z_loop (fun (s : zH × Int32 × Int32) => (zBlk mB mP s.1 a → Z F 6 cX9_lengths RX9 "lengths" (some .int) [] s.1 50 [(0, .ref a), (1, .int x1), (2, .int x2), (3, .int s.2.1), (4, .int s.2.2)] [])) (fun (r : (Int32 × zH)) => ((.inl (some (.int r.1)), r.2) : zX) = zEnd F) (fun s y hb hs hr hL => zX9_lengths_L50 hD hL hb ⟨hs, hr⟩) hf hM hL
      · refine z_aload_n 0 dX9_lengths_39 rfl rfl ?_
        refine z_iconst (-1) dX9_lengths_40 rfl ?_
        obtain ⟨v_20, h_21, hc_19, hf⟩ := zb2_some hf
        have hct := ctX9_tell (l := F.1) hL hc_19
        refine z_invVi svX9_166_7 hct (hL.t 0 rfl) ⟨Nat.le_trans (by decide) hD, by decide⟩ rfl rfl (Nat.le_of_ble_eq_true rfl) dX9_lengths_41 ?_
        have hL := hL.ext mOk hct.1
        cases hf
        exact z_iret dX9_lengths_44 rfl hM
    · refine z_aload_n 0 dX9_lengths_23 rfl rfl ?_
      refine z_bipush (-5) dX9_lengths_24 rfl ?_
      obtain ⟨v_23, h_24, hc_22, hf⟩ := zb2_some hf
      have hct := ctX9_tell (l := F.1) hL hc_22
      refine z_invVi svX9_166_7 hct (hL.t 0 rfl) ⟨Nat.le_trans (by decide) hD, by decide⟩ rfl rfl (Nat.le_of_ble_eq_true rfl) dX9_lengths_26 ?_
      have hL := hL.ext mOk hct.1
      cases hf
      exact z_iret dX9_lengths_29 rfl hM
  · refine z_aload_n 0 dX9_lengths_8 rfl rfl ?_
    refine z_iconst (-1) dX9_lengths_9 rfl ?_
    obtain ⟨v_26, h_27, hc_25, hf⟩ := zb2_some hf
    have hct := ctX9_tell (l := F.1) hL hc_25
    refine z_invVi svX9_166_7 hct (hL.t 0 rfl) ⟨Nat.le_trans (by decide) hD, by decide⟩ rfl rfl (Nat.le_of_ble_eq_true rfl) dX9_lengths_10 ?_
    have hL := hL.ext mOk hct.1
    cases hf
    exact z_iret dX9_lengths_13 rfl hM
theorem ctX9_lengths {l : Launch} {h : zH} {a : Nat} {x1 : Int32} {x2 : Int32} {v : Int32} {h' : zH} (hL : zBlk mB mP h a) (hf : fX9_lengths h a x1 x2 = some (v, h')) : zC l yX9_lengths (ws_ yX9_lengths cX9_lengths 6 (some .int)) 67 [.ref a, .int x1, .int x2] h (.inl (some (.int v)), h') :=
  z_start (by decide) (Nat.le_of_ble_eq_true rfl) (zX9_lengths (F := (l, 67, h, (.inl (some (.int v)), h'))) (Nat.le_refl _) hL hf rfl)
noncomputable def fX9_sumOf_L5 (h : zH) (a : Nat) (x1 : Nat) (x2 : Int32) (x3 : Int64) (x5 : Int32) : Option ((Int64 × Int32) ⊕ (Int32)) := if x2 ≤ x5 then (some (.inr ((x3 - x3 / 65521 * 65521).toInt32))) else (zck (zAr h x1 x5) (some (.inl ((x3 + ((x5.toInt64 + 1) * ((zI h x1 x5.toNatClampNeg).toInt64)), x5 + 1)))))
theorem zX9_sumOf_L5 {F : zF} {h : zH} {a : Nat} {x1 : Nat} {x2 : Int32} {x3 : Int64} {x5 : Int32} {y : (Int64 × Int32) ⊕ (Int32)} (hD : 1 ≤ F.2.1) (hL : zBlk mB mP h a) (hf : fX9_sumOf_L5 h a x1 x2 x3 x5 = some y) (hM : ((∀ s' : Int64 × Int32, y = .inl s' → Z F 6 cX9_sumOf RX9 "sumOf" (some .int) [] h 5 [(1, .ref x1), (2, .int x2), (3, .long s'.1), (5, .int s'.2)] []) ∧ ∀ r : Int32, y = .inr r → ((.inl (some (.int r)), h) : zX) = zEnd F)) : Z F 6 cX9_sumOf RX9 "sumOf" (some .int) [] h 5 [(1, .ref x1), (2, .int x2), (3, .long x3), (5, .int x5)] [] := by
  unfold fX9_sumOf_L5 at hf
  refine z_iload 3 dX9_sumOf_5 rfl ?_
  refine z_iload_n 1 dX9_sumOf_7 rfl rfl ?_
  refine z_icmp_ge 31 dX9_sumOf_8 rfl hf (fun _ hf => ?_) (fun _ hf => ?_)
  · refine z_lload_n 2 dX9_sumOf_31 rfl rfl ?_
    refine z_ldc2 q1935 dX9_sumOf_32 ?_
    refine z_lrem dX9_sumOf_35 (by decide) ?_
    refine z_l2i dX9_sumOf_36 ?_
    cases hf
    exact z_iret dX9_sumOf_37 rfl (hM.2 _ rfl)
  · refine z_lload_n 2 dX9_sumOf_11 rfl rfl ?_
    refine z_iload 3 dX9_sumOf_12 rfl ?_
    refine z_i2l dX9_sumOf_14 ?_
    refine z_lconst 1 dX9_sumOf_15 rfl ?_
    refine z_ladd dX9_sumOf_16 ?_
    refine z_aload_n 0 dX9_sumOf_17 rfl rfl ?_
    refine z_iload 3 dX9_sumOf_18 rfl ?_
    obtain ⟨hi_1, hf⟩ := zck_some hf
    refine z_iald (zAr_t hi_1) hi_1.2 dX9_sumOf_20 ?_
    refine z_i2l dX9_sumOf_21 ?_
    refine z_lmul dX9_sumOf_22 ?_
    refine z_ladd dX9_sumOf_23 ?_
    refine z_lstore_n dX9_sumOf_24 rfl (by decide) (lc' := [(1, .ref x1), (2, .int x2), (3, .long (x3 + ((x5.toInt64 + 1) * ((zI h x1 x5.toNatClampNeg).toInt64)))), (5, .int x5)]) rfl ?_
    refine z_iinc 3 (x5 + 1) dX9_sumOf_25 rfl rfl (by decide) (lc' := [(1, .ref x1), (2, .int x2), (3, .long (x3 + ((x5.toInt64 + 1) * ((zI h x1 x5.toNatClampNeg).toInt64)))), (5, .int (x5 + 1))]) rfl ?_
    refine z_goto 5 dX9_sumOf_28 rfl ?_
    cases hf
    exact (hM.1 _ rfl)
noncomputable def fX9_sumOf (h : zH) (a : Nat) (x1 : Nat) (x2 : Int32) : Option (Int32) := zlp (fun s => fX9_sumOf_L5 h a x1 x2 s.1 s.2) (0, 0)
theorem zX9_sumOf {F : zF} {h : zH} {a : Nat} {x1 : Nat} {x2 : Int32} {y : Int32} (hD : 1 ≤ F.2.1) (hL : zBlk mB mP h a) (hf : fX9_sumOf h a x1 x2 = some y) (hM : ((.inl (some (.int y)), h) : zX) = zEnd F) : Z F 6 cX9_sumOf RX9 "sumOf" (some .int) [] h 0 [(0, .ref a), (1, .ref x1), (2, .int x2)] [] := by
  unfold fX9_sumOf at hf
  refine z_lconst 0 dX9_sumOf_0 rfl ?_
  refine z_lstore_n dX9_sumOf_1 rfl (by decide) (lc' := [(0, .ref a), (1, .ref x1), (2, .int x2), (3, .long 0)]) rfl ?_
  refine z_iconst 0 dX9_sumOf_2 rfl ?_
  refine z_istore dX9_sumOf_3 (by decide) (lc' := [(0, .ref a), (1, .ref x1), (2, .int x2), (3, .long 0), (5, .int 0)]) rfl ?_
  refine z_sub [1, 2, 3, 4] rfl ?_
  exact z_loop (fun (s : Int64 × Int32) => Z F 6 cX9_sumOf RX9 "sumOf" (some .int) [] h 5 [(1, .ref x1), (2, .int x2), (3, .long s.1), (5, .int s.2)] []) (fun (r : Int32) => ((.inl (some (.int r)), h) : zX) = zEnd F) (fun s y hb hs hr => zX9_sumOf_L5 hD hL hb ⟨hs, hr⟩) hf hM
theorem ctX9_sumOf {l : Launch} {h : zH} {a : Nat} {x1 : Nat} {x2 : Int32} {v : Int32} (hL : zBlk mB mP h a) (hf : fX9_sumOf h a x1 x2 = some v) : zC l yX9_sumOf (ws_ yX9_sumOf cX9_sumOf 6 (some .int)) 1 [.ref a, .ref x1, .int x2] h (.inl (some (.int v)), h) :=
  z_start (by decide) (Nat.le_of_ble_eq_true rfl) (zX9_sumOf (F := (l, 1, h, (.inl (some (.int v)), h))) (Nat.le_refl _) hL hf rfl)
noncomputable def fX9_send_L118 (h : zH) (a : Nat) (x1 : Int32) (x2 : Int32) (x3 : Int32) : Option ((zH × Int32) ⊕ (zH)) := if x3 < 0 then (some (.inr h)) else (zck (vp_in x2 1100) (zb1 (fX9_put h a (((zI h (a + 7) x2.toNatClampNeg) >>> (((8 : Int32) * x3) &&& 31)) &&& 255)) (fun h_24 => some (.inl ((h_24, x3 + (-1)))))))
theorem zX9_send_L118 {F : zF} {h : zH} {a : Nat} {x1 : Int32} {x2 : Int32} {x3 : Int32} {y : (zH × Int32) ⊕ (zH)} (hD : 3 ≤ F.2.1) (hL : zBlk mB mP h a) (hf : fX9_send_L118 h a x1 x2 x3 = some y) (hM : ((∀ s' : zH × Int32, y = .inl s' → (zBlk mB mP s'.1 a → Z F 4 cX9_send RX9 "send" (some .int) [] s'.1 118 [(0, .ref a), (1, .int x1), (2, .int x2), (3, .int s'.2)] [])) ∧ ∀ r : zH, y = .inr r → (zBlk mB mP r a → Z F 4 cX9_send RX9 "send" (some .int) [] r 147 [(0, .ref a), (1, .int x1), (2, .int x2)] []))) : Z F 4 cX9_send RX9 "send" (some .int) [] h 118 [(0, .ref a), (1, .int x1), (2, .int x2), (3, .int x3)] [] := by
  unfold fX9_send_L118 at hf
  refine z_iload_n 3 dX9_send_118 rfl rfl ?_
  refine z_if_lt 147 dX9_send_119 rfl hf (fun _ hf => ?_) (fun _ hf => ?_)
  · cases hf
    refine z_sub [0, 1, 2] rfl ?_
    exact (hM.2 _ rfl) hL
  · refine z_aload_n 0 dX9_send_122 rfl rfl ?_
    refine z_aload_n 0 dX9_send_123 rfl rfl ?_
    refine z_getr fdX9_29_7 (Or.inr ⟨_, rfl⟩) (hL.t 0 rfl) (hL.p 6 rfl) dX9_send_124 ?_
    refine z_iload_n 2 dX9_send_127 rfl rfl ?_
    obtain ⟨hi_21, hf⟩ := zck_some hf
    refine z_iald (hL.t 7 rfl) hi_21 dX9_send_128 ?_
    refine z_bipush 8 dX9_send_129 rfl ?_
    refine z_iload_n 3 dX9_send_131 rfl rfl ?_
    refine z_imul dX9_send_132 ?_
    refine z_ishr dX9_send_133 ?_
    refine z_sipush 255 dX9_send_134 rfl ?_
    refine z_iand dX9_send_137 ?_
    obtain ⟨h_24, hc_22, hf⟩ := zb1_some hf
    have hct := ctX9_put (l := F.1) hL hc_22
    refine z_invVv svX9_275_7 hct (hL.t 0 rfl) ⟨Nat.le_trans (by decide) hD, by decide⟩ rfl rfl (Nat.le_of_ble_eq_true rfl) dX9_send_138 ?_
    have hL := hL.ext mOk hct.1
    refine z_iinc 3 (x3 + (-1)) dX9_send_141 rfl rfl (by decide) (lc' := [(0, .ref a), (1, .int x1), (2, .int x2), (3, .int (x3 + (-1)))]) rfl ?_
    refine z_goto 118 dX9_send_144 rfl ?_
    cases hf
    exact (hM.1 _ rfl) hL
noncomputable def fX9_send_L149 (h : zH) (a : Nat) (x1 : Int32) (x2 : Int32) (x3 : Int32) : Option ((zH × Int32) ⊕ (zH)) := if x3 < 0 then (some (.inr h)) else (zck (vp_in x2 1100) (zb1 (fX9_put h a (((zI h (a + 8) x2.toNatClampNeg) >>> (((8 : Int32) * x3) &&& 31)) &&& 255)) (fun h_29 => some (.inl ((h_29, x3 + (-1)))))))
theorem zX9_send_L149 {F : zF} {h : zH} {a : Nat} {x1 : Int32} {x2 : Int32} {x3 : Int32} {y : (zH × Int32) ⊕ (zH)} (hD : 3 ≤ F.2.1) (hL : zBlk mB mP h a) (hf : fX9_send_L149 h a x1 x2 x3 = some y) (hM : ((∀ s' : zH × Int32, y = .inl s' → (zBlk mB mP s'.1 a → Z F 4 cX9_send RX9 "send" (some .int) [] s'.1 149 [(0, .ref a), (1, .int x1), (2, .int x2), (3, .int s'.2)] [])) ∧ ∀ r : zH, y = .inr r → (zBlk mB mP r a → Z F 4 cX9_send RX9 "send" (some .int) [] r 178 [(0, .ref a), (1, .int x1), (2, .int x2)] []))) : Z F 4 cX9_send RX9 "send" (some .int) [] h 149 [(0, .ref a), (1, .int x1), (2, .int x2), (3, .int x3)] [] := by
  unfold fX9_send_L149 at hf
  refine z_iload_n 3 dX9_send_149 rfl rfl ?_
  refine z_if_lt 178 dX9_send_150 rfl hf (fun _ hf => ?_) (fun _ hf => ?_)
  · cases hf
    refine z_sub [0, 1, 2] rfl ?_
    exact (hM.2 _ rfl) hL
  · refine z_aload_n 0 dX9_send_153 rfl rfl ?_
    refine z_aload_n 0 dX9_send_154 rfl rfl ?_
    refine z_getr fdX9_32_7 (Or.inr ⟨_, rfl⟩) (hL.t 0 rfl) (hL.p 7 rfl) dX9_send_155 ?_
    refine z_iload_n 2 dX9_send_158 rfl rfl ?_
    obtain ⟨hi_26, hf⟩ := zck_some hf
    refine z_iald (hL.t 8 rfl) hi_26 dX9_send_159 ?_
    refine z_bipush 8 dX9_send_160 rfl ?_
    refine z_iload_n 3 dX9_send_162 rfl rfl ?_
    refine z_imul dX9_send_163 ?_
    refine z_ishr dX9_send_164 ?_
    refine z_sipush 255 dX9_send_165 rfl ?_
    refine z_iand dX9_send_168 ?_
    obtain ⟨h_29, hc_27, hf⟩ := zb1_some hf
    have hct := ctX9_put (l := F.1) hL hc_27
    refine z_invVv svX9_275_7 hct (hL.t 0 rfl) ⟨Nat.le_trans (by decide) hD, by decide⟩ rfl rfl (Nat.le_of_ble_eq_true rfl) dX9_send_169 ?_
    have hL := hL.ext mOk hct.1
    refine z_iinc 3 (x3 + (-1)) dX9_send_172 rfl rfl (by decide) (lc' := [(0, .ref a), (1, .int x1), (2, .int x2), (3, .int (x3 + (-1)))]) rfl ?_
    refine z_goto 149 dX9_send_175 rfl ?_
    cases hf
    exact (hM.1 _ rfl) hL
noncomputable def fX9_send_L74 (h : zH) (a : Nat) (x1 : Int32) (x2 : Int32) : Option ((zH × Int32) ⊕ (zH)) := zck (vp_in x1 11) (if (((100 : Int32) * x1) + (zI h (a + 3) x1.toNatClampNeg)) ≤ x2 then (some (.inr h)) else (zck (vp_in x2 1100) (zb1 (fX9_put h a (zI h (a + 5) x2.toNatClampNeg)) (fun h_15 => zck (vp_in x2 1100) (zb1 (fX9_put h_15 a (zI h_15 (a + 6) x2.toNatClampNeg)) (fun h_19 => zck (vp_in x2 1100) (zb1 (zlp (fun s => fX9_send_L118 s.1 a x1 x2 s.2) (h_19, (zI h_19 (a + 6) x2.toNatClampNeg) - 1)) (fun t_25 => zb1 (zlp (fun s => fX9_send_L149 s.1 a x1 x2 s.2) (t_25, 2)) (fun t_30 => zck (vp_in x2 1100) (if (zI t_30 (a + 9) x2.toNatClampNeg) = 0 then (zb1 (fX9_put t_30 a 0) (fun h_34 => some (.inl ((h_34, x2 + 1))))) else (zb1 (fX9_put t_30 a 1) (fun h_37 => some (.inl ((h_37, x2 + 1)))))))))))))))
theorem zX9_send_L74 {F : zF} {h : zH} {a : Nat} {x1 : Int32} {x2 : Int32} {y : (zH × Int32) ⊕ (zH)} (hD : 3 ≤ F.2.1) (hL : zBlk mB mP h a) (hf : fX9_send_L74 h a x1 x2 = some y) (hM : ((∀ s' : zH × Int32, y = .inl s' → (zBlk mB mP s'.1 a → Z F 4 cX9_send RX9 "send" (some .int) [] s'.1 74 [(0, .ref a), (1, .int x1), (2, .int s'.2)] [])) ∧ ∀ r : zH, y = .inr r → (zBlk mB mP r a → Z F 4 cX9_send RX9 "send" (some .int) [] r 202 [(0, .ref a), (1, .int x1)] []))) : Z F 4 cX9_send RX9 "send" (some .int) [] h 74 [(0, .ref a), (1, .int x1), (2, .int x2)] [] := by
  unfold fX9_send_L74 at hf
  refine z_iload_n 2 dX9_send_74 rfl rfl ?_
  refine z_bipush 100 dX9_send_75 rfl ?_
  refine z_iload_n 1 dX9_send_77 rfl rfl ?_
  refine z_imul dX9_send_78 ?_
  refine z_aload_n 0 dX9_send_79 rfl rfl ?_
  refine z_getr fdX9_17_7 (Or.inr ⟨_, rfl⟩) (hL.t 0 rfl) (hL.p 2 rfl) dX9_send_80 ?_
  refine z_iload_n 1 dX9_send_83 rfl rfl ?_
  obtain ⟨hi_11, hf⟩ := zck_some hf
  refine z_iald (hL.t 3 rfl) hi_11 dX9_send_84 ?_
  refine z_iadd dX9_send_85 ?_
  refine z_icmp_ge 202 dX9_send_86 rfl hf (fun _ hf => ?_) (fun _ hf => ?_)
  · cases hf
    refine z_sub [0, 1] rfl ?_
    exact (hM.2 _ rfl) hL
  · refine z_aload_n 0 dX9_send_89 rfl rfl ?_
    refine z_aload_n 0 dX9_send_90 rfl rfl ?_
    refine z_getr fdX9_23_7 (Or.inr ⟨_, rfl⟩) (hL.t 0 rfl) (hL.p 4 rfl) dX9_send_91 ?_
    refine z_iload_n 2 dX9_send_94 rfl rfl ?_
    obtain ⟨hi_12, hf⟩ := zck_some hf
    refine z_iald (hL.t 5 rfl) hi_12 dX9_send_95 ?_
    obtain ⟨h_15, hc_13, hf⟩ := zb1_some hf
    have hct := ctX9_put (l := F.1) hL hc_13
    refine z_invVv svX9_275_7 hct (hL.t 0 rfl) ⟨Nat.le_trans (by decide) hD, by decide⟩ rfl rfl (Nat.le_of_ble_eq_true rfl) dX9_send_96 ?_
    have hL := hL.ext mOk hct.1
    refine z_aload_n 0 dX9_send_99 rfl rfl ?_
    refine z_aload_n 0 dX9_send_100 rfl rfl ?_
    refine z_getr fdX9_26_7 (Or.inr ⟨_, rfl⟩) (hL.t 0 rfl) (hL.p 5 rfl) dX9_send_101 ?_
    refine z_iload_n 2 dX9_send_104 rfl rfl ?_
    obtain ⟨hi_16, hf⟩ := zck_some hf
    refine z_iald (hL.t 6 rfl) hi_16 dX9_send_105 ?_
    obtain ⟨h_19, hc_17, hf⟩ := zb1_some hf
    have hct := ctX9_put (l := F.1) hL hc_17
    refine z_invVv svX9_275_7 hct (hL.t 0 rfl) ⟨Nat.le_trans (by decide) hD, by decide⟩ rfl rfl (Nat.le_of_ble_eq_true rfl) dX9_send_106 ?_
    have hL := hL.ext mOk hct.1
    refine z_aload_n 0 dX9_send_109 rfl rfl ?_
    refine z_getr fdX9_26_7 (Or.inr ⟨_, rfl⟩) (hL.t 0 rfl) (hL.p 5 rfl) dX9_send_110 ?_
    refine z_iload_n 2 dX9_send_113 rfl rfl ?_
    obtain ⟨hi_20, hf⟩ := zck_some hf
    refine z_iald (hL.t 6 rfl) hi_20 dX9_send_114 ?_
    refine z_iconst 1 dX9_send_115 rfl ?_
    refine z_isub dX9_send_116 ?_
    refine z_istore_n dX9_send_117 rfl (by decide) (lc' := [(0, .ref a), (1, .int x1), (2, .int x2), (3, .int ((zI h_19 (a + 6) x2.toNatClampNeg) - 1))]) rfl ?_
    obtain ⟨t_25, hl, hf⟩ := zb1_some hf
    refine z_loop (fun (s : zH × Int32) => (zBlk mB mP s.1 a → Z F 4 cX9_send RX9 "send" (some .int) [] s.1 118 [(0, .ref a), (1, .int x1), (2, .int x2), (3, .int s.2)] [])) (fun (r : zH) => (zBlk mB mP r a → Z F 4 cX9_send RX9 "send" (some .int) [] r 147 [(0, .ref a), (1, .int x1), (2, .int x2)] [])) (fun s y hb hs hr hL => zX9_send_L118 hD hL hb ⟨hs, hr⟩) hl ?_ hL
    intro hL
    show Z F 4 cX9_send RX9 "send" (some .int) [] t_25 147 [(0, .ref a), (1, .int x1), (2, .int x2)] []
    refine z_iconst 2 dX9_send_147 rfl ?_
    refine z_istore_n dX9_send_148 rfl (by decide) (lc' := [(0, .ref a), (1, .int x1), (2, .int x2), (3, .int 2)]) rfl ?_
    obtain ⟨t_30, hl, hf⟩ := zb1_some hf
    refine z_loop (fun (s : zH × Int32) => (zBlk mB mP s.1 a → Z F 4 cX9_send RX9 "send" (some .int) [] s.1 149 [(0, .ref a), (1, .int x1), (2, .int x2), (3, .int s.2)] [])) (fun (r : zH) => (zBlk mB mP r a → Z F 4 cX9_send RX9 "send" (some .int) [] r 178 [(0, .ref a), (1, .int x1), (2, .int x2)] [])) (fun s y hb hs hr hL => zX9_send_L149 hD hL hb ⟨hs, hr⟩) hl ?_ hL
    intro hL
    show Z F 4 cX9_send RX9 "send" (some .int) [] t_30 178 [(0, .ref a), (1, .int x1), (2, .int x2)] []
    refine z_aload_n 0 dX9_send_178 rfl rfl ?_
    refine z_aload_n 0 dX9_send_179 rfl rfl ?_
    refine z_getr fdX9_35_7 (Or.inr ⟨_, rfl⟩) (hL.t 0 rfl) (hL.p 8 rfl) dX9_send_180 ?_
    refine z_iload_n 2 dX9_send_183 rfl rfl ?_
    obtain ⟨hi_31, hf⟩ := zck_some hf
    refine z_zald (hL.t 9 rfl) hi_31 dX9_send_184 ?_
    refine z_if_eq 192 dX9_send_185 rfl hf (fun _ hf => ?_) (fun _ hf => ?_)
    · refine z_iconst 0 dX9_send_192 rfl ?_
      obtain ⟨h_34, hc_32, hf⟩ := zb1_some hf
      have hct := ctX9_put (l := F.1) hL hc_32
      refine z_invVv svX9_275_7 hct (hL.t 0 rfl) ⟨Nat.le_trans (by decide) hD, by decide⟩ rfl rfl (Nat.le_of_ble_eq_true rfl) dX9_send_193 ?_
      have hL := hL.ext mOk hct.1
      refine z_iinc 2 (x2 + 1) dX9_send_196 rfl rfl (by decide) (lc' := [(0, .ref a), (1, .int x1), (2, .int (x2 + 1))]) rfl ?_
      refine z_goto 74 dX9_send_199 rfl ?_
      cases hf
      exact (hM.1 _ rfl) hL
    · refine z_iconst 1 dX9_send_188 rfl ?_
      refine z_goto 193 dX9_send_189 rfl ?_
      obtain ⟨h_37, hc_35, hf⟩ := zb1_some hf
      have hct := ctX9_put (l := F.1) hL hc_35
      refine z_invVv svX9_275_7 hct (hL.t 0 rfl) ⟨Nat.le_trans (by decide) hD, by decide⟩ rfl rfl (Nat.le_of_ble_eq_true rfl) dX9_send_193 ?_
      have hL := hL.ext mOk hct.1
      refine z_iinc 2 (x2 + 1) dX9_send_196 rfl rfl (by decide) (lc' := [(0, .ref a), (1, .int x1), (2, .int (x2 + 1))]) rfl ?_
      refine z_goto 74 dX9_send_199 rfl ?_
      cases hf
      exact (hM.1 _ rfl) hL
noncomputable def fX9_send_L217 (h : zH) (a : Nat) (x1 : Int32) (x2 : Int32) : Option ((zH × Int32) ⊕ (zH)) := zck (vp_in x1 11) (if (((10 : Int32) * x1) + (zI h (a + 4) x1.toNatClampNeg)) ≤ x2 then (some (.inr h)) else (zck (vp_in x2 110) (zb1 (fX9_put h a (zI h (a + 10) x2.toNatClampNeg)) (fun h_47 => zck (vp_in x2 110) (zb1 (fX9_put h_47 a (zI h_47 (a + 11) x2.toNatClampNeg)) (fun h_51 => zck (vp_in x2 110) (zb1 (fX9_put h_51 a (zI h_51 (a + 12) x2.toNatClampNeg)) (fun h_55 => zck (vp_in x2 110) (if (zI h_55 (a + 13) x2.toNatClampNeg) = 0 then (zb1 (fX9_put h_55 a 0) (fun h_59 => some (.inl ((h_59, x2 + 1))))) else (zb1 (fX9_put h_55 a 1) (fun h_62 => some (.inl ((h_62, x2 + 1))))))))))))))
theorem zX9_send_L217 {F : zF} {h : zH} {a : Nat} {x1 : Int32} {x2 : Int32} {y : (zH × Int32) ⊕ (zH)} (hD : 3 ≤ F.2.1) (hL : zBlk mB mP h a) (hf : fX9_send_L217 h a x1 x2 = some y) (hM : ((∀ s' : zH × Int32, y = .inl s' → (zBlk mB mP s'.1 a → Z F 4 cX9_send RX9 "send" (some .int) [] s'.1 217 [(0, .ref a), (1, .int x1), (2, .int s'.2)] [])) ∧ ∀ r : zH, y = .inr r → (zBlk mB mP r a → Z F 4 cX9_send RX9 "send" (some .int) [] r 286 [(0, .ref a)] []))) : Z F 4 cX9_send RX9 "send" (some .int) [] h 217 [(0, .ref a), (1, .int x1), (2, .int x2)] [] := by
  unfold fX9_send_L217 at hf
  refine z_iload_n 2 dX9_send_217 rfl rfl ?_
  refine z_bipush 10 dX9_send_218 rfl ?_
  refine z_iload_n 1 dX9_send_220 rfl rfl ?_
  refine z_imul dX9_send_221 ?_
  refine z_aload_n 0 dX9_send_222 rfl rfl ?_
  refine z_getr fdX9_20_7 (Or.inr ⟨_, rfl⟩) (hL.t 0 rfl) (hL.p 3 rfl) dX9_send_223 ?_
  refine z_iload_n 1 dX9_send_226 rfl rfl ?_
  obtain ⟨hi_43, hf⟩ := zck_some hf
  refine z_iald (hL.t 4 rfl) hi_43 dX9_send_227 ?_
  refine z_iadd dX9_send_228 ?_
  refine z_icmp_ge 286 dX9_send_229 rfl hf (fun _ hf => ?_) (fun _ hf => ?_)
  · cases hf
    refine z_sub [0] rfl ?_
    exact (hM.2 _ rfl) hL
  · refine z_aload_n 0 dX9_send_232 rfl rfl ?_
    refine z_aload_n 0 dX9_send_233 rfl rfl ?_
    refine z_getr fdX9_38_7 (Or.inr ⟨_, rfl⟩) (hL.t 0 rfl) (hL.p 9 rfl) dX9_send_234 ?_
    refine z_iload_n 2 dX9_send_237 rfl rfl ?_
    obtain ⟨hi_44, hf⟩ := zck_some hf
    refine z_iald (hL.t 10 rfl) hi_44 dX9_send_238 ?_
    obtain ⟨h_47, hc_45, hf⟩ := zb1_some hf
    have hct := ctX9_put (l := F.1) hL hc_45
    refine z_invVv svX9_275_7 hct (hL.t 0 rfl) ⟨Nat.le_trans (by decide) hD, by decide⟩ rfl rfl (Nat.le_of_ble_eq_true rfl) dX9_send_239 ?_
    have hL := hL.ext mOk hct.1
    refine z_aload_n 0 dX9_send_242 rfl rfl ?_
    refine z_aload_n 0 dX9_send_243 rfl rfl ?_
    refine z_getr fdX9_41_7 (Or.inr ⟨_, rfl⟩) (hL.t 0 rfl) (hL.p 10 rfl) dX9_send_244 ?_
    refine z_iload_n 2 dX9_send_247 rfl rfl ?_
    obtain ⟨hi_48, hf⟩ := zck_some hf
    refine z_iald (hL.t 11 rfl) hi_48 dX9_send_248 ?_
    obtain ⟨h_51, hc_49, hf⟩ := zb1_some hf
    have hct := ctX9_put (l := F.1) hL hc_49
    refine z_invVv svX9_275_7 hct (hL.t 0 rfl) ⟨Nat.le_trans (by decide) hD, by decide⟩ rfl rfl (Nat.le_of_ble_eq_true rfl) dX9_send_249 ?_
    have hL := hL.ext mOk hct.1
    refine z_aload_n 0 dX9_send_252 rfl rfl ?_
    refine z_aload_n 0 dX9_send_253 rfl rfl ?_
    refine z_getr fdX9_44_7 (Or.inr ⟨_, rfl⟩) (hL.t 0 rfl) (hL.p 11 rfl) dX9_send_254 ?_
    refine z_iload_n 2 dX9_send_257 rfl rfl ?_
    obtain ⟨hi_52, hf⟩ := zck_some hf
    refine z_iald (hL.t 12 rfl) hi_52 dX9_send_258 ?_
    obtain ⟨h_55, hc_53, hf⟩ := zb1_some hf
    have hct := ctX9_put (l := F.1) hL hc_53
    refine z_invVv svX9_275_7 hct (hL.t 0 rfl) ⟨Nat.le_trans (by decide) hD, by decide⟩ rfl rfl (Nat.le_of_ble_eq_true rfl) dX9_send_259 ?_
    have hL := hL.ext mOk hct.1
    refine z_aload_n 0 dX9_send_262 rfl rfl ?_
    refine z_aload_n 0 dX9_send_263 rfl rfl ?_
    refine z_getr fdX9_47_7 (Or.inr ⟨_, rfl⟩) (hL.t 0 rfl) (hL.p 12 rfl) dX9_send_264 ?_
    refine z_iload_n 2 dX9_send_267 rfl rfl ?_
    obtain ⟨hi_56, hf⟩ := zck_some hf
    refine z_zald (hL.t 13 rfl) hi_56 dX9_send_268 ?_
    refine z_if_eq 276 dX9_send_269 rfl hf (fun _ hf => ?_) (fun _ hf => ?_)
    · refine z_iconst 0 dX9_send_276 rfl ?_
      obtain ⟨h_59, hc_57, hf⟩ := zb1_some hf
      have hct := ctX9_put (l := F.1) hL hc_57
      refine z_invVv svX9_275_7 hct (hL.t 0 rfl) ⟨Nat.le_trans (by decide) hD, by decide⟩ rfl rfl (Nat.le_of_ble_eq_true rfl) dX9_send_277 ?_
      have hL := hL.ext mOk hct.1
      refine z_iinc 2 (x2 + 1) dX9_send_280 rfl rfl (by decide) (lc' := [(0, .ref a), (1, .int x1), (2, .int (x2 + 1))]) rfl ?_
      refine z_goto 217 dX9_send_283 rfl ?_
      cases hf
      exact (hM.1 _ rfl) hL
    · refine z_iconst 1 dX9_send_272 rfl ?_
      refine z_goto 277 dX9_send_273 rfl ?_
      obtain ⟨h_62, hc_60, hf⟩ := zb1_some hf
      have hct := ctX9_put (l := F.1) hL hc_60
      refine z_invVv svX9_275_7 hct (hL.t 0 rfl) ⟨Nat.le_trans (by decide) hD, by decide⟩ rfl rfl (Nat.le_of_ble_eq_true rfl) dX9_send_277 ?_
      have hL := hL.ext mOk hct.1
      refine z_iinc 2 (x2 + 1) dX9_send_280 rfl rfl (by decide) (lc' := [(0, .ref a), (1, .int x1), (2, .int (x2 + 1))]) rfl ?_
      refine z_goto 217 dX9_send_283 rfl ?_
      cases hf
      exact (hM.1 _ rfl) hL
theorem svX9_408_7 : zIv RX9 408 yX9_sumOf (ws_ yX9_sumOf cX9_sumOf 6 (some .int)) 6 7 2 := ⟨zGood_c q1934 q109, ⟨_, _, rfl, rfl, qs91⟩, Or.inl q1931, q1933, ⟨by decide, by decide⟩, by decide +kernel⟩
noncomputable def fX9_send (h : zH) (a : Nat) (x1 : Int32) : Option (Int32 × zH) := zb1 (fX9_isPage h a x1) (fun v_2 => if v_2 = 0 then (zb2 (fX9_tell h a ((-1))) (fun v_82 h_83 => some ((v_82, h_83)))) else (zck (vp_in x1 11) (if (zI h (a + 1) x1.toNatClampNeg) = 0 then (zck (vp_in x1 11) (if (zI h (a + 2) x1.toNatClampNeg) = 0 then (zb2 (fX9_tell h a ((-5))) (fun v_76 h_77 => some ((v_76, h_77)))) else (zlet (zsP h a 36 (some (a + 27))) (fun h_5 => zlet (zsI h_5 a 37 0) (fun h_6 => zck (vp_in x1 11) (zb1 (fX9_put h_6 a (zI h_6 (a + 3) x1.toNatClampNeg)) (fun h_10 => zb1 (zlp (fun s => fX9_send_L74 s.1 a x1 s.2) (h_10, (100 : Int32) * x1)) (fun t_38 => zck (vp_in x1 11) (zb1 (fX9_put t_38 a (zI t_38 (a + 4) x1.toNatClampNeg)) (fun h_42 => zb1 (zlp (fun s => fX9_send_L217 s.1 a x1 s.2) (h_42, (10 : Int32) * x1)) (fun t_63 => zb1 (fX9_sumOf t_63 a (a + 27) (zI t_63 a 37)) (fun v_65 => zb1 (fX9_put t_63 a (v_65 >>> (8 &&& 31))) (fun h_68 => zb1 (fX9_put h_68 a (v_65 &&& 255)) (fun h_71 => zb2 (fX9_resultOf h_71 a (a + 27) (zI h_71 a 37) 2) (fun v_73 h_74 => some ((v_73, h_74))))))))))))))))) else (zb2 (fX9_tell h a ((-3))) (fun v_79 h_80 => some ((v_79, h_80)))))))
theorem zX9_send {F : zF} {h : zH} {a : Nat} {x1 : Int32} {y : Int32 × zH} (hD : 3 ≤ F.2.1) (hL : zBlk mB mP h a) (hf : fX9_send h a x1 = some y) (hM : ((.inl (some (.int y.1)), y.2) : zX) = zEnd F) : Z F 4 cX9_send RX9 "send" (some .int) [] h 0 [(0, .ref a), (1, .int x1)] [] := by
  unfold fX9_send at hf
  refine z_aload_n 0 dX9_send_0 rfl rfl ?_
  refine z_iload_n 1 dX9_send_1 rfl rfl ?_
  obtain ⟨v_2, hc_1, hf⟩ := zb1_some hf
  refine z_invVi svX9_170_7 (ctX9_isPage hL hc_1) (hL.t 0 rfl) ⟨Nat.le_trans (by decide) hD, by decide⟩ rfl rfl (Nat.le_of_ble_eq_true rfl) dX9_send_2 ?_
  refine z_if_ne 14 dX9_send_5 rfl hf (fun _ hf => ?_) (fun _ hf => ?_)
  · refine z_aload_n 0 dX9_send_14 rfl rfl ?_
    refine z_getr fdX9_9_7 (Or.inr ⟨_, rfl⟩) (hL.t 0 rfl) (hL.p 0 rfl) dX9_send_15 ?_
    refine z_iload_n 1 dX9_send_18 rfl rfl ?_
    obtain ⟨hi_3, hf⟩ := zck_some hf
    refine z_iald (hL.t 1 rfl) hi_3 dX9_send_19 ?_
    refine z_if_eq 30 dX9_send_20 rfl hf (fun _ hf => ?_) (fun _ hf => ?_)
    · refine z_aload_n 0 dX9_send_30 rfl rfl ?_
      refine z_getr fdX9_13_7 (Or.inr ⟨_, rfl⟩) (hL.t 0 rfl) (hL.p 1 rfl) dX9_send_31 ?_
      refine z_iload_n 1 dX9_send_34 rfl rfl ?_
      obtain ⟨hi_4, hf⟩ := zck_some hf
      refine z_zald (hL.t 2 rfl) hi_4 dX9_send_35 ?_
      refine z_if_ne 46 dX9_send_36 rfl hf (fun _ hf => ?_) (fun _ hf => ?_)
      · refine z_aload_n 0 dX9_send_46 rfl rfl ?_
        refine z_aload_n 0 dX9_send_47 rfl rfl ?_
        refine z_getr fdX9_90_7 (Or.inr ⟨_, rfl⟩) (hL.t 0 rfl) (hL.p 26 rfl) dX9_send_48 ?_
        obtain ⟨h_5, he, hf⟩ := zlet_some hf
        refine z_putr fdX9_269_7 (Or.inr ⟨_, rfl⟩) (hL.t 0 rfl) (hL.nz 0) he dX9_send_51 ?_
        have hL := hL.P he (hL.t 0 rfl) (by decide)
        refine z_aload_n 0 dX9_send_54 rfl rfl ?_
        refine z_iconst 0 dX9_send_55 rfl ?_
        obtain ⟨h_6, he, hf⟩ := zlet_some hf
        refine z_puti fdX9_272_7 (hL.t 0 rfl) (hL.nz 0) he dX9_send_56 ?_
        have hL := hL.I he
        refine z_aload_n 0 dX9_send_59 rfl rfl ?_
        refine z_aload_n 0 dX9_send_60 rfl rfl ?_
        refine z_getr fdX9_17_7 (Or.inr ⟨_, rfl⟩) (hL.t 0 rfl) (hL.p 2 rfl) dX9_send_61 ?_
        refine z_iload_n 1 dX9_send_64 rfl rfl ?_
        obtain ⟨hi_7, hf⟩ := zck_some hf
        refine z_iald (hL.t 3 rfl) hi_7 dX9_send_65 ?_
        obtain ⟨h_10, hc_8, hf⟩ := zb1_some hf
        have hct := ctX9_put (l := F.1) hL hc_8
        refine z_invVv svX9_275_7 hct (hL.t 0 rfl) ⟨Nat.le_trans (by decide) hD, by decide⟩ rfl rfl (Nat.le_of_ble_eq_true rfl) dX9_send_66 ?_
        have hL := hL.ext mOk hct.1
        refine z_bipush 100 dX9_send_69 rfl ?_
        refine z_iload_n 1 dX9_send_71 rfl rfl ?_
        refine z_imul dX9_send_72 ?_
        refine z_istore_n dX9_send_73 rfl (by decide) (lc' := [(0, .ref a), (1, .int x1), (2, .int ((100 : Int32) * x1))]) rfl ?_
        obtain ⟨t_38, hl, hf⟩ := zb1_some hf
        refine z_loop (fun (s : zH × Int32) => (zBlk mB mP s.1 a → Z F 4 cX9_send RX9 "send" (some .int) [] s.1 74 [(0, .ref a), (1, .int x1), (2, .int s.2)] [])) (fun (r : zH) => (zBlk mB mP r a → Z F 4 cX9_send RX9 "send" (some .int) [] r 202 [(0, .ref a), (1, .int x1)] [])) (fun s y hb hs hr hL => zX9_send_L74 hD hL hb ⟨hs, hr⟩) hl ?_ hL
        intro hL
        show Z F 4 cX9_send RX9 "send" (some .int) [] t_38 202 [(0, .ref a), (1, .int x1)] []
        refine z_aload_n 0 dX9_send_202 rfl rfl ?_
        refine z_aload_n 0 dX9_send_203 rfl rfl ?_
        refine z_getr fdX9_20_7 (Or.inr ⟨_, rfl⟩) (hL.t 0 rfl) (hL.p 3 rfl) dX9_send_204 ?_
        refine z_iload_n 1 dX9_send_207 rfl rfl ?_
        obtain ⟨hi_39, hf⟩ := zck_some hf
        refine z_iald (hL.t 4 rfl) hi_39 dX9_send_208 ?_
        obtain ⟨h_42, hc_40, hf⟩ := zb1_some hf
        have hct := ctX9_put (l := F.1) hL hc_40
        refine z_invVv svX9_275_7 hct (hL.t 0 rfl) ⟨Nat.le_trans (by decide) hD, by decide⟩ rfl rfl (Nat.le_of_ble_eq_true rfl) dX9_send_209 ?_
        have hL := hL.ext mOk hct.1
        refine z_bipush 10 dX9_send_212 rfl ?_
        refine z_iload_n 1 dX9_send_214 rfl rfl ?_
        refine z_imul dX9_send_215 ?_
        refine z_istore_n dX9_send_216 rfl (by decide) (lc' := [(0, .ref a), (1, .int x1), (2, .int ((10 : Int32) * x1))]) rfl ?_
        obtain ⟨t_63, hl, hf⟩ := zb1_some hf
        refine z_loop (fun (s : zH × Int32) => (zBlk mB mP s.1 a → Z F 4 cX9_send RX9 "send" (some .int) [] s.1 217 [(0, .ref a), (1, .int x1), (2, .int s.2)] [])) (fun (r : zH) => (zBlk mB mP r a → Z F 4 cX9_send RX9 "send" (some .int) [] r 286 [(0, .ref a)] [])) (fun s y hb hs hr hL => zX9_send_L217 hD hL hb ⟨hs, hr⟩) hl ?_ hL
        intro hL
        show Z F 4 cX9_send RX9 "send" (some .int) [] t_63 286 [(0, .ref a)] []
        refine z_aload_n 0 dX9_send_286 rfl rfl ?_
        refine z_aload_n 0 dX9_send_287 rfl rfl ?_
        refine z_getr fdX9_90_7 (Or.inr ⟨_, rfl⟩) (hL.t 0 rfl) (hL.p 26 rfl) dX9_send_288 ?_
        refine z_aload_n 0 dX9_send_291 rfl rfl ?_
        refine z_geti fdX9_272_7 (hL.t 0 rfl) dX9_send_292 ?_
        obtain ⟨v_65, hc_64, hf⟩ := zb1_some hf
        refine z_invVi svX9_408_7 (ctX9_sumOf hL hc_64) (hL.t 0 rfl) ⟨Nat.le_trans (by decide) hD, by decide⟩ rfl rfl (Nat.le_of_ble_eq_true rfl) dX9_send_295 ?_
        refine z_istore_n dX9_send_298 rfl (by decide) (lc' := [(0, .ref a), (2, .int v_65)]) rfl ?_
        refine z_aload_n 0 dX9_send_299 rfl rfl ?_
        refine z_iload_n 1 dX9_send_300 rfl rfl ?_
        refine z_bipush 8 dX9_send_301 rfl ?_
        refine z_ishr dX9_send_303 ?_
        obtain ⟨h_68, hc_66, hf⟩ := zb1_some hf
        have hct := ctX9_put (l := F.1) hL hc_66
        refine z_invVv svX9_275_7 hct (hL.t 0 rfl) ⟨Nat.le_trans (by decide) hD, by decide⟩ rfl rfl (Nat.le_of_ble_eq_true rfl) dX9_send_304 ?_
        have hL := hL.ext mOk hct.1
        refine z_aload_n 0 dX9_send_307 rfl rfl ?_
        refine z_iload_n 1 dX9_send_308 rfl rfl ?_
        refine z_sipush 255 dX9_send_309 rfl ?_
        refine z_iand dX9_send_312 ?_
        obtain ⟨h_71, hc_69, hf⟩ := zb1_some hf
        have hct := ctX9_put (l := F.1) hL hc_69
        refine z_invVv svX9_275_7 hct (hL.t 0 rfl) ⟨Nat.le_trans (by decide) hD, by decide⟩ rfl rfl (Nat.le_of_ble_eq_true rfl) dX9_send_313 ?_
        have hL := hL.ext mOk hct.1
        refine z_aload_n 0 dX9_send_316 rfl rfl ?_
        refine z_aload_n 0 dX9_send_317 rfl rfl ?_
        refine z_getr fdX9_90_7 (Or.inr ⟨_, rfl⟩) (hL.t 0 rfl) (hL.p 26 rfl) dX9_send_318 ?_
        refine z_aload_n 0 dX9_send_321 rfl rfl ?_
        refine z_geti fdX9_272_7 (hL.t 0 rfl) dX9_send_322 ?_
        refine z_iconst 2 dX9_send_325 rfl ?_
        obtain ⟨v_73, h_74, hc_72, hf⟩ := zb2_some hf
        have hct := ctX9_resultOf (l := F.1) hL hc_72
        refine z_invVi svX9_374_7 hct (hL.t 0 rfl) ⟨Nat.le_trans (by decide) hD, by decide⟩ rfl rfl (Nat.le_of_ble_eq_true rfl) dX9_send_326 ?_
        have hL := hL.ext mOk hct.1
        cases hf
        exact z_iret dX9_send_329 rfl hM
      · refine z_aload_n 0 dX9_send_39 rfl rfl ?_
        refine z_bipush (-5) dX9_send_40 rfl ?_
        obtain ⟨v_76, h_77, hc_75, hf⟩ := zb2_some hf
        have hct := ctX9_tell (l := F.1) hL hc_75
        refine z_invVi svX9_166_7 hct (hL.t 0 rfl) ⟨Nat.le_trans (by decide) hD, by decide⟩ rfl rfl (Nat.le_of_ble_eq_true rfl) dX9_send_42 ?_
        have hL := hL.ext mOk hct.1
        cases hf
        exact z_iret dX9_send_45 rfl hM
    · refine z_aload_n 0 dX9_send_23 rfl rfl ?_
      refine z_bipush (-3) dX9_send_24 rfl ?_
      obtain ⟨v_79, h_80, hc_78, hf⟩ := zb2_some hf
      have hct := ctX9_tell (l := F.1) hL hc_78
      refine z_invVi svX9_166_7 hct (hL.t 0 rfl) ⟨Nat.le_trans (by decide) hD, by decide⟩ rfl rfl (Nat.le_of_ble_eq_true rfl) dX9_send_26 ?_
      have hL := hL.ext mOk hct.1
      cases hf
      exact z_iret dX9_send_29 rfl hM
  · refine z_aload_n 0 dX9_send_8 rfl rfl ?_
    refine z_iconst (-1) dX9_send_9 rfl ?_
    obtain ⟨v_82, h_83, hc_81, hf⟩ := zb2_some hf
    have hct := ctX9_tell (l := F.1) hL hc_81
    refine z_invVi svX9_166_7 hct (hL.t 0 rfl) ⟨Nat.le_trans (by decide) hD, by decide⟩ rfl rfl (Nat.le_of_ble_eq_true rfl) dX9_send_10 ?_
    have hL := hL.ext mOk hct.1
    cases hf
    exact z_iret dX9_send_13 rfl hM
theorem ctX9_send {l : Launch} {h : zH} {a : Nat} {x1 : Int32} {v : Int32} {h' : zH} (hL : zBlk mB mP h a) (hf : fX9_send h a x1 = some (v, h')) : zC l yX9_send (ws_ yX9_send cX9_send 4 (some .int)) 3 [.ref a, .int x1] h (.inl (some (.int v)), h') :=
  z_start (by decide) (Nat.le_of_ble_eq_true rfl) (zX9_send (F := (l, 3, h, (.inl (some (.int v)), h'))) (Nat.le_refl _) hL hf rfl)
theorem fdX9_412_7 : zFd RX9 412 7 67 .int false := ⟨_, _, _, rfl, rfl, by decide, rfl, rfl, Or.inl q1459, Or.inl rfl⟩
theorem fdX9_415_7 : zFd RX9 415 7 68 .int false := ⟨_, _, _, rfl, rfl, by decide, rfl, rfl, Or.inl q1460, Or.inl rfl⟩
noncomputable def fX9_next (h : zH) (a : Nat) : Option (Int32 × zH) := if (zI h a 68) ≤ (zI h a 67) then (zlet (zsI h a 67 ((zI h a 67) + 1)) (fun h_1 => some (((-1), h_1)))) else (zck (vp_in (zI h a 67) 1000) (zlet (zsI h a 67 ((zI h a 67) + 1)) (fun h_3 => some ((zI h (a + 14) (zI h a 67).toNatClampNeg, h_3)))))
theorem zX9_next {F : zF} {h : zH} {a : Nat} {y : Int32 × zH} (hD : 1 ≤ F.2.1) (hL : zBlk mB mP h a) (hf : fX9_next h a = some y) (hM : ((.inl (some (.int y.1)), y.2) : zX) = zEnd F) : Z F 2 cX9_next RX9 "next" (some .int) [] h 0 [(0, .ref a)] [] := by
  unfold fX9_next at hf
  refine z_aload_n 0 dX9_next_0 rfl rfl ?_
  refine z_geti fdX9_412_7 (hL.t 0 rfl) dX9_next_1 ?_
  refine z_aload_n 0 dX9_next_4 rfl rfl ?_
  refine z_geti fdX9_415_7 (hL.t 0 rfl) dX9_next_5 ?_
  refine z_icmp_ge 23 dX9_next_8 rfl hf (fun _ hf => ?_) (fun _ hf => ?_)
  · refine z_iconst (-1) dX9_next_23 rfl ?_
    refine z_istore_n dX9_next_24 rfl (by decide) (lc' := [(0, .ref a), (1, .int ((-1)))]) rfl ?_
    refine z_aload_n 0 dX9_next_25 rfl rfl ?_
    refine z_dup dX9_next_26 rfl ?_
    refine z_geti fdX9_412_7 (hL.t 0 rfl) dX9_next_27 ?_
    refine z_iconst 1 dX9_next_30 rfl ?_
    refine z_iadd dX9_next_31 ?_
    obtain ⟨h_1, he, hf⟩ := zlet_some hf
    refine z_puti fdX9_412_7 (hL.t 0 rfl) (hL.nz 0) he dX9_next_32 ?_
    have hL := hL.I he
    refine z_iload_n 1 dX9_next_35 rfl rfl ?_
    cases hf
    exact z_iret dX9_next_36 rfl hM
  · refine z_aload_n 0 dX9_next_11 rfl rfl ?_
    refine z_getr fdX9_50_7 (Or.inr ⟨_, rfl⟩) (hL.t 0 rfl) (hL.p 13 rfl) dX9_next_12 ?_
    refine z_aload_n 0 dX9_next_15 rfl rfl ?_
    refine z_geti fdX9_412_7 (hL.t 0 rfl) dX9_next_16 ?_
    obtain ⟨hi_2, hf⟩ := zck_some hf
    refine z_iald (hL.t 14 rfl) hi_2 dX9_next_19 ?_
    refine z_goto 24 dX9_next_20 rfl ?_
    refine z_istore_n dX9_next_24 rfl (by decide) (lc' := [(0, .ref a), (1, .int (zI h (a + 14) (zI h a 67).toNatClampNeg))]) rfl ?_
    refine z_aload_n 0 dX9_next_25 rfl rfl ?_
    refine z_dup dX9_next_26 rfl ?_
    refine z_geti fdX9_412_7 (hL.t 0 rfl) dX9_next_27 ?_
    refine z_iconst 1 dX9_next_30 rfl ?_
    refine z_iadd dX9_next_31 ?_
    obtain ⟨h_3, he, hf⟩ := zlet_some hf
    refine z_puti fdX9_412_7 (hL.t 0 rfl) (hL.nz 0) he dX9_next_32 ?_
    have hL := hL.I he
    refine z_iload_n 1 dX9_next_35 rfl rfl ?_
    cases hf
    exact z_iret dX9_next_36 rfl hM
theorem ctX9_next {l : Launch} {h : zH} {a : Nat} {v : Int32} {h' : zH} (hL : zBlk mB mP h a) (hf : fX9_next h a = some (v, h')) : zC l yX9_next (ws_ yX9_next cX9_next 2 (some .int)) 1 [.ref a] h (.inl (some (.int v)), h') :=
  z_start (by decide) (Nat.le_of_ble_eq_true rfl) (zX9_next (F := (l, 1, h, (.inl (some (.int v)), h'))) (Nat.le_refl _) hL hf rfl)
theorem svX9_418_7 : zIv RX9 418 yX9_next (ws_ yX9_next cX9_next 2 (some .int)) 2 7 0 := ⟨zGood_c q1947 q109, ⟨_, _, rfl, rfl, qs93⟩, Or.inl q1944, q1946, ⟨by decide, by decide⟩, by decide +kernel⟩
noncomputable def fX9_takeEntry_L36 (h : zH) (a : Nat) (x1 : Int32) (x2 : Int32) (x3 : Int32) (x4 : Int32) (x5 : Int32) : Option ((zH × Int32 × Int32) ⊕ (zH × Int32)) := if x3 ≤ x5 then (some (.inr ((h, x4)))) else (zb2 (fX9_next h a) (fun v_12 h_13 => some (.inl ((h_13, (x4 <<< (8 &&& 31)) ||| (v_12 &&& 255), x5 + 1)))))
theorem zX9_takeEntry_L36 {F : zF} {h : zH} {a : Nat} {x1 : Int32} {x2 : Int32} {x3 : Int32} {x4 : Int32} {x5 : Int32} {y : (zH × Int32 × Int32) ⊕ (zH × Int32)} (hD : 3 ≤ F.2.1) (hL : zBlk mB mP h a) (hf : fX9_takeEntry_L36 h a x1 x2 x3 x4 x5 = some y) (hM : ((∀ s' : zH × Int32 × Int32, y = .inl s' → (zBlk mB mP s'.1 a → Z F 8 cX9_takeEntry RX9 "takeEntry" (some .boolean) [] s'.1 36 [(0, .ref a), (1, .int x1), (2, .int x2), (3, .int x3), (4, .int s'.2.1), (5, .int s'.2.2)] [])) ∧ ∀ r : zH × Int32, y = .inr r → (zBlk mB mP r.1 a → Z F 8 cX9_takeEntry RX9 "takeEntry" (some .boolean) [] r.1 64 [(0, .ref a), (1, .int x1), (2, .int x2), (3, .int x3), (4, .int r.2)] []))) : Z F 8 cX9_takeEntry RX9 "takeEntry" (some .boolean) [] h 36 [(0, .ref a), (1, .int x1), (2, .int x2), (3, .int x3), (4, .int x4), (5, .int x5)] [] := by
  unfold fX9_takeEntry_L36 at hf
  refine z_iload 5 dX9_takeEntry_36 rfl ?_
  refine z_iload_n 3 dX9_takeEntry_38 rfl rfl ?_
  refine z_icmp_ge 64 dX9_takeEntry_39 rfl hf (fun _ hf => ?_) (fun _ hf => ?_)
  · cases hf
    refine z_sub [0, 1, 2, 3, 4] rfl ?_
    exact (hM.2 _ rfl) hL
  · refine z_iload 4 dX9_takeEntry_42 rfl ?_
    refine z_bipush 8 dX9_takeEntry_44 rfl ?_
    refine z_ishl dX9_takeEntry_46 ?_
    refine z_aload_n 0 dX9_takeEntry_47 rfl rfl ?_
    obtain ⟨v_12, h_13, hc_11, hf⟩ := zb2_some hf
    have hct := ctX9_next (l := F.1) hL hc_11
    refine z_invVi svX9_418_7 hct (hL.t 0 rfl) ⟨Nat.le_trans (by decide) hD, by decide⟩ rfl rfl (Nat.le_of_ble_eq_true rfl) dX9_takeEntry_48 ?_
    have hL := hL.ext mOk hct.1
    refine z_sipush 255 dX9_takeEntry_51 rfl ?_
    refine z_iand dX9_takeEntry_54 ?_
    refine z_ior dX9_takeEntry_55 ?_
    refine z_istore dX9_takeEntry_56 (by decide) (lc' := [(0, .ref a), (1, .int x1), (2, .int x2), (3, .int x3), (4, .int ((x4 <<< (8 &&& 31)) ||| (v_12 &&& 255))), (5, .int x5)]) rfl ?_
    refine z_iinc 5 (x5 + 1) dX9_takeEntry_58 rfl rfl (by decide) (lc' := [(0, .ref a), (1, .int x1), (2, .int x2), (3, .int x3), (4, .int ((x4 <<< (8 &&& 31)) ||| (v_12 &&& 255))), (5, .int (x5 + 1))]) rfl ?_
    refine z_goto 36 dX9_takeEntry_61 rfl ?_
    cases hf
    exact (hM.1 _ rfl) hL
noncomputable def fX9_takeEntry_L70 (h : zH) (a : Nat) (x1 : Int32) (x2 : Int32) (x3 : Int32) (x4 : Int32) (x5 : Int32) (x6 : Int32) : Option ((zH × Int32 × Int32) ⊕ (zH × Int32)) := if 3 ≤ x6 then (some (.inr ((h, x5)))) else (zb2 (fX9_next h a) (fun v_16 h_17 => some (.inl ((h_17, (x5 <<< (8 &&& 31)) ||| (v_16 &&& 255), x6 + 1)))))
theorem zX9_takeEntry_L70 {F : zF} {h : zH} {a : Nat} {x1 : Int32} {x2 : Int32} {x3 : Int32} {x4 : Int32} {x5 : Int32} {x6 : Int32} {y : (zH × Int32 × Int32) ⊕ (zH × Int32)} (hD : 3 ≤ F.2.1) (hL : zBlk mB mP h a) (hf : fX9_takeEntry_L70 h a x1 x2 x3 x4 x5 x6 = some y) (hM : ((∀ s' : zH × Int32 × Int32, y = .inl s' → (zBlk mB mP s'.1 a → Z F 8 cX9_takeEntry RX9 "takeEntry" (some .boolean) [] s'.1 70 [(0, .ref a), (1, .int x1), (2, .int x2), (3, .int x3), (4, .int x4), (5, .int s'.2.1), (6, .int s'.2.2)] [])) ∧ ∀ r : zH × Int32, y = .inr r → (zBlk mB mP r.1 a → Z F 8 cX9_takeEntry RX9 "takeEntry" (some .boolean) [] r.1 98 [(0, .ref a), (1, .int x1), (2, .int x2), (3, .int x3), (4, .int x4), (5, .int r.2)] []))) : Z F 8 cX9_takeEntry RX9 "takeEntry" (some .boolean) [] h 70 [(0, .ref a), (1, .int x1), (2, .int x2), (3, .int x3), (4, .int x4), (5, .int x5), (6, .int x6)] [] := by
  unfold fX9_takeEntry_L70 at hf
  refine z_iload 6 dX9_takeEntry_70 rfl ?_
  refine z_iconst 3 dX9_takeEntry_72 rfl ?_
  refine z_icmp_ge 98 dX9_takeEntry_73 rfl hf (fun _ hf => ?_) (fun _ hf => ?_)
  · cases hf
    refine z_sub [0, 1, 2, 3, 4, 5] rfl ?_
    exact (hM.2 _ rfl) hL
  · refine z_iload 5 dX9_takeEntry_76 rfl ?_
    refine z_bipush 8 dX9_takeEntry_78 rfl ?_
    refine z_ishl dX9_takeEntry_80 ?_
    refine z_aload_n 0 dX9_takeEntry_81 rfl rfl ?_
    obtain ⟨v_16, h_17, hc_15, hf⟩ := zb2_some hf
    have hct := ctX9_next (l := F.1) hL hc_15
    refine z_invVi svX9_418_7 hct (hL.t 0 rfl) ⟨Nat.le_trans (by decide) hD, by decide⟩ rfl rfl (Nat.le_of_ble_eq_true rfl) dX9_takeEntry_82 ?_
    have hL := hL.ext mOk hct.1
    refine z_sipush 255 dX9_takeEntry_85 rfl ?_
    refine z_iand dX9_takeEntry_88 ?_
    refine z_ior dX9_takeEntry_89 ?_
    refine z_istore dX9_takeEntry_90 (by decide) (lc' := [(0, .ref a), (1, .int x1), (2, .int x2), (3, .int x3), (4, .int x4), (5, .int ((x5 <<< (8 &&& 31)) ||| (v_16 &&& 255))), (6, .int x6)]) rfl ?_
    refine z_iinc 6 (x6 + 1) dX9_takeEntry_92 rfl rfl (by decide) (lc' := [(0, .ref a), (1, .int x1), (2, .int x2), (3, .int x3), (4, .int x4), (5, .int ((x5 <<< (8 &&& 31)) ||| (v_16 &&& 255))), (6, .int (x6 + 1))]) rfl ?_
    refine z_goto 70 dX9_takeEntry_95 rfl ?_
    cases hf
    exact (hM.1 _ rfl) hL
noncomputable def fX9_takeEntry (h : zH) (a : Nat) (x1 : Int32) : Option (Int32 × zH) := zb2 (fX9_next h a) (fun v_2 h_3 => zb2 (fX9_next h_3 a) (fun v_5 h_6 => zb1 (fX9_in v_2 0 3) (fun v_8 => if v_8 = 0 then (some ((0, h_6))) else (zb1 (fX9_in v_5 1 3) (fun v_10 => if v_10 = 0 then (some ((0, h_6))) else (zb1 (zlp (fun s => fX9_takeEntry_L36 s.1 a x1 v_2 v_5 s.2.1 s.2.2) (h_6, 0, 0)) (fun t_14 => zb1 (zlp (fun s => fX9_takeEntry_L70 s.1 a x1 v_2 v_5 t_14.2 s.2.1 s.2.2) (t_14.1, 0, 0)) (fun t_18 => zb2 (fX9_next t_18.1 a) (fun v_20 h_21 => if v_20 < 0 then (some ((0, h_21))) else (if 1 < v_20 then (some ((0, h_21))) else (zb1 (fX9_isPoint t_18.2) (fun v_23 => if v_23 = 0 then (some ((0, h_21))) else (zb1 (fX9_entryOf h_21 a x1 v_2 t_14.2 v_5) (fun v_25 => if v_25 < 0 then (zck (vp_in x1 11) (zck (vp_in (((100 : Int32) * x1) + (zI h_21 (a + 3) x1.toNatClampNeg)) 1100) (zlet (zsI h_21 (a + 5) (((100 : Int32) * x1) + (zI h_21 (a + 3) x1.toNatClampNeg)).toNatClampNeg v_2) (fun h_28 => zck (vp_in (((100 : Int32) * x1) + (zI h_21 (a + 3) x1.toNatClampNeg)) 1100) (zlet (zsI h_28 (a + 6) (((100 : Int32) * x1) + (zI h_21 (a + 3) x1.toNatClampNeg)).toNatClampNeg v_5) (fun h_30 => zck (vp_in (((100 : Int32) * x1) + (zI h_21 (a + 3) x1.toNatClampNeg)) 1100) (zlet (zsI h_30 (a + 7) (((100 : Int32) * x1) + (zI h_21 (a + 3) x1.toNatClampNeg)).toNatClampNeg t_14.2) (fun h_32 => zck (vp_in (((100 : Int32) * x1) + (zI h_21 (a + 3) x1.toNatClampNeg)) 1100) (zlet (zsI h_32 (a + 8) (((100 : Int32) * x1) + (zI h_21 (a + 3) x1.toNatClampNeg)).toNatClampNeg t_18.2) (fun h_34 => if v_20 = 1 then (zck (vp_in (((100 : Int32) * x1) + (zI h_21 (a + 3) x1.toNatClampNeg)) 1100) (zlet (zsI h_34 (a + 9) (((100 : Int32) * x1) + (zI h_21 (a + 3) x1.toNatClampNeg)).toNatClampNeg 1) (fun h_41 => zck (vp_in x1 11) (zck (vp_in x1 11) (zlet (zsI h_41 (a + 3) x1.toNatClampNeg ((zI h_41 (a + 3) x1.toNatClampNeg) + 1)) (fun h_44 => some ((1, h_44)))))))) else (zck (vp_in (((100 : Int32) * x1) + (zI h_21 (a + 3) x1.toNatClampNeg)) 1100) (zlet (zsI h_34 (a + 9) (((100 : Int32) * x1) + (zI h_21 (a + 3) x1.toNatClampNeg)).toNatClampNeg 0) (fun h_36 => zck (vp_in x1 11) (zck (vp_in x1 11) (zlet (zsI h_36 (a + 3) x1.toNatClampNeg ((zI h_36 (a + 3) x1.toNatClampNeg) + 1)) (fun h_39 => some ((1, h_39)))))))))))))))))) else (some ((0, h_21)))))))))))))))))
theorem zX9_takeEntry {F : zF} {h : zH} {a : Nat} {x1 : Int32} {y : Int32 × zH} (hD : 3 ≤ F.2.1) (hL : zBlk mB mP h a) (hf : fX9_takeEntry h a x1 = some y) (hM : ((.inl (some (.int y.1)), y.2) : zX) = zEnd F) : Z F 8 cX9_takeEntry RX9 "takeEntry" (some .boolean) [] h 0 [(0, .ref a), (1, .int x1)] [] := by
  unfold fX9_takeEntry at hf
  refine z_aload_n 0 dX9_takeEntry_0 rfl rfl ?_
  obtain ⟨v_2, h_3, hc_1, hf⟩ := zb2_some hf
  have hct := ctX9_next (l := F.1) hL hc_1
  refine z_invVi svX9_418_7 hct (hL.t 0 rfl) ⟨Nat.le_trans (by decide) hD, by decide⟩ rfl rfl (Nat.le_of_ble_eq_true rfl) dX9_takeEntry_1 ?_
  have hL := hL.ext mOk hct.1
  refine z_istore_n dX9_takeEntry_4 rfl (by decide) (lc' := [(0, .ref a), (1, .int x1), (2, .int v_2)]) rfl ?_
  refine z_aload_n 0 dX9_takeEntry_5 rfl rfl ?_
  obtain ⟨v_5, h_6, hc_4, hf⟩ := zb2_some hf
  have hct := ctX9_next (l := F.1) hL hc_4
  refine z_invVi svX9_418_7 hct (hL.t 0 rfl) ⟨Nat.le_trans (by decide) hD, by decide⟩ rfl rfl (Nat.le_of_ble_eq_true rfl) dX9_takeEntry_6 ?_
  have hL := hL.ext mOk hct.1
  refine z_istore_n dX9_takeEntry_9 rfl (by decide) (lc' := [(0, .ref a), (1, .int x1), (2, .int v_2), (3, .int v_5)]) rfl ?_
  refine z_iload_n 2 dX9_takeEntry_10 rfl rfl ?_
  refine z_iconst 0 dX9_takeEntry_11 rfl ?_
  refine z_iconst 3 dX9_takeEntry_12 rfl ?_
  obtain ⟨v_8, hc_7, hf⟩ := zb1_some hf
  refine z_invSi ssX9_156 (ctX9_in hc_7) ⟨Nat.le_trans (by decide) hD, by decide⟩ rfl rfl (Nat.le_of_ble_eq_true rfl) dX9_takeEntry_13 ?_
  refine z_if_eq 28 dX9_takeEntry_16 rfl hf (fun _ hf => ?_) (fun _ hf => ?_)
  · refine z_iconst 0 dX9_takeEntry_28 rfl ?_
    cases hf
    exact z_zret dX9_takeEntry_29 rfl (Or.inl rfl) hM
  · refine z_iload_n 3 dX9_takeEntry_19 rfl rfl ?_
    refine z_iconst 1 dX9_takeEntry_20 rfl ?_
    refine z_iconst 3 dX9_takeEntry_21 rfl ?_
    obtain ⟨v_10, hc_9, hf⟩ := zb1_some hf
    refine z_invSi ssX9_156 (ctX9_in hc_9) ⟨Nat.le_trans (by decide) hD, by decide⟩ rfl rfl (Nat.le_of_ble_eq_true rfl) dX9_takeEntry_22 ?_
    refine z_if_ne 30 dX9_takeEntry_25 rfl hf (fun _ hf => ?_) (fun _ hf => ?_)
    · refine z_iconst 0 dX9_takeEntry_30 rfl ?_
      refine z_istore dX9_takeEntry_31 (by decide) (lc' := [(0, .ref a), (1, .int x1), (2, .int v_2), (3, .int v_5), (4, .int 0)]) rfl ?_
      refine z_iconst 0 dX9_takeEntry_33 rfl ?_
      refine z_istore dX9_takeEntry_34 (by decide) (lc' := [(0, .ref a), (1, .int x1), (2, .int v_2), (3, .int v_5), (4, .int 0), (5, .int 0)]) rfl ?_
      obtain ⟨t_14, hl, hf⟩ := zb1_some hf
      refine z_loop (fun (s : zH × Int32 × Int32) => (zBlk mB mP s.1 a → Z F 8 cX9_takeEntry RX9 "takeEntry" (some .boolean) [] s.1 36 [(0, .ref a), (1, .int x1), (2, .int v_2), (3, .int v_5), (4, .int s.2.1), (5, .int s.2.2)] [])) (fun (r : zH × Int32) => (zBlk mB mP r.1 a → Z F 8 cX9_takeEntry RX9 "takeEntry" (some .boolean) [] r.1 64 [(0, .ref a), (1, .int x1), (2, .int v_2), (3, .int v_5), (4, .int r.2)] [])) (fun s y hb hs hr hL => zX9_takeEntry_L36 hD hL hb ⟨hs, hr⟩) hl ?_ hL
      intro hL
      show Z F 8 cX9_takeEntry RX9 "takeEntry" (some .boolean) [] t_14.1 64 [(0, .ref a), (1, .int x1), (2, .int v_2), (3, .int v_5), (4, .int t_14.2)] []
      refine z_iconst 0 dX9_takeEntry_64 rfl ?_
      refine z_istore dX9_takeEntry_65 (by decide) (lc' := [(0, .ref a), (1, .int x1), (2, .int v_2), (3, .int v_5), (4, .int t_14.2), (5, .int 0)]) rfl ?_
      refine z_iconst 0 dX9_takeEntry_67 rfl ?_
      refine z_istore dX9_takeEntry_68 (by decide) (lc' := [(0, .ref a), (1, .int x1), (2, .int v_2), (3, .int v_5), (4, .int t_14.2), (5, .int 0), (6, .int 0)]) rfl ?_
      obtain ⟨t_18, hl, hf⟩ := zb1_some hf
      refine z_loop (fun (s : zH × Int32 × Int32) => (zBlk mB mP s.1 a → Z F 8 cX9_takeEntry RX9 "takeEntry" (some .boolean) [] s.1 70 [(0, .ref a), (1, .int x1), (2, .int v_2), (3, .int v_5), (4, .int t_14.2), (5, .int s.2.1), (6, .int s.2.2)] [])) (fun (r : zH × Int32) => (zBlk mB mP r.1 a → Z F 8 cX9_takeEntry RX9 "takeEntry" (some .boolean) [] r.1 98 [(0, .ref a), (1, .int x1), (2, .int v_2), (3, .int v_5), (4, .int t_14.2), (5, .int r.2)] [])) (fun s y hb hs hr hL => zX9_takeEntry_L70 hD hL hb ⟨hs, hr⟩) hl ?_ hL
      intro hL
      show Z F 8 cX9_takeEntry RX9 "takeEntry" (some .boolean) [] t_18.1 98 [(0, .ref a), (1, .int x1), (2, .int v_2), (3, .int v_5), (4, .int t_14.2), (5, .int t_18.2)] []
      refine z_aload_n 0 dX9_takeEntry_98 rfl rfl ?_
      obtain ⟨v_20, h_21, hc_19, hf⟩ := zb2_some hf
      have hct := ctX9_next (l := F.1) hL hc_19
      refine z_invVi svX9_418_7 hct (hL.t 0 rfl) ⟨Nat.le_trans (by decide) hD, by decide⟩ rfl rfl (Nat.le_of_ble_eq_true rfl) dX9_takeEntry_99 ?_
      have hL := hL.ext mOk hct.1
      refine z_istore dX9_takeEntry_102 (by decide) (lc' := [(0, .ref a), (1, .int x1), (2, .int v_2), (3, .int v_5), (4, .int t_14.2), (5, .int t_18.2), (6, .int v_20)]) rfl ?_
      refine z_iload 6 dX9_takeEntry_104 rfl ?_
      refine z_if_lt 135 dX9_takeEntry_106 rfl hf (fun _ hf => ?_) (fun _ hf => ?_)
      · refine z_iconst 0 dX9_takeEntry_135 rfl ?_
        cases hf
        exact z_zret dX9_takeEntry_136 rfl (Or.inl rfl) hM
      · refine z_iload 6 dX9_takeEntry_109 rfl ?_
        refine z_iconst 1 dX9_takeEntry_111 rfl ?_
        refine z_icmp_gt 135 dX9_takeEntry_112 rfl hf (fun _ hf => ?_) (fun _ hf => ?_)
        · refine z_iconst 0 dX9_takeEntry_135 rfl ?_
          cases hf
          exact z_zret dX9_takeEntry_136 rfl (Or.inl rfl) hM
        · refine z_iload 5 dX9_takeEntry_115 rfl ?_
          obtain ⟨v_23, hc_22, hf⟩ := zb1_some hf
          refine z_invSi ssX9_187 (ctX9_isPoint hc_22) ⟨Nat.le_trans (by decide) hD, by decide⟩ rfl rfl (Nat.le_of_ble_eq_true rfl) dX9_takeEntry_117 ?_
          refine z_if_eq 135 dX9_takeEntry_120 rfl hf (fun _ hf => ?_) (fun _ hf => ?_)
          · refine z_iconst 0 dX9_takeEntry_135 rfl ?_
            cases hf
            exact z_zret dX9_takeEntry_136 rfl (Or.inl rfl) hM
          · refine z_aload_n 0 dX9_takeEntry_123 rfl rfl ?_
            refine z_iload_n 1 dX9_takeEntry_124 rfl rfl ?_
            refine z_iload_n 2 dX9_takeEntry_125 rfl rfl ?_
            refine z_iload 4 dX9_takeEntry_126 rfl ?_
            refine z_iload_n 3 dX9_takeEntry_128 rfl rfl ?_
            obtain ⟨v_25, hc_24, hf⟩ := zb1_some hf
            refine z_invVi svX9_190_7 (ctX9_entryOf hL hc_24) (hL.t 0 rfl) ⟨Nat.le_trans (by decide) hD, by decide⟩ rfl rfl (Nat.le_of_ble_eq_true rfl) dX9_takeEntry_129 ?_
            refine z_if_lt 137 dX9_takeEntry_132 rfl hf (fun _ hf => ?_) (fun _ hf => ?_)
            · refine z_bipush 100 dX9_takeEntry_137 rfl ?_
              refine z_iload_n 1 dX9_takeEntry_139 rfl rfl ?_
              refine z_imul dX9_takeEntry_140 ?_
              refine z_aload_n 0 dX9_takeEntry_141 rfl rfl ?_
              refine z_getr fdX9_17_7 (Or.inr ⟨_, rfl⟩) (hL.t 0 rfl) (hL.p 2 rfl) dX9_takeEntry_142 ?_
              refine z_iload_n 1 dX9_takeEntry_145 rfl rfl ?_
              obtain ⟨hi_26, hf⟩ := zck_some hf
              refine z_iald (hL.t 3 rfl) hi_26 dX9_takeEntry_146 ?_
              refine z_iadd dX9_takeEntry_147 ?_
              refine z_istore dX9_takeEntry_148 (by decide) (lc' := [(0, .ref a), (1, .int x1), (2, .int v_2), (3, .int v_5), (4, .int t_14.2), (5, .int t_18.2), (6, .int v_20), (7, .int (((100 : Int32) * x1) + (zI h_21 (a + 3) x1.toNatClampNeg)))]) rfl ?_
              refine z_aload_n 0 dX9_takeEntry_150 rfl rfl ?_
              refine z_getr fdX9_23_7 (Or.inr ⟨_, rfl⟩) (hL.t 0 rfl) (hL.p 4 rfl) dX9_takeEntry_151 ?_
              refine z_iload 7 dX9_takeEntry_154 rfl ?_
              refine z_iload_n 2 dX9_takeEntry_156 rfl rfl ?_
              obtain ⟨hi_27, hf⟩ := zck_some hf
              obtain ⟨h_28, he, hf⟩ := zlet_some hf
              refine z_iast (hL.t 5 rfl) (hL.nz 5) hi_27 he dX9_takeEntry_157 ?_
              have hL := hL.I he
              refine z_aload_n 0 dX9_takeEntry_158 rfl rfl ?_
              refine z_getr fdX9_26_7 (Or.inr ⟨_, rfl⟩) (hL.t 0 rfl) (hL.p 5 rfl) dX9_takeEntry_159 ?_
              refine z_iload 7 dX9_takeEntry_162 rfl ?_
              refine z_iload_n 3 dX9_takeEntry_164 rfl rfl ?_
              obtain ⟨hi_29, hf⟩ := zck_some hf
              obtain ⟨h_30, he, hf⟩ := zlet_some hf
              refine z_iast (hL.t 6 rfl) (hL.nz 6) hi_29 he dX9_takeEntry_165 ?_
              have hL := hL.I he
              refine z_aload_n 0 dX9_takeEntry_166 rfl rfl ?_
              refine z_getr fdX9_29_7 (Or.inr ⟨_, rfl⟩) (hL.t 0 rfl) (hL.p 6 rfl) dX9_takeEntry_167 ?_
              refine z_iload 7 dX9_takeEntry_170 rfl ?_
              refine z_iload 4 dX9_takeEntry_172 rfl ?_
              obtain ⟨hi_31, hf⟩ := zck_some hf
              obtain ⟨h_32, he, hf⟩ := zlet_some hf
              refine z_iast (hL.t 7 rfl) (hL.nz 7) hi_31 he dX9_takeEntry_174 ?_
              have hL := hL.I he
              refine z_aload_n 0 dX9_takeEntry_175 rfl rfl ?_
              refine z_getr fdX9_32_7 (Or.inr ⟨_, rfl⟩) (hL.t 0 rfl) (hL.p 7 rfl) dX9_takeEntry_176 ?_
              refine z_iload 7 dX9_takeEntry_179 rfl ?_
              refine z_iload 5 dX9_takeEntry_181 rfl ?_
              obtain ⟨hi_33, hf⟩ := zck_some hf
              obtain ⟨h_34, he, hf⟩ := zlet_some hf
              refine z_iast (hL.t 8 rfl) (hL.nz 8) hi_33 he dX9_takeEntry_183 ?_
              have hL := hL.I he
              refine z_aload_n 0 dX9_takeEntry_184 rfl rfl ?_
              refine z_getr fdX9_35_7 (Or.inr ⟨_, rfl⟩) (hL.t 0 rfl) (hL.p 8 rfl) dX9_takeEntry_185 ?_
              refine z_iload 7 dX9_takeEntry_188 rfl ?_
              refine z_iload 6 dX9_takeEntry_190 rfl ?_
              refine z_iconst 1 dX9_takeEntry_192 rfl ?_
              refine z_icmp_ne 200 dX9_takeEntry_193 rfl hf (fun _ hf => ?_) (fun _ hf => ?_)
              · refine z_iconst 0 dX9_takeEntry_200 rfl ?_
                obtain ⟨hi_35, hf⟩ := zck_some hf
                obtain ⟨h_36, he, hf⟩ := zlet_some hf
                refine z_zast (Or.inl rfl) (hL.t 9 rfl) (hL.nz 9) hi_35 he dX9_takeEntry_201 ?_
                have hL := hL.I he
                refine z_aload_n 0 dX9_takeEntry_202 rfl rfl ?_
                refine z_getr fdX9_17_7 (Or.inr ⟨_, rfl⟩) (hL.t 0 rfl) (hL.p 2 rfl) dX9_takeEntry_203 ?_
                refine z_iload_n 1 dX9_takeEntry_206 rfl rfl ?_
                refine z_dup2 dX9_takeEntry_207 rfl rfl ?_
                obtain ⟨hi_37, hf⟩ := zck_some hf
                refine z_iald (hL.t 3 rfl) hi_37 dX9_takeEntry_208 ?_
                refine z_iconst 1 dX9_takeEntry_209 rfl ?_
                refine z_iadd dX9_takeEntry_210 ?_
                obtain ⟨hi_38, hf⟩ := zck_some hf
                obtain ⟨h_39, he, hf⟩ := zlet_some hf
                refine z_iast (hL.t 3 rfl) (hL.nz 3) hi_38 he dX9_takeEntry_211 ?_
                have hL := hL.I he
                refine z_iconst 1 dX9_takeEntry_212 rfl ?_
                cases hf
                exact z_zret dX9_takeEntry_213 rfl (Or.inr rfl) hM
              · refine z_iconst 1 dX9_takeEntry_196 rfl ?_
                refine z_goto 201 dX9_takeEntry_197 rfl ?_
                obtain ⟨hi_40, hf⟩ := zck_some hf
                obtain ⟨h_41, he, hf⟩ := zlet_some hf
                refine z_zast (Or.inr rfl) (hL.t 9 rfl) (hL.nz 9) hi_40 he dX9_takeEntry_201 ?_
                have hL := hL.I he
                refine z_aload_n 0 dX9_takeEntry_202 rfl rfl ?_
                refine z_getr fdX9_17_7 (Or.inr ⟨_, rfl⟩) (hL.t 0 rfl) (hL.p 2 rfl) dX9_takeEntry_203 ?_
                refine z_iload_n 1 dX9_takeEntry_206 rfl rfl ?_
                refine z_dup2 dX9_takeEntry_207 rfl rfl ?_
                obtain ⟨hi_42, hf⟩ := zck_some hf
                refine z_iald (hL.t 3 rfl) hi_42 dX9_takeEntry_208 ?_
                refine z_iconst 1 dX9_takeEntry_209 rfl ?_
                refine z_iadd dX9_takeEntry_210 ?_
                obtain ⟨hi_43, hf⟩ := zck_some hf
                obtain ⟨h_44, he, hf⟩ := zlet_some hf
                refine z_iast (hL.t 3 rfl) (hL.nz 3) hi_43 he dX9_takeEntry_211 ?_
                have hL := hL.I he
                refine z_iconst 1 dX9_takeEntry_212 rfl ?_
                cases hf
                exact z_zret dX9_takeEntry_213 rfl (Or.inr rfl) hM
            · refine z_iconst 0 dX9_takeEntry_135 rfl ?_
              cases hf
              exact z_zret dX9_takeEntry_136 rfl (Or.inl rfl) hM
    · refine z_iconst 0 dX9_takeEntry_28 rfl ?_
      cases hf
      exact z_zret dX9_takeEntry_29 rfl (Or.inl rfl) hM
theorem ctX9_takeEntry {l : Launch} {h : zH} {a : Nat} {x1 : Int32} {v : Int32} {h' : zH} (hL : zBlk mB mP h a) (hf : fX9_takeEntry h a x1 = some (v, h')) : zC l yX9_takeEntry (ws_ yX9_takeEntry cX9_takeEntry 8 (some .boolean)) 3 [.ref a, .int x1] h (.inl (some (.int v)), h') :=
  z_start (by decide) (Nat.le_of_ble_eq_true rfl) (zX9_takeEntry (F := (l, 3, h, (.inl (some (.int v)), h'))) (Nat.le_refl _) hL hf rfl)
noncomputable def fX9_takeShift (h : zH) (a : Nat) (x1 : Int32) : Option (Int32 × zH) := zb2 (fX9_next h a) (fun v_2 h_3 => zb2 (fX9_next h_3 a) (fun v_5 h_6 => zb2 (fX9_next h_6 a) (fun v_8 h_9 => zb2 (fX9_next h_9 a) (fun v_11 h_12 => zb1 (fX9_in v_2 0 3) (fun v_14 => if v_14 = 0 then (some ((0, h_12))) else (if v_5 < 0 then (some ((0, h_12))) else (zb1 (fX9_in v_8 0 3) (fun v_16 => if v_16 = 0 then (some ((0, h_12))) else (if v_2 = v_8 then (some ((0, h_12))) else (zb1 (fX9_in v_11 0 1) (fun v_18 => if v_18 = 0 then (some ((0, h_12))) else (zb1 (fX9_shiftOf h_12 a x1 v_2 v_5) (fun v_20 => if v_20 < 0 then (zck (vp_in x1 11) (zck (vp_in (((10 : Int32) * x1) + (zI h_12 (a + 4) x1.toNatClampNeg)) 110) (zlet (zsI h_12 (a + 10) (((10 : Int32) * x1) + (zI h_12 (a + 4) x1.toNatClampNeg)).toNatClampNeg v_2) (fun h_23 => zck (vp_in (((10 : Int32) * x1) + (zI h_12 (a + 4) x1.toNatClampNeg)) 110) (zlet (zsI h_23 (a + 11) (((10 : Int32) * x1) + (zI h_12 (a + 4) x1.toNatClampNeg)).toNatClampNeg v_5) (fun h_25 => zck (vp_in (((10 : Int32) * x1) + (zI h_12 (a + 4) x1.toNatClampNeg)) 110) (zlet (zsI h_25 (a + 12) (((10 : Int32) * x1) + (zI h_12 (a + 4) x1.toNatClampNeg)).toNatClampNeg v_8) (fun h_27 => if v_11 = 1 then (zck (vp_in (((10 : Int32) * x1) + (zI h_12 (a + 4) x1.toNatClampNeg)) 110) (zlet (zsI h_27 (a + 13) (((10 : Int32) * x1) + (zI h_12 (a + 4) x1.toNatClampNeg)).toNatClampNeg 1) (fun h_34 => zck (vp_in x1 11) (zck (vp_in x1 11) (zlet (zsI h_34 (a + 4) x1.toNatClampNeg ((zI h_34 (a + 4) x1.toNatClampNeg) + 1)) (fun h_37 => some ((1, h_37)))))))) else (zck (vp_in (((10 : Int32) * x1) + (zI h_12 (a + 4) x1.toNatClampNeg)) 110) (zlet (zsI h_27 (a + 13) (((10 : Int32) * x1) + (zI h_12 (a + 4) x1.toNatClampNeg)).toNatClampNeg 0) (fun h_29 => zck (vp_in x1 11) (zck (vp_in x1 11) (zlet (zsI h_29 (a + 4) x1.toNatClampNeg ((zI h_29 (a + 4) x1.toNatClampNeg) + 1)) (fun h_32 => some ((1, h_32)))))))))))))))) else (some ((0, h_12))))))))))))))))
theorem zX9_takeShift {F : zF} {h : zH} {a : Nat} {x1 : Int32} {y : Int32 × zH} (hD : 2 ≤ F.2.1) (hL : zBlk mB mP h a) (hf : fX9_takeShift h a x1 = some y) (hM : ((.inl (some (.int y.1)), y.2) : zX) = zEnd F) : Z F 7 cX9_takeShift RX9 "takeShift" (some .boolean) [] h 0 [(0, .ref a), (1, .int x1)] [] := by
  unfold fX9_takeShift at hf
  refine z_aload_n 0 dX9_takeShift_0 rfl rfl ?_
  obtain ⟨v_2, h_3, hc_1, hf⟩ := zb2_some hf
  have hct := ctX9_next (l := F.1) hL hc_1
  refine z_invVi svX9_418_7 hct (hL.t 0 rfl) ⟨Nat.le_trans (by decide) hD, by decide⟩ rfl rfl (Nat.le_of_ble_eq_true rfl) dX9_takeShift_1 ?_
  have hL := hL.ext mOk hct.1
  refine z_istore_n dX9_takeShift_4 rfl (by decide) (lc' := [(0, .ref a), (1, .int x1), (2, .int v_2)]) rfl ?_
  refine z_aload_n 0 dX9_takeShift_5 rfl rfl ?_
  obtain ⟨v_5, h_6, hc_4, hf⟩ := zb2_some hf
  have hct := ctX9_next (l := F.1) hL hc_4
  refine z_invVi svX9_418_7 hct (hL.t 0 rfl) ⟨Nat.le_trans (by decide) hD, by decide⟩ rfl rfl (Nat.le_of_ble_eq_true rfl) dX9_takeShift_6 ?_
  have hL := hL.ext mOk hct.1
  refine z_istore_n dX9_takeShift_9 rfl (by decide) (lc' := [(0, .ref a), (1, .int x1), (2, .int v_2), (3, .int v_5)]) rfl ?_
  refine z_aload_n 0 dX9_takeShift_10 rfl rfl ?_
  obtain ⟨v_8, h_9, hc_7, hf⟩ := zb2_some hf
  have hct := ctX9_next (l := F.1) hL hc_7
  refine z_invVi svX9_418_7 hct (hL.t 0 rfl) ⟨Nat.le_trans (by decide) hD, by decide⟩ rfl rfl (Nat.le_of_ble_eq_true rfl) dX9_takeShift_11 ?_
  have hL := hL.ext mOk hct.1
  refine z_istore dX9_takeShift_14 (by decide) (lc' := [(0, .ref a), (1, .int x1), (2, .int v_2), (3, .int v_5), (4, .int v_8)]) rfl ?_
  refine z_aload_n 0 dX9_takeShift_16 rfl rfl ?_
  obtain ⟨v_11, h_12, hc_10, hf⟩ := zb2_some hf
  have hct := ctX9_next (l := F.1) hL hc_10
  refine z_invVi svX9_418_7 hct (hL.t 0 rfl) ⟨Nat.le_trans (by decide) hD, by decide⟩ rfl rfl (Nat.le_of_ble_eq_true rfl) dX9_takeShift_17 ?_
  have hL := hL.ext mOk hct.1
  refine z_istore dX9_takeShift_20 (by decide) (lc' := [(0, .ref a), (1, .int x1), (2, .int v_2), (3, .int v_5), (4, .int v_8), (5, .int v_11)]) rfl ?_
  refine z_iload_n 2 dX9_takeShift_22 rfl rfl ?_
  refine z_iconst 0 dX9_takeShift_23 rfl ?_
  refine z_iconst 3 dX9_takeShift_24 rfl ?_
  obtain ⟨v_14, hc_13, hf⟩ := zb1_some hf
  refine z_invSi ssX9_156 (ctX9_in hc_13) ⟨Nat.le_trans (by decide) hD, by decide⟩ rfl rfl (Nat.le_of_ble_eq_true rfl) dX9_takeShift_25 ?_
  refine z_if_eq 71 dX9_takeShift_28 rfl hf (fun _ hf => ?_) (fun _ hf => ?_)
  · refine z_iconst 0 dX9_takeShift_71 rfl ?_
    cases hf
    exact z_zret dX9_takeShift_72 rfl (Or.inl rfl) hM
  · refine z_iload_n 3 dX9_takeShift_31 rfl rfl ?_
    refine z_if_lt 71 dX9_takeShift_32 rfl hf (fun _ hf => ?_) (fun _ hf => ?_)
    · refine z_iconst 0 dX9_takeShift_71 rfl ?_
      cases hf
      exact z_zret dX9_takeShift_72 rfl (Or.inl rfl) hM
    · refine z_iload 4 dX9_takeShift_35 rfl ?_
      refine z_iconst 0 dX9_takeShift_37 rfl ?_
      refine z_iconst 3 dX9_takeShift_38 rfl ?_
      obtain ⟨v_16, hc_15, hf⟩ := zb1_some hf
      refine z_invSi ssX9_156 (ctX9_in hc_15) ⟨Nat.le_trans (by decide) hD, by decide⟩ rfl rfl (Nat.le_of_ble_eq_true rfl) dX9_takeShift_39 ?_
      refine z_if_eq 71 dX9_takeShift_42 rfl hf (fun _ hf => ?_) (fun _ hf => ?_)
      · refine z_iconst 0 dX9_takeShift_71 rfl ?_
        cases hf
        exact z_zret dX9_takeShift_72 rfl (Or.inl rfl) hM
      · refine z_iload_n 2 dX9_takeShift_45 rfl rfl ?_
        refine z_iload 4 dX9_takeShift_46 rfl ?_
        refine z_icmp_eq 71 dX9_takeShift_48 rfl hf (fun _ hf => ?_) (fun _ hf => ?_)
        · refine z_iconst 0 dX9_takeShift_71 rfl ?_
          cases hf
          exact z_zret dX9_takeShift_72 rfl (Or.inl rfl) hM
        · refine z_iload 5 dX9_takeShift_51 rfl ?_
          refine z_iconst 0 dX9_takeShift_53 rfl ?_
          refine z_iconst 1 dX9_takeShift_54 rfl ?_
          obtain ⟨v_18, hc_17, hf⟩ := zb1_some hf
          refine z_invSi ssX9_156 (ctX9_in hc_17) ⟨Nat.le_trans (by decide) hD, by decide⟩ rfl rfl (Nat.le_of_ble_eq_true rfl) dX9_takeShift_55 ?_
          refine z_if_eq 71 dX9_takeShift_58 rfl hf (fun _ hf => ?_) (fun _ hf => ?_)
          · refine z_iconst 0 dX9_takeShift_71 rfl ?_
            cases hf
            exact z_zret dX9_takeShift_72 rfl (Or.inl rfl) hM
          · refine z_aload_n 0 dX9_takeShift_61 rfl rfl ?_
            refine z_iload_n 1 dX9_takeShift_62 rfl rfl ?_
            refine z_iload_n 2 dX9_takeShift_63 rfl rfl ?_
            refine z_iload_n 3 dX9_takeShift_64 rfl rfl ?_
            obtain ⟨v_20, hc_19, hf⟩ := zb1_some hf
            refine z_invVi svX9_194_7 (ctX9_shiftOf hL hc_19) (hL.t 0 rfl) ⟨Nat.le_trans (by decide) hD, by decide⟩ rfl rfl (Nat.le_of_ble_eq_true rfl) dX9_takeShift_65 ?_
            refine z_if_lt 73 dX9_takeShift_68 rfl hf (fun _ hf => ?_) (fun _ hf => ?_)
            · refine z_bipush 10 dX9_takeShift_73 rfl ?_
              refine z_iload_n 1 dX9_takeShift_75 rfl rfl ?_
              refine z_imul dX9_takeShift_76 ?_
              refine z_aload_n 0 dX9_takeShift_77 rfl rfl ?_
              refine z_getr fdX9_20_7 (Or.inr ⟨_, rfl⟩) (hL.t 0 rfl) (hL.p 3 rfl) dX9_takeShift_78 ?_
              refine z_iload_n 1 dX9_takeShift_81 rfl rfl ?_
              obtain ⟨hi_21, hf⟩ := zck_some hf
              refine z_iald (hL.t 4 rfl) hi_21 dX9_takeShift_82 ?_
              refine z_iadd dX9_takeShift_83 ?_
              refine z_istore dX9_takeShift_84 (by decide) (lc' := [(0, .ref a), (1, .int x1), (2, .int v_2), (3, .int v_5), (4, .int v_8), (5, .int v_11), (6, .int (((10 : Int32) * x1) + (zI h_12 (a + 4) x1.toNatClampNeg)))]) rfl ?_
              refine z_aload_n 0 dX9_takeShift_86 rfl rfl ?_
              refine z_getr fdX9_38_7 (Or.inr ⟨_, rfl⟩) (hL.t 0 rfl) (hL.p 9 rfl) dX9_takeShift_87 ?_
              refine z_iload 6 dX9_takeShift_90 rfl ?_
              refine z_iload_n 2 dX9_takeShift_92 rfl rfl ?_
              obtain ⟨hi_22, hf⟩ := zck_some hf
              obtain ⟨h_23, he, hf⟩ := zlet_some hf
              refine z_iast (hL.t 10 rfl) (hL.nz 10) hi_22 he dX9_takeShift_93 ?_
              have hL := hL.I he
              refine z_aload_n 0 dX9_takeShift_94 rfl rfl ?_
              refine z_getr fdX9_41_7 (Or.inr ⟨_, rfl⟩) (hL.t 0 rfl) (hL.p 10 rfl) dX9_takeShift_95 ?_
              refine z_iload 6 dX9_takeShift_98 rfl ?_
              refine z_iload_n 3 dX9_takeShift_100 rfl rfl ?_
              obtain ⟨hi_24, hf⟩ := zck_some hf
              obtain ⟨h_25, he, hf⟩ := zlet_some hf
              refine z_iast (hL.t 11 rfl) (hL.nz 11) hi_24 he dX9_takeShift_101 ?_
              have hL := hL.I he
              refine z_aload_n 0 dX9_takeShift_102 rfl rfl ?_
              refine z_getr fdX9_44_7 (Or.inr ⟨_, rfl⟩) (hL.t 0 rfl) (hL.p 11 rfl) dX9_takeShift_103 ?_
              refine z_iload 6 dX9_takeShift_106 rfl ?_
              refine z_iload 4 dX9_takeShift_108 rfl ?_
              obtain ⟨hi_26, hf⟩ := zck_some hf
              obtain ⟨h_27, he, hf⟩ := zlet_some hf
              refine z_iast (hL.t 12 rfl) (hL.nz 12) hi_26 he dX9_takeShift_110 ?_
              have hL := hL.I he
              refine z_aload_n 0 dX9_takeShift_111 rfl rfl ?_
              refine z_getr fdX9_47_7 (Or.inr ⟨_, rfl⟩) (hL.t 0 rfl) (hL.p 12 rfl) dX9_takeShift_112 ?_
              refine z_iload 6 dX9_takeShift_115 rfl ?_
              refine z_iload 5 dX9_takeShift_117 rfl ?_
              refine z_iconst 1 dX9_takeShift_119 rfl ?_
              refine z_icmp_ne 127 dX9_takeShift_120 rfl hf (fun _ hf => ?_) (fun _ hf => ?_)
              · refine z_iconst 0 dX9_takeShift_127 rfl ?_
                obtain ⟨hi_28, hf⟩ := zck_some hf
                obtain ⟨h_29, he, hf⟩ := zlet_some hf
                refine z_zast (Or.inl rfl) (hL.t 13 rfl) (hL.nz 13) hi_28 he dX9_takeShift_128 ?_
                have hL := hL.I he
                refine z_aload_n 0 dX9_takeShift_129 rfl rfl ?_
                refine z_getr fdX9_20_7 (Or.inr ⟨_, rfl⟩) (hL.t 0 rfl) (hL.p 3 rfl) dX9_takeShift_130 ?_
                refine z_iload_n 1 dX9_takeShift_133 rfl rfl ?_
                refine z_dup2 dX9_takeShift_134 rfl rfl ?_
                obtain ⟨hi_30, hf⟩ := zck_some hf
                refine z_iald (hL.t 4 rfl) hi_30 dX9_takeShift_135 ?_
                refine z_iconst 1 dX9_takeShift_136 rfl ?_
                refine z_iadd dX9_takeShift_137 ?_
                obtain ⟨hi_31, hf⟩ := zck_some hf
                obtain ⟨h_32, he, hf⟩ := zlet_some hf
                refine z_iast (hL.t 4 rfl) (hL.nz 4) hi_31 he dX9_takeShift_138 ?_
                have hL := hL.I he
                refine z_iconst 1 dX9_takeShift_139 rfl ?_
                cases hf
                exact z_zret dX9_takeShift_140 rfl (Or.inr rfl) hM
              · refine z_iconst 1 dX9_takeShift_123 rfl ?_
                refine z_goto 128 dX9_takeShift_124 rfl ?_
                obtain ⟨hi_33, hf⟩ := zck_some hf
                obtain ⟨h_34, he, hf⟩ := zlet_some hf
                refine z_zast (Or.inr rfl) (hL.t 13 rfl) (hL.nz 13) hi_33 he dX9_takeShift_128 ?_
                have hL := hL.I he
                refine z_aload_n 0 dX9_takeShift_129 rfl rfl ?_
                refine z_getr fdX9_20_7 (Or.inr ⟨_, rfl⟩) (hL.t 0 rfl) (hL.p 3 rfl) dX9_takeShift_130 ?_
                refine z_iload_n 1 dX9_takeShift_133 rfl rfl ?_
                refine z_dup2 dX9_takeShift_134 rfl rfl ?_
                obtain ⟨hi_35, hf⟩ := zck_some hf
                refine z_iald (hL.t 4 rfl) hi_35 dX9_takeShift_135 ?_
                refine z_iconst 1 dX9_takeShift_136 rfl ?_
                refine z_iadd dX9_takeShift_137 ?_
                obtain ⟨hi_36, hf⟩ := zck_some hf
                obtain ⟨h_37, he, hf⟩ := zlet_some hf
                refine z_iast (hL.t 4 rfl) (hL.nz 4) hi_36 he dX9_takeShift_138 ?_
                have hL := hL.I he
                refine z_iconst 1 dX9_takeShift_139 rfl ?_
                cases hf
                exact z_zret dX9_takeShift_140 rfl (Or.inr rfl) hM
            · refine z_iconst 0 dX9_takeShift_71 rfl ?_
              cases hf
              exact z_zret dX9_takeShift_72 rfl (Or.inl rfl) hM
theorem ctX9_takeShift {l : Launch} {h : zH} {a : Nat} {x1 : Int32} {v : Int32} {h' : zH} (hL : zBlk mB mP h a) (hf : fX9_takeShift h a x1 = some (v, h')) : zC l yX9_takeShift (ws_ yX9_takeShift cX9_takeShift 7 (some .boolean)) 2 [.ref a, .int x1] h (.inl (some (.int v)), h') :=
  z_start (by decide) (Nat.le_of_ble_eq_true rfl) (zX9_takeShift (F := (l, 2, h, (.inl (some (.int v)), h'))) (Nat.le_refl _) hL hf rfl)
theorem svX9_422_7 : zIv RX9 422 yX9_takeEntry (ws_ yX9_takeEntry cX9_takeEntry 8 (some .boolean)) 8 7 1 := ⟨zGood_c q1951 q109, ⟨_, _, rfl, rfl, qs94⟩, Or.inl q1948, q1950, ⟨by decide, by decide⟩, by decide +kernel⟩
noncomputable def fX9_takeIn_L48 (h : zH) (a : Nat) (x1 : Int32) (x2 : Int32) (x3 : Int32) : Option ((zH × Int32) ⊕ ((zH) ⊕ (Int32 × zH))) := if x2 ≤ x3 then (some (.inr (.inl h))) else (zb2 (fX9_takeEntry h a x1) (fun v_13 h_14 => if v_13 = 0 then (some (.inr (.inr ((0, h_14))))) else (some (.inl ((h_14, x3 + 1))))))
theorem zX9_takeIn_L48 {F : zF} {h : zH} {a : Nat} {x1 : Int32} {x2 : Int32} {x3 : Int32} {y : (zH × Int32) ⊕ ((zH) ⊕ (Int32 × zH))} (hD : 4 ≤ F.2.1) (hL : zBlk mB mP h a) (hf : fX9_takeIn_L48 h a x1 x2 x3 = some y) (hM : ((∀ s' : zH × Int32, y = .inl s' → (zBlk mB mP s'.1 a → Z F 5 cX9_takeIn RX9 "takeIn" (some .boolean) [] s'.1 48 [(0, .ref a), (1, .int x1), (2, .int x2), (3, .int s'.2)] [])) ∧ ∀ r : (zH) ⊕ (Int32 × zH), y = .inr r → (match r with | .inl t => (zBlk mB mP t a → Z F 5 cX9_takeIn RX9 "takeIn" (some .boolean) [] t 69 [(0, .ref a), (1, .int x1)] []) | .inr z => ((.inl (some (.int z.1)), z.2) : zX) = zEnd F))) : Z F 5 cX9_takeIn RX9 "takeIn" (some .boolean) [] h 48 [(0, .ref a), (1, .int x1), (2, .int x2), (3, .int x3)] [] := by
  unfold fX9_takeIn_L48 at hf
  refine z_iload_n 3 dX9_takeIn_48 rfl rfl ?_
  refine z_iload_n 2 dX9_takeIn_49 rfl rfl ?_
  refine z_icmp_ge 69 dX9_takeIn_50 rfl hf (fun _ hf => ?_) (fun _ hf => ?_)
  · cases hf
    refine z_sub [0, 1] rfl ?_
    exact (hM.2 _ rfl) hL
  · refine z_aload_n 0 dX9_takeIn_53 rfl rfl ?_
    refine z_iload_n 1 dX9_takeIn_54 rfl rfl ?_
    obtain ⟨v_13, h_14, hc_12, hf⟩ := zb2_some hf
    have hct := ctX9_takeEntry (l := F.1) hL hc_12
    refine z_invVi svX9_422_7 hct (hL.t 0 rfl) ⟨Nat.le_trans (by decide) hD, by decide⟩ rfl rfl (Nat.le_of_ble_eq_true rfl) dX9_takeIn_55 ?_
    have hL := hL.ext mOk hct.1
    refine z_if_ne 63 dX9_takeIn_58 rfl hf (fun _ hf => ?_) (fun _ hf => ?_)
    · refine z_iinc 3 (x3 + 1) dX9_takeIn_63 rfl rfl (by decide) (lc' := [(0, .ref a), (1, .int x1), (2, .int x2), (3, .int (x3 + 1))]) rfl ?_
      refine z_goto 48 dX9_takeIn_66 rfl ?_
      cases hf
      exact (hM.1 _ rfl) hL
    · refine z_iconst 0 dX9_takeIn_61 rfl ?_
      cases hf
      exact z_zret dX9_takeIn_62 rfl (Or.inl rfl) (hM.2 _ rfl)
theorem svX9_425_7 : zIv RX9 425 yX9_takeShift (ws_ yX9_takeShift cX9_takeShift 7 (some .boolean)) 7 7 1 := ⟨zGood_c q1955 q109, ⟨_, _, rfl, rfl, qs95⟩, Or.inl q1952, q1954, ⟨by decide, by decide⟩, by decide +kernel⟩
noncomputable def fX9_takeIn_L89 (h : zH) (a : Nat) (x1 : Int32) (x3 : Int32) (x4 : Int32) : Option ((zH × Int32) ⊕ ((zH) ⊕ (Int32 × zH))) := if x3 ≤ x4 then (some (.inr (.inl h))) else (zb2 (fX9_takeShift h a x1) (fun v_22 h_23 => if v_22 = 0 then (some (.inr (.inr ((0, h_23))))) else (some (.inl ((h_23, x4 + 1))))))
theorem zX9_takeIn_L89 {F : zF} {h : zH} {a : Nat} {x1 : Int32} {x3 : Int32} {x4 : Int32} {y : (zH × Int32) ⊕ ((zH) ⊕ (Int32 × zH))} (hD : 4 ≤ F.2.1) (hL : zBlk mB mP h a) (hf : fX9_takeIn_L89 h a x1 x3 x4 = some y) (hM : ((∀ s' : zH × Int32, y = .inl s' → (zBlk mB mP s'.1 a → Z F 5 cX9_takeIn RX9 "takeIn" (some .boolean) [] s'.1 89 [(0, .ref a), (1, .int x1), (3, .int x3), (4, .int s'.2)] [])) ∧ ∀ r : (zH) ⊕ (Int32 × zH), y = .inr r → (match r with | .inl t => (zBlk mB mP t a → Z F 5 cX9_takeIn RX9 "takeIn" (some .boolean) [] t 111 [(0, .ref a), (1, .int x1)] []) | .inr z => ((.inl (some (.int z.1)), z.2) : zX) = zEnd F))) : Z F 5 cX9_takeIn RX9 "takeIn" (some .boolean) [] h 89 [(0, .ref a), (1, .int x1), (3, .int x3), (4, .int x4)] [] := by
  unfold fX9_takeIn_L89 at hf
  refine z_iload 3 dX9_takeIn_89 rfl ?_
  refine z_iload_n 2 dX9_takeIn_91 rfl rfl ?_
  refine z_icmp_ge 111 dX9_takeIn_92 rfl hf (fun _ hf => ?_) (fun _ hf => ?_)
  · cases hf
    refine z_sub [0, 1] rfl ?_
    exact (hM.2 _ rfl) hL
  · refine z_aload_n 0 dX9_takeIn_95 rfl rfl ?_
    refine z_iload_n 1 dX9_takeIn_96 rfl rfl ?_
    obtain ⟨v_22, h_23, hc_21, hf⟩ := zb2_some hf
    have hct := ctX9_takeShift (l := F.1) hL hc_21
    refine z_invVi svX9_425_7 hct (hL.t 0 rfl) ⟨Nat.le_trans (by decide) hD, by decide⟩ rfl rfl (Nat.le_of_ble_eq_true rfl) dX9_takeIn_97 ?_
    have hL := hL.ext mOk hct.1
    refine z_if_ne 105 dX9_takeIn_100 rfl hf (fun _ hf => ?_) (fun _ hf => ?_)
    · refine z_iinc 3 (x4 + 1) dX9_takeIn_105 rfl rfl (by decide) (lc' := [(0, .ref a), (1, .int x1), (3, .int x3), (4, .int (x4 + 1))]) rfl ?_
      refine z_goto 89 dX9_takeIn_108 rfl ?_
      cases hf
      exact (hM.1 _ rfl) hL
    · refine z_iconst 0 dX9_takeIn_103 rfl ?_
      cases hf
      exact z_zret dX9_takeIn_104 rfl (Or.inl rfl) (hM.2 _ rfl)
noncomputable def fX9_takeIn (h : zH) (a : Nat) (x1 : Int32) : Option (Int32 × zH) := zlet (zsI h a 67 0) (fun h_1 => zlet (zsI h_1 a 68 ((zI h_1 a 14) - 2)) (fun h_2 => zck (vp_in x1 11) (zlet (zsI h_2 (a + 3) x1.toNatClampNeg 0) (fun h_4 => zck (vp_in x1 11) (zlet (zsI h_4 (a + 4) x1.toNatClampNeg 0) (fun h_6 => zb2 (fX9_next h_6 a) (fun v_8 h_9 => zb1 (fX9_in v_8 0 100) (fun v_11 => if v_11 = 0 then (some ((0, h_9))) else (zlx (zlp (fun s => fX9_takeIn_L48 s.1 a x1 v_8 s.2) (h_9, 0)) (fun t_15 => zb2 (fX9_next t_15 a) (fun v_17 h_18 => zb1 (fX9_in v_17 0 10) (fun v_20 => if v_20 = 0 then (some ((0, h_18))) else (zlx (zlp (fun s => fX9_takeIn_L89 s.1 a x1 v_17 s.2) (h_18, 0)) (fun t_24 => if (zI t_24 a 67) = (zI t_24 a 68) then (zb2 (fX9_isGood t_24 a x1) (fun v_26 h_27 => if v_26 = 0 then (some ((0, h_27))) else (some ((1, h_27))))) else (some ((0, t_24)))))))))))))))))
theorem zX9_takeIn {F : zF} {h : zH} {a : Nat} {x1 : Int32} {y : Int32 × zH} (hD : 4 ≤ F.2.1) (hL : zBlk mB mP h a) (hf : fX9_takeIn h a x1 = some y) (hM : ((.inl (some (.int y.1)), y.2) : zX) = zEnd F) : Z F 5 cX9_takeIn RX9 "takeIn" (some .boolean) [] h 0 [(0, .ref a), (1, .int x1)] [] := by
  unfold fX9_takeIn at hf
  refine z_aload_n 0 dX9_takeIn_0 rfl rfl ?_
  refine z_iconst 0 dX9_takeIn_1 rfl ?_
  obtain ⟨h_1, he, hf⟩ := zlet_some hf
  refine z_puti fdX9_412_7 (hL.t 0 rfl) (hL.nz 0) he dX9_takeIn_2 ?_
  have hL := hL.I he
  refine z_aload_n 0 dX9_takeIn_5 rfl rfl ?_
  refine z_aload_n 0 dX9_takeIn_6 rfl rfl ?_
  refine z_geti fdX9_255_7 (hL.t 0 rfl) dX9_takeIn_7 ?_
  refine z_iconst 2 dX9_takeIn_10 rfl ?_
  refine z_isub dX9_takeIn_11 ?_
  obtain ⟨h_2, he, hf⟩ := zlet_some hf
  refine z_puti fdX9_415_7 (hL.t 0 rfl) (hL.nz 0) he dX9_takeIn_12 ?_
  have hL := hL.I he
  refine z_aload_n 0 dX9_takeIn_15 rfl rfl ?_
  refine z_getr fdX9_17_7 (Or.inr ⟨_, rfl⟩) (hL.t 0 rfl) (hL.p 2 rfl) dX9_takeIn_16 ?_
  refine z_iload_n 1 dX9_takeIn_19 rfl rfl ?_
  refine z_iconst 0 dX9_takeIn_20 rfl ?_
  obtain ⟨hi_3, hf⟩ := zck_some hf
  obtain ⟨h_4, he, hf⟩ := zlet_some hf
  refine z_iast (hL.t 3 rfl) (hL.nz 3) hi_3 he dX9_takeIn_21 ?_
  have hL := hL.I he
  refine z_aload_n 0 dX9_takeIn_22 rfl rfl ?_
  refine z_getr fdX9_20_7 (Or.inr ⟨_, rfl⟩) (hL.t 0 rfl) (hL.p 3 rfl) dX9_takeIn_23 ?_
  refine z_iload_n 1 dX9_takeIn_26 rfl rfl ?_
  refine z_iconst 0 dX9_takeIn_27 rfl ?_
  obtain ⟨hi_5, hf⟩ := zck_some hf
  obtain ⟨h_6, he, hf⟩ := zlet_some hf
  refine z_iast (hL.t 4 rfl) (hL.nz 4) hi_5 he dX9_takeIn_28 ?_
  have hL := hL.I he
  refine z_aload_n 0 dX9_takeIn_29 rfl rfl ?_
  obtain ⟨v_8, h_9, hc_7, hf⟩ := zb2_some hf
  have hct := ctX9_next (l := F.1) hL hc_7
  refine z_invVi svX9_418_7 hct (hL.t 0 rfl) ⟨Nat.le_trans (by decide) hD, by decide⟩ rfl rfl (Nat.le_of_ble_eq_true rfl) dX9_takeIn_30 ?_
  have hL := hL.ext mOk hct.1
  refine z_istore_n dX9_takeIn_33 rfl (by decide) (lc' := [(0, .ref a), (1, .int x1), (2, .int v_8)]) rfl ?_
  refine z_iload_n 2 dX9_takeIn_34 rfl rfl ?_
  refine z_iconst 0 dX9_takeIn_35 rfl ?_
  refine z_bipush 100 dX9_takeIn_36 rfl ?_
  obtain ⟨v_11, hc_10, hf⟩ := zb1_some hf
  refine z_invSi ssX9_156 (ctX9_in hc_10) ⟨Nat.le_trans (by decide) hD, by decide⟩ rfl rfl (Nat.le_of_ble_eq_true rfl) dX9_takeIn_38 ?_
  refine z_if_ne 46 dX9_takeIn_41 rfl hf (fun _ hf => ?_) (fun _ hf => ?_)
  · refine z_iconst 0 dX9_takeIn_46 rfl ?_
    refine z_istore_n dX9_takeIn_47 rfl (by decide) (lc' := [(0, .ref a), (1, .int x1), (2, .int v_8), (3, .int 0)]) rfl ?_
    obtain ⟨rr, hl, hf⟩ := zlx_some hf
    refine z_loop (fun (s : zH × Int32) => (zBlk mB mP s.1 a → Z F 5 cX9_takeIn RX9 "takeIn" (some .boolean) [] s.1 48 [(0, .ref a), (1, .int x1), (2, .int v_8), (3, .int s.2)] [])) (fun (r : (zH) ⊕ (Int32 × zH)) => (match r with | .inl t => (zBlk mB mP t a → Z F 5 cX9_takeIn RX9 "takeIn" (some .boolean) [] t 69 [(0, .ref a), (1, .int x1)] []) | .inr z => ((.inl (some (.int z.1)), z.2) : zX) = zEnd F)) (fun s y hb hs hr hL => zX9_takeIn_L48 hD hL hb ⟨hs, hr⟩) hl ?_ hL
    rcases hf with ⟨t_15, rfl, hf⟩ | rfl
    · intro hL
      show Z F 5 cX9_takeIn RX9 "takeIn" (some .boolean) [] t_15 69 [(0, .ref a), (1, .int x1)] []
      refine z_aload_n 0 dX9_takeIn_69 rfl rfl ?_
      obtain ⟨v_17, h_18, hc_16, hf⟩ := zb2_some hf
      have hct := ctX9_next (l := F.1) hL hc_16
      refine z_invVi svX9_418_7 hct (hL.t 0 rfl) ⟨Nat.le_trans (by decide) hD, by decide⟩ rfl rfl (Nat.le_of_ble_eq_true rfl) dX9_takeIn_70 ?_
      have hL := hL.ext mOk hct.1
      refine z_istore_n dX9_takeIn_73 rfl (by decide) (lc' := [(0, .ref a), (1, .int x1), (3, .int v_17)]) rfl ?_
      refine z_iload_n 2 dX9_takeIn_74 rfl rfl ?_
      refine z_iconst 0 dX9_takeIn_75 rfl ?_
      refine z_bipush 10 dX9_takeIn_76 rfl ?_
      obtain ⟨v_20, hc_19, hf⟩ := zb1_some hf
      refine z_invSi ssX9_156 (ctX9_in hc_19) ⟨Nat.le_trans (by decide) hD, by decide⟩ rfl rfl (Nat.le_of_ble_eq_true rfl) dX9_takeIn_78 ?_
      refine z_if_ne 86 dX9_takeIn_81 rfl hf (fun _ hf => ?_) (fun _ hf => ?_)
      · refine z_iconst 0 dX9_takeIn_86 rfl ?_
        refine z_istore dX9_takeIn_87 (by decide) (lc' := [(0, .ref a), (1, .int x1), (3, .int v_17), (4, .int 0)]) rfl ?_
        obtain ⟨rr, hl, hf⟩ := zlx_some hf
        refine z_loop (fun (s : zH × Int32) => (zBlk mB mP s.1 a → Z F 5 cX9_takeIn RX9 "takeIn" (some .boolean) [] s.1 89 [(0, .ref a), (1, .int x1), (3, .int v_17), (4, .int s.2)] [])) (fun (r : (zH) ⊕ (Int32 × zH)) => (match r with | .inl t => (zBlk mB mP t a → Z F 5 cX9_takeIn RX9 "takeIn" (some .boolean) [] t 111 [(0, .ref a), (1, .int x1)] []) | .inr z => ((.inl (some (.int z.1)), z.2) : zX) = zEnd F)) (fun s y hb hs hr hL => zX9_takeIn_L89 hD hL hb ⟨hs, hr⟩) hl ?_ hL
        rcases hf with ⟨t_24, rfl, hf⟩ | rfl
        · intro hL
          show Z F 5 cX9_takeIn RX9 "takeIn" (some .boolean) [] t_24 111 [(0, .ref a), (1, .int x1)] []
          refine z_aload_n 0 dX9_takeIn_111 rfl rfl ?_
          refine z_geti fdX9_412_7 (hL.t 0 rfl) dX9_takeIn_112 ?_
          refine z_aload_n 0 dX9_takeIn_115 rfl rfl ?_
          refine z_geti fdX9_415_7 (hL.t 0 rfl) dX9_takeIn_116 ?_
          refine z_icmp_ne 134 dX9_takeIn_119 rfl hf (fun _ hf => ?_) (fun _ hf => ?_)
          · refine z_iconst 0 dX9_takeIn_134 rfl ?_
            cases hf
            exact z_zret dX9_takeIn_135 rfl (Or.inl rfl) hM
          · refine z_aload_n 0 dX9_takeIn_122 rfl rfl ?_
            refine z_iload_n 1 dX9_takeIn_123 rfl rfl ?_
            obtain ⟨v_26, h_27, hc_25, hf⟩ := zb2_some hf
            have hct := ctX9_isGood (l := F.1) hL hc_25
            refine z_invVi svX9_225_7 hct (hL.t 0 rfl) ⟨Nat.le_trans (by decide) hD, by decide⟩ rfl rfl (Nat.le_of_ble_eq_true rfl) dX9_takeIn_124 ?_
            have hL := hL.ext mOk hct.1
            refine z_if_eq 134 dX9_takeIn_127 rfl hf (fun _ hf => ?_) (fun _ hf => ?_)
            · refine z_iconst 0 dX9_takeIn_134 rfl ?_
              cases hf
              exact z_zret dX9_takeIn_135 rfl (Or.inl rfl) hM
            · refine z_iconst 1 dX9_takeIn_130 rfl ?_
              refine z_goto 135 dX9_takeIn_131 rfl ?_
              cases hf
              exact z_zret dX9_takeIn_135 rfl (Or.inr rfl) hM
        · exact hM
      · refine z_iconst 0 dX9_takeIn_84 rfl ?_
        cases hf
        exact z_zret dX9_takeIn_85 rfl (Or.inl rfl) hM
    · exact hM
  · refine z_iconst 0 dX9_takeIn_44 rfl ?_
    cases hf
    exact z_zret dX9_takeIn_45 rfl (Or.inl rfl) hM
theorem ctX9_takeIn {l : Launch} {h : zH} {a : Nat} {x1 : Int32} {v : Int32} {h' : zH} (hL : zBlk mB mP h a) (hf : fX9_takeIn h a x1 = some (v, h')) : zC l yX9_takeIn (ws_ yX9_takeIn cX9_takeIn 5 (some .boolean)) 4 [.ref a, .int x1] h (.inl (some (.int v)), h') :=
  z_start (by decide) (Nat.le_of_ble_eq_true rfl) (zX9_takeIn (F := (l, 4, h, (.inl (some (.int v)), h'))) (Nat.le_refl _) hL hf rfl)
theorem svX9_428_7 : zIv RX9 428 yX9_takeIn (ws_ yX9_takeIn cX9_takeIn 5 (some .boolean)) 5 7 1 := ⟨zGood_c q1943 q109, ⟨_, _, rfl, rfl, qs92⟩, Or.inl q1940, q1942, ⟨by decide, by decide⟩, by decide +kernel⟩
noncomputable def fX9_receive (h : zH) (a : Nat) : Option (Int32 × zH) := if (zI h a 0) = 10 then (zb2 (fX9_tell h a ((-6))) (fun v_23 h_24 => some ((v_23, h_24)))) else (if (zI h a 14) < 4 then (zb2 (fX9_tell h a ((-13))) (fun v_2 h_3 => some ((v_2, h_3)))) else (zb1 (fX9_sumOf h a (a + 14) ((zI h a 14) - 2)) (fun v_5 => zck (vp_in ((zI h a 14) - 2) 1000) (zck (vp_in ((zI h a 14) - 1) 1000) (if v_5 = (((zI h (a + 14) ((zI h a 14) - 2).toNatClampNeg) <<< (8 &&& 31)) ||| (zI h (a + 14) ((zI h a 14) - 1).toNatClampNeg)) then (zb2 (fX9_takeIn h a (zI h a 0)) (fun v_9 h_10 => if v_9 = 0 then (zb2 (fX9_tell h_10 a ((-8))) (fun v_17 h_18 => some ((v_17, h_18)))) else (zck (vp_in (zI h_10 a 0) 11) (zlet (zsI h_10 (a + 1) (zI h_10 a 0).toNatClampNeg 0) (fun h_12 => zck (vp_in (zI h_12 a 0) 11) (zlet (zsI h_12 (a + 2) (zI h_12 a 0).toNatClampNeg 1) (fun h_14 => zlet (zsI h_14 a 0 ((zI h_14 a 0) + 1)) (fun h_15 => some (((zI h_15 a 0) - 1, h_15)))))))))) else (zb2 (fX9_tell h a ((-13))) (fun v_20 h_21 => some ((v_20, h_21)))))))))
theorem zX9_receive {F : zF} {h : zH} {a : Nat} {y : Int32 × zH} (hD : 5 ≤ F.2.1) (hL : zBlk mB mP h a) (hf : fX9_receive h a = some y) (hM : ((.inl (some (.int y.1)), y.2) : zX) = zEnd F) : Z F 1 cX9_receive RX9 "receive" (some .int) [] h 0 [(0, .ref a)] [] := by
  unfold fX9_receive at hf
  refine z_aload_n 0 dX9_receive_0 rfl rfl ?_
  refine z_geti fdX9_163_7 (hL.t 0 rfl) dX9_receive_1 ?_
  refine z_bipush 10 dX9_receive_4 rfl ?_
  refine z_icmp_ne 16 dX9_receive_6 rfl hf (fun _ hf => ?_) (fun _ hf => ?_)
  · refine z_aload_n 0 dX9_receive_16 rfl rfl ?_
    refine z_geti fdX9_255_7 (hL.t 0 rfl) dX9_receive_17 ?_
    refine z_iconst 4 dX9_receive_20 rfl ?_
    refine z_icmp_lt 67 dX9_receive_21 rfl hf (fun _ hf => ?_) (fun _ hf => ?_)
    · refine z_aload_n 0 dX9_receive_67 rfl rfl ?_
      refine z_bipush (-13) dX9_receive_68 rfl ?_
      obtain ⟨v_2, h_3, hc_1, hf⟩ := zb2_some hf
      have hct := ctX9_tell (l := F.1) hL hc_1
      refine z_invVi svX9_166_7 hct (hL.t 0 rfl) ⟨Nat.le_trans (by decide) hD, by decide⟩ rfl rfl (Nat.le_of_ble_eq_true rfl) dX9_receive_70 ?_
      have hL := hL.ext mOk hct.1
      cases hf
      exact z_iret dX9_receive_73 rfl hM
    · refine z_aload_n 0 dX9_receive_24 rfl rfl ?_
      refine z_aload_n 0 dX9_receive_25 rfl rfl ?_
      refine z_getr fdX9_50_7 (Or.inr ⟨_, rfl⟩) (hL.t 0 rfl) (hL.p 13 rfl) dX9_receive_26 ?_
      refine z_aload_n 0 dX9_receive_29 rfl rfl ?_
      refine z_geti fdX9_255_7 (hL.t 0 rfl) dX9_receive_30 ?_
      refine z_iconst 2 dX9_receive_33 rfl ?_
      refine z_isub dX9_receive_34 ?_
      obtain ⟨v_5, hc_4, hf⟩ := zb1_some hf
      refine z_invVi svX9_408_7 (ctX9_sumOf hL hc_4) (hL.t 0 rfl) ⟨Nat.le_trans (by decide) hD, by decide⟩ rfl rfl (Nat.le_of_ble_eq_true rfl) dX9_receive_35 ?_
      refine z_aload_n 0 dX9_receive_38 rfl rfl ?_
      refine z_getr fdX9_50_7 (Or.inr ⟨_, rfl⟩) (hL.t 0 rfl) (hL.p 13 rfl) dX9_receive_39 ?_
      refine z_aload_n 0 dX9_receive_42 rfl rfl ?_
      refine z_geti fdX9_255_7 (hL.t 0 rfl) dX9_receive_43 ?_
      refine z_iconst 2 dX9_receive_46 rfl ?_
      refine z_isub dX9_receive_47 ?_
      obtain ⟨hi_6, hf⟩ := zck_some hf
      refine z_iald (hL.t 14 rfl) hi_6 dX9_receive_48 ?_
      refine z_bipush 8 dX9_receive_49 rfl ?_
      refine z_ishl dX9_receive_51 ?_
      refine z_aload_n 0 dX9_receive_52 rfl rfl ?_
      refine z_getr fdX9_50_7 (Or.inr ⟨_, rfl⟩) (hL.t 0 rfl) (hL.p 13 rfl) dX9_receive_53 ?_
      refine z_aload_n 0 dX9_receive_56 rfl rfl ?_
      refine z_geti fdX9_255_7 (hL.t 0 rfl) dX9_receive_57 ?_
      refine z_iconst 1 dX9_receive_60 rfl ?_
      refine z_isub dX9_receive_61 ?_
      obtain ⟨hi_7, hf⟩ := zck_some hf
      refine z_iald (hL.t 14 rfl) hi_7 dX9_receive_62 ?_
      refine z_ior dX9_receive_63 ?_
      refine z_icmp_eq 74 dX9_receive_64 rfl hf (fun _ hf => ?_) (fun _ hf => ?_)
      · refine z_aload_n 0 dX9_receive_74 rfl rfl ?_
        refine z_aload_n 0 dX9_receive_75 rfl rfl ?_
        refine z_geti fdX9_163_7 (hL.t 0 rfl) dX9_receive_76 ?_
        obtain ⟨v_9, h_10, hc_8, hf⟩ := zb2_some hf
        have hct := ctX9_takeIn (l := F.1) hL hc_8
        refine z_invVi svX9_428_7 hct (hL.t 0 rfl) ⟨Nat.le_trans (by decide) hD, by decide⟩ rfl rfl (Nat.le_of_ble_eq_true rfl) dX9_receive_79 ?_
        have hL := hL.ext mOk hct.1
        refine z_if_ne 92 dX9_receive_82 rfl hf (fun _ hf => ?_) (fun _ hf => ?_)
        · refine z_aload_n 0 dX9_receive_92 rfl rfl ?_
          refine z_getr fdX9_9_7 (Or.inr ⟨_, rfl⟩) (hL.t 0 rfl) (hL.p 0 rfl) dX9_receive_93 ?_
          refine z_aload_n 0 dX9_receive_96 rfl rfl ?_
          refine z_geti fdX9_163_7 (hL.t 0 rfl) dX9_receive_97 ?_
          refine z_iconst 0 dX9_receive_100 rfl ?_
          obtain ⟨hi_11, hf⟩ := zck_some hf
          obtain ⟨h_12, he, hf⟩ := zlet_some hf
          refine z_iast (hL.t 1 rfl) (hL.nz 1) hi_11 he dX9_receive_101 ?_
          have hL := hL.I he
          refine z_aload_n 0 dX9_receive_102 rfl rfl ?_
          refine z_getr fdX9_13_7 (Or.inr ⟨_, rfl⟩) (hL.t 0 rfl) (hL.p 1 rfl) dX9_receive_103 ?_
          refine z_aload_n 0 dX9_receive_106 rfl rfl ?_
          refine z_geti fdX9_163_7 (hL.t 0 rfl) dX9_receive_107 ?_
          refine z_iconst 1 dX9_receive_110 rfl ?_
          obtain ⟨hi_13, hf⟩ := zck_some hf
          obtain ⟨h_14, he, hf⟩ := zlet_some hf
          refine z_zast (Or.inr rfl) (hL.t 2 rfl) (hL.nz 2) hi_13 he dX9_receive_111 ?_
          have hL := hL.I he
          refine z_aload_n 0 dX9_receive_112 rfl rfl ?_
          refine z_dup dX9_receive_113 rfl ?_
          refine z_geti fdX9_163_7 (hL.t 0 rfl) dX9_receive_114 ?_
          refine z_iconst 1 dX9_receive_117 rfl ?_
          refine z_iadd dX9_receive_118 ?_
          obtain ⟨h_15, he, hf⟩ := zlet_some hf
          refine z_puti fdX9_163_7 (hL.t 0 rfl) (hL.nz 0) he dX9_receive_119 ?_
          have hL := hL.I he
          refine z_aload_n 0 dX9_receive_122 rfl rfl ?_
          refine z_geti fdX9_163_7 (hL.t 0 rfl) dX9_receive_123 ?_
          refine z_iconst 1 dX9_receive_126 rfl ?_
          refine z_isub dX9_receive_127 ?_
          cases hf
          exact z_iret dX9_receive_128 rfl hM
        · refine z_aload_n 0 dX9_receive_85 rfl rfl ?_
          refine z_bipush (-8) dX9_receive_86 rfl ?_
          obtain ⟨v_17, h_18, hc_16, hf⟩ := zb2_some hf
          have hct := ctX9_tell (l := F.1) hL hc_16
          refine z_invVi svX9_166_7 hct (hL.t 0 rfl) ⟨Nat.le_trans (by decide) hD, by decide⟩ rfl rfl (Nat.le_of_ble_eq_true rfl) dX9_receive_88 ?_
          have hL := hL.ext mOk hct.1
          cases hf
          exact z_iret dX9_receive_91 rfl hM
      · refine z_aload_n 0 dX9_receive_67 rfl rfl ?_
        refine z_bipush (-13) dX9_receive_68 rfl ?_
        obtain ⟨v_20, h_21, hc_19, hf⟩ := zb2_some hf
        have hct := ctX9_tell (l := F.1) hL hc_19
        refine z_invVi svX9_166_7 hct (hL.t 0 rfl) ⟨Nat.le_trans (by decide) hD, by decide⟩ rfl rfl (Nat.le_of_ble_eq_true rfl) dX9_receive_70 ?_
        have hL := hL.ext mOk hct.1
        cases hf
        exact z_iret dX9_receive_73 rfl hM
  · refine z_aload_n 0 dX9_receive_9 rfl rfl ?_
    refine z_bipush (-6) dX9_receive_10 rfl ?_
    obtain ⟨v_23, h_24, hc_22, hf⟩ := zb2_some hf
    have hct := ctX9_tell (l := F.1) hL hc_22
    refine z_invVi svX9_166_7 hct (hL.t 0 rfl) ⟨Nat.le_trans (by decide) hD, by decide⟩ rfl rfl (Nat.le_of_ble_eq_true rfl) dX9_receive_12 ?_
    have hL := hL.ext mOk hct.1
    cases hf
    exact z_iret dX9_receive_15 rfl hM
theorem ctX9_receive {l : Launch} {h : zH} {a : Nat} {v : Int32} {h' : zH} (hL : zBlk mB mP h a) (hf : fX9_receive h a = some (v, h')) : zC l yX9_receive (ws_ yX9_receive cX9_receive 1 (some .int)) 5 [.ref a] h (.inl (some (.int v)), h') :=
  z_start (by decide) (Nat.le_of_ble_eq_true rfl) (zX9_receive (F := (l, 5, h, (.inl (some (.int v)), h'))) (Nat.le_refl _) hL hf rfl)
noncomputable def fX9_told (h : zH) (a : Nat) (x1 : Int32) : Option (Int32 × zH) := if x1 = 0 then (some ((zI h a 22, h))) else (if x1 = 1 then (zck (vp_in (x1 - 1) 3) (some ((zI h (a + 18) (x1 - 1).toNatClampNeg, h)))) else (if x1 = 2 then (zck (vp_in (x1 - 1) 3) (some ((zI h (a + 18) (x1 - 1).toNatClampNeg, h)))) else (if x1 = 3 then (zck (vp_in (x1 - 1) 3) (some ((zI h (a + 18) (x1 - 1).toNatClampNeg, h)))) else (if x1 = 4 then (some ((zI h a 0, h))) else (if x1 = 5 then (some ((zI h a 14, h))) else (if x1 = 6 then (some ((zI h a 16, h))) else (if x1 = 7 then (some ((zI h a 18, h))) else (if x1 = 8 then (some ((zI h a 19, h))) else (if x1 = 9 then (some ((zI h a 25, h))) else (if x1 = 10 then (some ((zI h a 24, h))) else (zb2 (fX9_tell h a ((-1))) (fun v_2 h_3 => some ((v_2, h_3))))))))))))))
theorem zX9_told {F : zF} {h : zH} {a : Nat} {x1 : Int32} {y : Int32 × zH} (hD : 2 ≤ F.2.1) (hL : zBlk mB mP h a) (hf : fX9_told h a x1 = some y) (hM : ((.inl (some (.int y.1)), y.2) : zX) = zEnd F) : Z F 2 cX9_told RX9 "told" (some .int) [] h 0 [(0, .ref a), (1, .int x1)] [] := by
  unfold fX9_told at hf
  refine z_iload_n 1 dX9_told_0 rfl rfl ?_
  refine z_swI hf (fun hx hf => ?_) (fun hx0 hf => ?_)
  · refine z_swT 60 dX9_told_1 hx rfl (by decide) (by decide) rfl ?_
    refine z_aload_n 0 dX9_told_60 rfl rfl ?_
    refine z_geti fdX9_321_7 (hL.t 0 rfl) dX9_told_61 ?_
    cases hf
    exact z_iret dX9_told_64 rfl hM
  · refine z_swI hf (fun hx hf => ?_) (fun hx1 hf => ?_)
    · refine z_swT 65 dX9_told_1 hx rfl (by decide) (by decide) rfl ?_
      refine z_aload_n 0 dX9_told_65 rfl rfl ?_
      refine z_getr fdX9_63_7 (Or.inr ⟨_, rfl⟩) (hL.t 0 rfl) (hL.p 17 rfl) dX9_told_66 ?_
      refine z_iload_n 1 dX9_told_69 rfl rfl ?_
      refine z_iconst 1 dX9_told_70 rfl ?_
      refine z_isub dX9_told_71 ?_
      obtain ⟨hi_6, hf⟩ := zck_some hf
      refine z_iald (hL.t 18 rfl) hi_6 dX9_told_72 ?_
      cases hf
      exact z_iret dX9_told_73 rfl hM
    · refine z_swI hf (fun hx hf => ?_) (fun hx2 hf => ?_)
      · refine z_swT 65 dX9_told_1 hx rfl (by decide) (by decide) rfl ?_
        refine z_aload_n 0 dX9_told_65 rfl rfl ?_
        refine z_getr fdX9_63_7 (Or.inr ⟨_, rfl⟩) (hL.t 0 rfl) (hL.p 17 rfl) dX9_told_66 ?_
        refine z_iload_n 1 dX9_told_69 rfl rfl ?_
        refine z_iconst 1 dX9_told_70 rfl ?_
        refine z_isub dX9_told_71 ?_
        obtain ⟨hi_5, hf⟩ := zck_some hf
        refine z_iald (hL.t 18 rfl) hi_5 dX9_told_72 ?_
        cases hf
        exact z_iret dX9_told_73 rfl hM
      · refine z_swI hf (fun hx hf => ?_) (fun hx3 hf => ?_)
        · refine z_swT 65 dX9_told_1 hx rfl (by decide) (by decide) rfl ?_
          refine z_aload_n 0 dX9_told_65 rfl rfl ?_
          refine z_getr fdX9_63_7 (Or.inr ⟨_, rfl⟩) (hL.t 0 rfl) (hL.p 17 rfl) dX9_told_66 ?_
          refine z_iload_n 1 dX9_told_69 rfl rfl ?_
          refine z_iconst 1 dX9_told_70 rfl ?_
          refine z_isub dX9_told_71 ?_
          obtain ⟨hi_4, hf⟩ := zck_some hf
          refine z_iald (hL.t 18 rfl) hi_4 dX9_told_72 ?_
          cases hf
          exact z_iret dX9_told_73 rfl hM
        · refine z_swI hf (fun hx hf => ?_) (fun hx4 hf => ?_)
          · refine z_swT 74 dX9_told_1 hx rfl (by decide) (by decide) rfl ?_
            refine z_aload_n 0 dX9_told_74 rfl rfl ?_
            refine z_geti fdX9_163_7 (hL.t 0 rfl) dX9_told_75 ?_
            cases hf
            exact z_iret dX9_told_78 rfl hM
          · refine z_swI hf (fun hx hf => ?_) (fun hx5 hf => ?_)
            · refine z_swT 79 dX9_told_1 hx rfl (by decide) (by decide) rfl ?_
              refine z_aload_n 0 dX9_told_79 rfl rfl ?_
              refine z_geti fdX9_255_7 (hL.t 0 rfl) dX9_told_80 ?_
              cases hf
              exact z_iret dX9_told_83 rfl hM
            · refine z_swI hf (fun hx hf => ?_) (fun hx6 hf => ?_)
              · refine z_swT 84 dX9_told_1 hx rfl (by decide) (by decide) rfl ?_
                refine z_aload_n 0 dX9_told_84 rfl rfl ?_
                refine z_geti fdX9_258_7 (hL.t 0 rfl) dX9_told_85 ?_
                cases hf
                exact z_iret dX9_told_88 rfl hM
              · refine z_swI hf (fun hx hf => ?_) (fun hx7 hf => ?_)
                · refine z_swT 89 dX9_told_1 hx rfl (by decide) (by decide) rfl ?_
                  refine z_aload_n 0 dX9_told_89 rfl rfl ?_
                  refine z_geti fdX9_266_7 (hL.t 0 rfl) dX9_told_90 ?_
                  cases hf
                  exact z_iret dX9_told_93 rfl hM
                · refine z_swI hf (fun hx hf => ?_) (fun hx8 hf => ?_)
                  · refine z_swT 94 dX9_told_1 hx rfl (by decide) (by decide) rfl ?_
                    refine z_aload_n 0 dX9_told_94 rfl rfl ?_
                    refine z_geti fdX9_263_7 (hL.t 0 rfl) dX9_told_95 ?_
                    cases hf
                    exact z_iret dX9_told_98 rfl hM
                  · refine z_swI hf (fun hx hf => ?_) (fun hx9 hf => ?_)
                    · refine z_swT 99 dX9_told_1 hx rfl (by decide) (by decide) rfl ?_
                      refine z_aload_n 0 dX9_told_99 rfl rfl ?_
                      refine z_geti fdX9_345_7 (hL.t 0 rfl) dX9_told_100 ?_
                      cases hf
                      exact z_iret dX9_told_103 rfl hM
                    · refine z_swI hf (fun hx hf => ?_) (fun hx10 hf => ?_)
                      · refine z_swT 104 dX9_told_1 hx rfl (by decide) (by decide) rfl ?_
                        refine z_aload_n 0 dX9_told_104 rfl rfl ?_
                        refine z_geti fdX9_150_7 (hL.t 0 rfl) dX9_told_105 ?_
                        cases hf
                        exact z_iret dX9_told_108 rfl hM
                      · refine z_swO 109 dX9_told_1 rfl (z_out_0_10 hx0 hx1 hx2 hx3 hx4 hx5 hx6 hx7 hx8 hx9 hx10) ?_
                        refine z_aload_n 0 dX9_told_109 rfl rfl ?_
                        refine z_iconst (-1) dX9_told_110 rfl ?_
                        obtain ⟨v_2, h_3, hc_1, hf⟩ := zb2_some hf
                        have hct := ctX9_tell (l := F.1) hL hc_1
                        refine z_invVi svX9_166_7 hct (hL.t 0 rfl) ⟨Nat.le_trans (by decide) hD, by decide⟩ rfl rfl (Nat.le_of_ble_eq_true rfl) dX9_told_111 ?_
                        have hL := hL.ext mOk hct.1
                        cases hf
                        exact z_iret dX9_told_114 rfl hM
theorem ctX9_told {l : Launch} {h : zH} {a : Nat} {x1 : Int32} {v : Int32} {h' : zH} (hL : zBlk mB mP h a) (hf : fX9_told h a x1 = some (v, h')) : zC l yX9_told (ws_ yX9_told cX9_told 2 (some .int)) 2 [.ref a, .int x1] h (.inl (some (.int v)), h') :=
  z_start (by decide) (Nat.le_of_ble_eq_true rfl) (zX9_told (F := (l, 2, h, (.inl (some (.int v)), h'))) (Nat.le_refl _) hL hf rfl)
