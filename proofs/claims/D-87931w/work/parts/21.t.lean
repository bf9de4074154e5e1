/-! Math, Table: each method as a function over the heap (written by genT.py) -/
set_option maxRecDepth 100000
def tB : List (Nat × Nat) := [(3, 0), (100, 100), (100, 100), (100, 100), (100, 100), (101, 100), (100, 10), (100, 10), (100, 10), (101, 10), (106, 4), (100, 110), (100, 110), (100, 110), (100, 110), (100, 4), (100, 100), (100, 16), (102, 16), (100, 16), (102, 16), (100, 16)]
def tP : List (Nat × Nat × Nat) := [(0, 5, 1), (0, 6, 2), (0, 7, 3), (0, 8, 4), (0, 9, 5), (0, 11, 6), (0, 12, 7), (0, 13, 8), (0, 14, 9), (10, 0, 11), (10, 1, 12), (10, 2, 13), (10, 3, 14), (0, 15, 10), (0, 16, 15), (0, 17, 16), (0, 19, 17), (0, 20, 18), (0, 21, 19), (0, 22, 20), (0, 23, 21)]
theorem tOk : zBok tB tP = true := by decide +kernel
theorem fdX3_9_2 : zFd RX3 9 2 5 (.array .int) true := ⟨_, _, _, rfl, rfl, by decide, rfl, rfl, Or.inl q229, Or.inl rfl⟩
theorem fdX3_15_2 : zFd RX3 15 2 6 (.array .int) true := ⟨_, _, _, rfl, rfl, by decide, rfl, rfl, Or.inl q231, Or.inl rfl⟩
theorem fdX3_18_2 : zFd RX3 18 2 7 (.array .int) true := ⟨_, _, _, rfl, rfl, by decide, rfl, rfl, Or.inl q233, Or.inl rfl⟩
theorem fdX3_21_2 : zFd RX3 21 2 8 (.array .int) true := ⟨_, _, _, rfl, rfl, by decide, rfl, rfl, Or.inl q235, Or.inl rfl⟩
theorem fdX3_24_2 : zFd RX3 24 2 9 (.array .boolean) true := ⟨_, _, _, rfl, rfl, by decide, rfl, rfl, Or.inl q237, Or.inl rfl⟩
noncomputable def fX3_set (h : zH) (a : Nat) (x1 : Int32) (x2 : Int32) (x3 : Int32) (x4 : Int32) (x5 : Int32) (x6 : Int32) : Option (zH) := zck (vp_in x1 100) (zlet (zsI h (a + 1) x1.toNatClampNeg x2) (fun h_2 => zck (vp_in x1 100) (zlet (zsI h_2 (a + 2) x1.toNatClampNeg x3) (fun h_4 => zck (vp_in x1 100) (zlet (zsI h_4 (a + 3) x1.toNatClampNeg x4) (fun h_6 => zck (vp_in x1 100) (zlet (zsI h_6 (a + 4) x1.toNatClampNeg x5) (fun h_8 => zck (vp_in x1 100) (zck (zB x6) (zlet (zsI h_8 (a + 5) x1.toNatClampNeg x6) (fun h_10 => some h_10)))))))))))
theorem zX3_set {F : zF} {h : zH} {a : Nat} {x1 : Int32} {x2 : Int32} {x3 : Int32} {x4 : Int32} {x5 : Int32} {x6 : Int32} {y : zH} (hD : 1 ≤ F.2.1) (hL : zCt [(tB, tP, a)] [] h) (hf : fX3_set h a x1 x2 x3 x4 x5 x6 = some y) (hM : ((.inl none, y) : zX) = zEnd F) : Z F 7 cX3_set RX3 "set" none [] h 0 [(0, .ref a), (1, .int x1), (2, .int x2), (3, .int x3), (4, .int x4), (5, .int x5), (6, .int x6)] [] := by
  unfold fX3_set at hf
  refine z_aload_n 0 dX3_set_0 rfl rfl ?_
  refine z_getr fdX3_9_2 (Or.inr ⟨_, rfl⟩) ((hL.b 0 rfl).t 0 rfl) ((hL.b 0 rfl).p 0 rfl) dX3_set_1 ?_
  refine z_iload_n 1 dX3_set_4 rfl rfl ?_
  refine z_iload_n 2 dX3_set_5 rfl rfl ?_
  obtain ⟨hi_1, hf⟩ := zck_some hf
  obtain ⟨h_2, he, hf⟩ := zlet_some hf
  refine z_iast ((hL.b 0 rfl).t 1 rfl) ((hL.b 0 rfl).nz 1) hi_1 he dX3_set_6 ?_
  have hL := hL.I he
  refine z_aload_n 0 dX3_set_7 rfl rfl ?_
  refine z_getr fdX3_15_2 (Or.inr ⟨_, rfl⟩) ((hL.b 0 rfl).t 0 rfl) ((hL.b 0 rfl).p 1 rfl) dX3_set_8 ?_
  refine z_iload_n 1 dX3_set_11 rfl rfl ?_
  refine z_iload_n 3 dX3_set_12 rfl rfl ?_
  obtain ⟨hi_3, hf⟩ := zck_some hf
  obtain ⟨h_4, he, hf⟩ := zlet_some hf
  refine z_iast ((hL.b 0 rfl).t 2 rfl) ((hL.b 0 rfl).nz 2) hi_3 he dX3_set_13 ?_
  have hL := hL.I he
  refine z_aload_n 0 dX3_set_14 rfl rfl ?_
  refine z_getr fdX3_18_2 (Or.inr ⟨_, rfl⟩) ((hL.b 0 rfl).t 0 rfl) ((hL.b 0 rfl).p 2 rfl) dX3_set_15 ?_
  refine z_iload_n 1 dX3_set_18 rfl rfl ?_
  refine z_iload 4 dX3_set_19 rfl ?_
  obtain ⟨hi_5, hf⟩ := zck_some hf
  obtain ⟨h_6, he, hf⟩ := zlet_some hf
  refine z_iast ((hL.b 0 rfl).t 3 rfl) ((hL.b 0 rfl).nz 3) hi_5 he dX3_set_21 ?_
  have hL := hL.I he
  refine z_aload_n 0 dX3_set_22 rfl rfl ?_
  refine z_getr fdX3_21_2 (Or.inr ⟨_, rfl⟩) ((hL.b 0 rfl).t 0 rfl) ((hL.b 0 rfl).p 3 rfl) dX3_set_23 ?_
  refine z_iload_n 1 dX3_set_26 rfl rfl ?_
  refine z_iload 5 dX3_set_27 rfl ?_
  obtain ⟨hi_7, hf⟩ := zck_some hf
  obtain ⟨h_8, he, hf⟩ := zlet_some hf
  refine z_iast ((hL.b 0 rfl).t 4 rfl) ((hL.b 0 rfl).nz 4) hi_7 he dX3_set_29 ?_
  have hL := hL.I he
  refine z_aload_n 0 dX3_set_30 rfl rfl ?_
  refine z_getr fdX3_24_2 (Or.inr ⟨_, rfl⟩) ((hL.b 0 rfl).t 0 rfl) ((hL.b 0 rfl).p 4 rfl) dX3_set_31 ?_
  refine z_iload_n 1 dX3_set_34 rfl rfl ?_
  refine z_iload 6 dX3_set_35 rfl ?_
  obtain ⟨hi_9, hf⟩ := zck_some hf
  obtain ⟨hz_11, hf⟩ := zck_some hf
  obtain ⟨h_10, he, hf⟩ := zlet_some hf
  refine z_zast hz_11 ((hL.b 0 rfl).t 5 rfl) ((hL.b 0 rfl).nz 5) hi_9 he dX3_set_37 ?_
  have hL := hL.I he
  cases hf
  exact z_vret dX3_set_38 rfl hM
theorem ctX3_set {l : Launch} {h : zH} {a : Nat} {x1 : Int32} {x2 : Int32} {x3 : Int32} {x4 : Int32} {x5 : Int32} {x6 : Int32} {h' : zH} (hL : zCt [(tB, tP, a)] [] h) (hf : fX3_set h a x1 x2 x3 x4 x5 x6 = some h') : zC l yX3_set (ws_ yX3_set cX3_set 7 none) 1 [.ref a, .int x1, .int x2, .int x3, .int x4, .int x5, .int x6] h (.inl none, h') :=
  z_start (by decide) (Nat.le_of_ble_eq_true rfl) (zX3_set (F := (l, 1, h, (.inl none, h'))) (Nat.le_refl _) hL hf rfl)
theorem fdX3_28_2 : zFd RX3 28 2 11 (.array .int) true := ⟨_, _, _, rfl, rfl, by decide, rfl, rfl, Or.inl q241, Or.inl rfl⟩
theorem fdX3_31_2 : zFd RX3 31 2 12 (.array .int) true := ⟨_, _, _, rfl, rfl, by decide, rfl, rfl, Or.inl q243, Or.inl rfl⟩
theorem fdX3_34_2 : zFd RX3 34 2 13 (.array .int) true := ⟨_, _, _, rfl, rfl, by decide, rfl, rfl, Or.inl q245, Or.inl rfl⟩
theorem fdX3_37_2 : zFd RX3 37 2 14 (.array .boolean) true := ⟨_, _, _, rfl, rfl, by decide, rfl, rfl, Or.inl q247, Or.inl rfl⟩
noncomputable def fX3_setShift (h : zH) (a : Nat) (x1 : Int32) (x2 : Int32) (x3 : Int32) (x4 : Int32) (x5 : Int32) : Option (zH) := zck (vp_in x1 10) (zlet (zsI h (a + 6) x1.toNatClampNeg x2) (fun h_2 => zck (vp_in x1 10) (zlet (zsI h_2 (a + 7) x1.toNatClampNeg x3) (fun h_4 => zck (vp_in x1 10) (zlet (zsI h_4 (a + 8) x1.toNatClampNeg x4) (fun h_6 => zck (vp_in x1 10) (zck (zB x5) (zlet (zsI h_6 (a + 9) x1.toNatClampNeg x5) (fun h_8 => some h_8)))))))))
theorem zX3_setShift {F : zF} {h : zH} {a : Nat} {x1 : Int32} {x2 : Int32} {x3 : Int32} {x4 : Int32} {x5 : Int32} {y : zH} (hD : 1 ≤ F.2.1) (hL : zCt [(tB, tP, a)] [] h) (hf : fX3_setShift h a x1 x2 x3 x4 x5 = some y) (hM : ((.inl none, y) : zX) = zEnd F) : Z F 6 cX3_setShift RX3 "setShift" none [] h 0 [(0, .ref a), (1, .int x1), (2, .int x2), (3, .int x3), (4, .int x4), (5, .int x5)] [] := by
  unfold fX3_setShift at hf
  refine z_aload_n 0 dX3_setShift_0 rfl rfl ?_
  refine z_getr fdX3_28_2 (Or.inr ⟨_, rfl⟩) ((hL.b 0 rfl).t 0 rfl) ((hL.b 0 rfl).p 5 rfl) dX3_setShift_1 ?_
  refine z_iload_n 1 dX3_setShift_4 rfl rfl ?_
  refine z_iload_n 2 dX3_setShift_5 rfl rfl ?_
  obtain ⟨hi_1, hf⟩ := zck_some hf
  obtain ⟨h_2, he, hf⟩ := zlet_some hf
  refine z_iast ((hL.b 0 rfl).t 6 rfl) ((hL.b 0 rfl).nz 6) hi_1 he dX3_setShift_6 ?_
  have hL := hL.I he
  refine z_aload_n 0 dX3_setShift_7 rfl rfl ?_
  refine z_getr fdX3_31_2 (Or.inr ⟨_, rfl⟩) ((hL.b 0 rfl).t 0 rfl) ((hL.b 0 rfl).p 6 rfl) dX3_setShift_8 ?_
  refine z_iload_n 1 dX3_setShift_11 rfl rfl ?_
  refine z_iload_n 3 dX3_setShift_12 rfl rfl ?_
  obtain ⟨hi_3, hf⟩ := zck_some hf
  obtain ⟨h_4, he, hf⟩ := zlet_some hf
  refine z_iast ((hL.b 0 rfl).t 7 rfl) ((hL.b 0 rfl).nz 7) hi_3 he dX3_setShift_13 ?_
  have hL := hL.I he
  refine z_aload_n 0 dX3_setShift_14 rfl rfl ?_
  refine z_getr fdX3_34_2 (Or.inr ⟨_, rfl⟩) ((hL.b 0 rfl).t 0 rfl) ((hL.b 0 rfl).p 7 rfl) dX3_setShift_15 ?_
  refine z_iload_n 1 dX3_setShift_18 rfl rfl ?_
  refine z_iload 4 dX3_setShift_19 rfl ?_
  obtain ⟨hi_5, hf⟩ := zck_some hf
  obtain ⟨h_6, he, hf⟩ := zlet_some hf
  refine z_iast ((hL.b 0 rfl).t 8 rfl) ((hL.b 0 rfl).nz 8) hi_5 he dX3_setShift_21 ?_
  have hL := hL.I he
  refine z_aload_n 0 dX3_setShift_22 rfl rfl ?_
  refine z_getr fdX3_37_2 (Or.inr ⟨_, rfl⟩) ((hL.b 0 rfl).t 0 rfl) ((hL.b 0 rfl).p 8 rfl) dX3_setShift_23 ?_
  refine z_iload_n 1 dX3_setShift_26 rfl rfl ?_
  refine z_iload 5 dX3_setShift_27 rfl ?_
  obtain ⟨hi_7, hf⟩ := zck_some hf
  obtain ⟨hz_9, hf⟩ := zck_some hf
  obtain ⟨h_8, he, hf⟩ := zlet_some hf
  refine z_zast hz_9 ((hL.b 0 rfl).t 9 rfl) ((hL.b 0 rfl).nz 9) hi_7 he dX3_setShift_29 ?_
  have hL := hL.I he
  cases hf
  exact z_vret dX3_setShift_30 rfl hM
theorem ctX3_setShift {l : Launch} {h : zH} {a : Nat} {x1 : Int32} {x2 : Int32} {x3 : Int32} {x4 : Int32} {x5 : Int32} {h' : zH} (hL : zCt [(tB, tP, a)] [] h) (hf : fX3_setShift h a x1 x2 x3 x4 x5 = some h') : zC l yX3_setShift (ws_ yX3_setShift cX3_setShift 6 none) 1 [.ref a, .int x1, .int x2, .int x3, .int x4, .int x5] h (.inl none, h') :=
  z_start (by decide) (Nat.le_of_ble_eq_true rfl) (zX3_setShift (F := (l, 1, h, (.inl none, h'))) (Nat.le_refl _) hL hf rfl)
theorem fdX3_71_2 : zFd RX3 71 2 4 .int false := ⟨_, _, _, rfl, rfl, by decide, rfl, rfl, Or.inl q227, Or.inl rfl⟩
theorem fdX3_75_2 : zFd RX3 75 2 10 .int false := ⟨_, _, _, rfl, rfl, by decide, rfl, rfl, Or.inl q239, Or.inl rfl⟩
theorem svX3_78_2 : zIv RX3 78 yX3_set (ws_ yX3_set cX3_set 7 none) 7 2 6 := ⟨zGood_c q733 q103, ⟨_, _, rfl, rfl, q732⟩, Or.inl q730, q731, ⟨by decide, by decide⟩, by decide +kernel⟩
noncomputable def fX3_take_L18 (h : zH) (a : Nat) (x1 : Nat) (x2 : Int32) : Option ((zH × Int32) ⊕ (zH)) := if (zI h a 4) ≤ x2 then (some (.inr h)) else (zck (vp_in x2 100) (zck (vp_in x2 100) (zck (vp_in x2 100) (zck (vp_in x2 100) (zck (vp_in x2 100) (zb1 (fX3_set h a x2 (zI h (x1 + 1) x2.toNatClampNeg) (zI h (x1 + 2) x2.toNatClampNeg) (zI h (x1 + 3) x2.toNatClampNeg) (zI h (x1 + 4) x2.toNatClampNeg) (zI h (x1 + 5) x2.toNatClampNeg)) (fun h_10 => some (.inl ((h_10, x2 + 1))))))))))
theorem zX3_take_L18 {F : zF} {h : zH} {a : Nat} {x1 : Nat} {x2 : Int32} {y : (zH × Int32) ⊕ (zH)} (hD : 2 ≤ F.2.1) (hL : zCt [(tB, tP, a), (tB, tP, x1)] [] h) (hf : fX3_take_L18 h a x1 x2 = some y) (hM : ((∀ s' : zH × Int32, y = .inl s' → (zCt [(tB, tP, a), (tB, tP, x1)] [] s'.1 → Z F 3 cX3_take RX3 "take" none [] s'.1 18 [(0, .ref a), (1, .ref x1), (2, .int s'.2)] [])) ∧ ∀ r : zH, y = .inr r → (zCt [(tB, tP, a), (tB, tP, x1)] [] r → Z F 3 cX3_take RX3 "take" none [] r 67 [(0, .ref a), (1, .ref x1)] []))) : Z F 3 cX3_take RX3 "take" none [] h 18 [(0, .ref a), (1, .ref x1), (2, .int x2)] [] := by
  unfold fX3_take_L18 at hf
  refine z_iload_n 2 dX3_take_18 rfl rfl ?_
  refine z_aload_n 0 dX3_take_19 rfl rfl ?_
  refine z_geti fdX3_71_2 ((hL.b 0 rfl).t 0 rfl) dX3_take_20 ?_
  refine z_icmp_ge 67 dX3_take_23 rfl hf (fun _ hf => ?_) (fun _ hf => ?_)
  · cases hf
    refine z_sub [0, 1] rfl ?_
    exact (hM.2 _ rfl) hL
  · refine z_aload_n 0 dX3_take_26 rfl rfl ?_
    refine z_iload_n 2 dX3_take_27 rfl rfl ?_
    refine z_aload_n 1 dX3_take_28 rfl rfl ?_
    refine z_getr fdX3_9_2 (Or.inr ⟨_, rfl⟩) ((hL.b 1 rfl).t 0 rfl) ((hL.b 1 rfl).p 0 rfl) dX3_take_29 ?_
    refine z_iload_n 2 dX3_take_32 rfl rfl ?_
    obtain ⟨hi_3, hf⟩ := zck_some hf
    refine z_iald ((hL.b 1 rfl).t 1 rfl) hi_3 dX3_take_33 ?_
    refine z_aload_n 1 dX3_take_34 rfl rfl ?_
    refine z_getr fdX3_15_2 (Or.inr ⟨_, rfl⟩) ((hL.b 1 rfl).t 0 rfl) ((hL.b 1 rfl).p 1 rfl) dX3_take_35 ?_
    refine z_iload_n 2 dX3_take_38 rfl rfl ?_
    obtain ⟨hi_4, hf⟩ := zck_some hf
    refine z_iald ((hL.b 1 rfl).t 2 rfl) hi_4 dX3_take_39 ?_
    refine z_aload_n 1 dX3_take_40 rfl rfl ?_
    refine z_getr fdX3_18_2 (Or.inr ⟨_, rfl⟩) ((hL.b 1 rfl).t 0 rfl) ((hL.b 1 rfl).p 2 rfl) dX3_take_41 ?_
    refine z_iload_n 2 dX3_take_44 rfl rfl ?_
    obtain ⟨hi_5, hf⟩ := zck_some hf
    refine z_iald ((hL.b 1 rfl).t 3 rfl) hi_5 dX3_take_45 ?_
    refine z_aload_n 1 dX3_take_46 rfl rfl ?_
    refine z_getr fdX3_21_2 (Or.inr ⟨_, rfl⟩) ((hL.b 1 rfl).t 0 rfl) ((hL.b 1 rfl).p 3 rfl) dX3_take_47 ?_
    refine z_iload_n 2 dX3_take_50 rfl rfl ?_
    obtain ⟨hi_6, hf⟩ := zck_some hf
    refine z_iald ((hL.b 1 rfl).t 4 rfl) hi_6 dX3_take_51 ?_
    refine z_aload_n 1 dX3_take_52 rfl rfl ?_
    refine z_getr fdX3_24_2 (Or.inr ⟨_, rfl⟩) ((hL.b 1 rfl).t 0 rfl) ((hL.b 1 rfl).p 4 rfl) dX3_take_53 ?_
    refine z_iload_n 2 dX3_take_56 rfl rfl ?_
    obtain ⟨hi_7, hf⟩ := zck_some hf
    refine z_zald ((hL.b 1 rfl).t 5 rfl) hi_7 dX3_take_57 ?_
    obtain ⟨h_10, hc_8, hf⟩ := zb1_some hf
    have hct := ctX3_set (l := F.1) (hL.sub [0] [] rfl rfl) hc_8
    refine z_invVv svX3_78_2 hct ((hL.b 0 rfl).t 0 rfl) ⟨Nat.le_trans (by decide) hD, by decide⟩ rfl rfl (Nat.le_of_ble_eq_true rfl) dX3_take_58 ?_
    have hL := hL.ext hct.1
    refine z_iinc 2 (x2 + 1) dX3_take_61 rfl rfl (by decide) (lc' := [(0, .ref a), (1, .ref x1), (2, .int (x2 + 1))]) rfl ?_
    refine z_goto 18 dX3_take_64 rfl ?_
    cases hf
    exact (hM.1 _ rfl) hL
theorem svX3_82_2 : zIv RX3 82 yX3_setShift (ws_ yX3_setShift cX3_setShift 6 none) 6 2 5 := ⟨zGood_c q737 q103, ⟨_, _, rfl, rfl, q736⟩, Or.inl q734, q735, ⟨by decide, by decide⟩, by decide +kernel⟩
noncomputable def fX3_take_L69 (h : zH) (a : Nat) (x1 : Nat) (x2 : Int32) : Option ((zH × Int32) ⊕ (zH)) := if (zI h a 10) ≤ x2 then (some (.inr h)) else (zck (vp_in x2 10) (zck (vp_in x2 10) (zck (vp_in x2 10) (zck (vp_in x2 10) (zb1 (fX3_setShift h a x2 (zI h (x1 + 6) x2.toNatClampNeg) (zI h (x1 + 7) x2.toNatClampNeg) (zI h (x1 + 8) x2.toNatClampNeg) (zI h (x1 + 9) x2.toNatClampNeg)) (fun h_18 => some (.inl ((h_18, x2 + 1)))))))))
theorem zX3_take_L69 {F : zF} {h : zH} {a : Nat} {x1 : Nat} {x2 : Int32} {y : (zH × Int32) ⊕ (zH)} (hD : 2 ≤ F.2.1) (hL : zCt [(tB, tP, a), (tB, tP, x1)] [] h) (hf : fX3_take_L69 h a x1 x2 = some y) (hM : ((∀ s' : zH × Int32, y = .inl s' → (zCt [(tB, tP, a), (tB, tP, x1)] [] s'.1 → Z F 3 cX3_take RX3 "take" none [] s'.1 69 [(0, .ref a), (1, .ref x1), (2, .int s'.2)] [])) ∧ ∀ r : zH, y = .inr r → ((.inl none, r) : zX) = zEnd F)) : Z F 3 cX3_take RX3 "take" none [] h 69 [(0, .ref a), (1, .ref x1), (2, .int x2)] [] := by
  unfold fX3_take_L69 at hf
  refine z_iload_n 2 dX3_take_69 rfl rfl ?_
  refine z_aload_n 0 dX3_take_70 rfl rfl ?_
  refine z_geti fdX3_75_2 ((hL.b 0 rfl).t 0 rfl) dX3_take_71 ?_
  refine z_icmp_ge 112 dX3_take_74 rfl hf (fun _ hf => ?_) (fun _ hf => ?_)
  · cases hf
    exact z_vret dX3_take_112 rfl (hM.2 _ rfl)
  · refine z_aload_n 0 dX3_take_77 rfl rfl ?_
    refine z_iload_n 2 dX3_take_78 rfl rfl ?_
    refine z_aload_n 1 dX3_take_79 rfl rfl ?_
    refine z_getr fdX3_28_2 (Or.inr ⟨_, rfl⟩) ((hL.b 1 rfl).t 0 rfl) ((hL.b 1 rfl).p 5 rfl) dX3_take_80 ?_
    refine z_iload_n 2 dX3_take_83 rfl rfl ?_
    obtain ⟨hi_12, hf⟩ := zck_some hf
    refine z_iald ((hL.b 1 rfl).t 6 rfl) hi_12 dX3_take_84 ?_
    refine z_aload_n 1 dX3_take_85 rfl rfl ?_
    refine z_getr fdX3_31_2 (Or.inr ⟨_, rfl⟩) ((hL.b 1 rfl).t 0 rfl) ((hL.b 1 rfl).p 6 rfl) dX3_take_86 ?_
    refine z_iload_n 2 dX3_take_89 rfl rfl ?_
    obtain ⟨hi_13, hf⟩ := zck_some hf
    refine z_iald ((hL.b 1 rfl).t 7 rfl) hi_13 dX3_take_90 ?_
    refine z_aload_n 1 dX3_take_91 rfl rfl ?_
    refine z_getr fdX3_34_2 (Or.inr ⟨_, rfl⟩) ((hL.b 1 rfl).t 0 rfl) ((hL.b 1 rfl).p 7 rfl) dX3_take_92 ?_
    refine z_iload_n 2 dX3_take_95 rfl rfl ?_
    obtain ⟨hi_14, hf⟩ := zck_some hf
    refine z_iald ((hL.b 1 rfl).t 8 rfl) hi_14 dX3_take_96 ?_
    refine z_aload_n 1 dX3_take_97 rfl rfl ?_
    refine z_getr fdX3_37_2 (Or.inr ⟨_, rfl⟩) ((hL.b 1 rfl).t 0 rfl) ((hL.b 1 rfl).p 8 rfl) dX3_take_98 ?_
    refine z_iload_n 2 dX3_take_101 rfl rfl ?_
    obtain ⟨hi_15, hf⟩ := zck_some hf
    refine z_zald ((hL.b 1 rfl).t 9 rfl) hi_15 dX3_take_102 ?_
    obtain ⟨h_18, hc_16, hf⟩ := zb1_some hf
    have hct := ctX3_setShift (l := F.1) (hL.sub [0] [] rfl rfl) hc_16
    refine z_invVv svX3_82_2 hct ((hL.b 0 rfl).t 0 rfl) ⟨Nat.le_trans (by decide) hD, by decide⟩ rfl rfl (Nat.le_of_ble_eq_true rfl) dX3_take_103 ?_
    have hL := hL.ext hct.1
    refine z_iinc 2 (x2 + 1) dX3_take_106 rfl rfl (by decide) (lc' := [(0, .ref a), (1, .ref x1), (2, .int (x2 + 1))]) rfl ?_
    refine z_goto 69 dX3_take_109 rfl ?_
    cases hf
    exact (hM.1 _ rfl) hL
noncomputable def fX3_take (h : zH) (a : Nat) (x1 : Nat) : Option (zH) := zlet (zsI h a 4 (zI h x1 4)) (fun h_1 => zlet (zsI h_1 a 10 (zI h_1 x1 10)) (fun h_2 => zb1 (zlp (fun s => fX3_take_L18 s.1 a x1 s.2) (h_2, 0)) (fun t_11 => zlp (fun s => fX3_take_L69 s.1 a x1 s.2) (t_11, 0))))
theorem zX3_take {F : zF} {h : zH} {a : Nat} {x1 : Nat} {y : zH} (hD : 2 ≤ F.2.1) (hL : zCt [(tB, tP, a), (tB, tP, x1)] [] h) (hf : fX3_take h a x1 = some y) (hM : ((.inl none, y) : zX) = zEnd F) : Z F 3 cX3_take RX3 "take" none [] h 0 [(0, .ref a), (1, .ref x1)] [] := by
  unfold fX3_take at hf
  refine z_aload_n 0 dX3_take_0 rfl rfl ?_
  refine z_aload_n 1 dX3_take_1 rfl rfl ?_
  refine z_geti fdX3_71_2 ((hL.b 1 rfl).t 0 rfl) dX3_take_2 ?_
  obtain ⟨h_1, he, hf⟩ := zlet_some hf
  refine z_puti fdX3_71_2 ((hL.b 0 rfl).t 0 rfl) ((hL.b 0 rfl).nz 0) he dX3_take_5 ?_
  have hL := hL.I he
  refine z_aload_n 0 dX3_take_8 rfl rfl ?_
  refine z_aload_n 1 dX3_take_9 rfl rfl ?_
  refine z_geti fdX3_75_2 ((hL.b 1 rfl).t 0 rfl) dX3_take_10 ?_
  obtain ⟨h_2, he, hf⟩ := zlet_some hf
  refine z_puti fdX3_75_2 ((hL.b 0 rfl).t 0 rfl) ((hL.b 0 rfl).nz 0) he dX3_take_13 ?_
  have hL := hL.I he
  refine z_iconst 0 dX3_take_16 rfl ?_
  refine z_istore_n dX3_take_17 rfl (by decide) (lc' := [(0, .ref a), (1, .ref x1), (2, .int 0)]) rfl ?_
  obtain ⟨t_11, hl, hf⟩ := zb1_some hf
  refine z_loop (fun (s : zH × Int32) => (zCt [(tB, tP, a), (tB, tP, x1)] [] s.1 → Z F 3 cX3_take RX3 "take" none [] s.1 18 [(0, .ref a), (1, .ref x1), (2, .int s.2)] [])) (fun (r : zH) => (zCt [(tB, tP, a), (tB, tP, x1)] [] r → Z F 3 cX3_take RX3 "take" none [] r 67 [(0, .ref a), (1, .ref x1)] [])) (fun s y hb hs hr hL => zX3_take_L18 hD hL hb ⟨hs, hr⟩) hl ?_ hL
  intro hL
  show Z F 3 cX3_take RX3 "take" none [] t_11 67 [(0, .ref a), (1, .ref x1)] []
  refine z_iconst 0 dX3_take_67 rfl ?_
  refine z_istore_n dX3_take_68 rfl (by decide) (lc' := [(0, .ref a), (1, .ref x1), (2, .int 0)]) rfl ?_
  exact z_loop (fun (s : zH × Int32) => (zCt [(tB, tP, a), (tB, tP, x1)] [] s.1 → Z F 3 cX3_take RX3 "take" none [] s.1 69 [(0, .ref a), (1, .ref x1), (2, .int s.2)] [])) (fun (r : zH) => ((.inl none, r) : zX) = zEnd F) (fun s y hb hs hr hL => zX3_take_L69 hD hL hb ⟨hs, hr⟩) hf hM hL
theorem ctX3_take {l : Launch} {h : zH} {a : Nat} {x1 : Nat} {h' : zH} (hL : zCt [(tB, tP, a), (tB, tP, x1)] [] h) (hf : fX3_take h a x1 = some h') : zC l yX3_take (ws_ yX3_take cX3_take 3 none) 2 [.ref a, .ref x1] h (.inl none, h') :=
  z_start (by decide) (Nat.le_of_ble_eq_true rfl) (zX3_take (F := (l, 2, h, (.inl none, h'))) (Nat.le_refl _) hL hf rfl)
noncomputable def fX3_find_L3 (h : zH) (a : Nat) (x1 : Int32) (x2 : Int32) (x3 : Int32) (x4 : Int32) : Option ((Int32) ⊕ (Int32)) := if (zI h a 4) ≤ x4 then (some (.inr ((-1)))) else (zck (vp_in x4 100) (if (zI h (a + 1) x4.toNatClampNeg) = x1 then (zck (vp_in x4 100) (if (zI h (a + 2) x4.toNatClampNeg) = x2 then (zck (vp_in x4 100) (if (zI h (a + 3) x4.toNatClampNeg) = x3 then (some (.inr x4)) else (some (.inl (x4 + 1))))) else (some (.inl (x4 + 1))))) else (some (.inl (x4 + 1)))))
theorem zX3_find_L3 {F : zF} {h : zH} {a : Nat} {x1 : Int32} {x2 : Int32} {x3 : Int32} {x4 : Int32} {y : (Int32) ⊕ (Int32)} (hD : 1 ≤ F.2.1) (hL : zCt [(tB, tP, a)] [] h) (hf : fX3_find_L3 h a x1 x2 x3 x4 = some y) (hM : ((∀ s' : Int32, y = .inl s' → Z F 5 cX3_find RX3 "find" (some .int) [] h 3 [(0, .ref a), (1, .int x1), (2, .int x2), (3, .int x3), (4, .int s')] []) ∧ ∀ r : Int32, y = .inr r → ((.inl (some (.int r)), h) : zX) = zEnd F)) : Z F 5 cX3_find RX3 "find" (some .int) [] h 3 [(0, .ref a), (1, .int x1), (2, .int x2), (3, .int x3), (4, .int x4)] [] := by
  unfold fX3_find_L3 at hf
  refine z_iload 4 dX3_find_3 rfl ?_
  refine z_aload_n 0 dX3_find_5 rfl rfl ?_
  refine z_geti fdX3_71_2 ((hL.b 0 rfl).t 0 rfl) dX3_find_6 ?_
  refine z_icmp_ge 54 dX3_find_9 rfl hf (fun _ hf => ?_) (fun _ hf => ?_)
  · refine z_iconst (-1) dX3_find_54 rfl ?_
    cases hf
    exact z_iret dX3_find_55 rfl (hM.2 _ rfl)
  · refine z_aload_n 0 dX3_find_12 rfl rfl ?_
    refine z_getr fdX3_9_2 (Or.inr ⟨_, rfl⟩) ((hL.b 0 rfl).t 0 rfl) ((hL.b 0 rfl).p 0 rfl) dX3_find_13 ?_
    refine z_iload 4 dX3_find_16 rfl ?_
    obtain ⟨hi_1, hf⟩ := zck_some hf
    refine z_iald ((hL.b 0 rfl).t 1 rfl) hi_1 dX3_find_18 ?_
    refine z_iload_n 1 dX3_find_19 rfl rfl ?_
    refine z_icmp_ne 48 dX3_find_20 rfl hf (fun _ hf => ?_) (fun _ hf => ?_)
    · refine z_iinc 4 (x4 + 1) dX3_find_48 rfl rfl (by decide) (lc' := [(0, .ref a), (1, .int x1), (2, .int x2), (3, .int x3), (4, .int (x4 + 1))]) rfl ?_
      refine z_goto 3 dX3_find_51 rfl ?_
      cases hf
      exact (hM.1 _ rfl)
    · refine z_aload_n 0 dX3_find_23 rfl rfl ?_
      refine z_getr fdX3_15_2 (Or.inr ⟨_, rfl⟩) ((hL.b 0 rfl).t 0 rfl) ((hL.b 0 rfl).p 1 rfl) dX3_find_24 ?_
      refine z_iload 4 dX3_find_27 rfl ?_
      obtain ⟨hi_2, hf⟩ := zck_some hf
      refine z_iald ((hL.b 0 rfl).t 2 rfl) hi_2 dX3_find_29 ?_
      refine z_iload_n 2 dX3_find_30 rfl rfl ?_
      refine z_icmp_ne 48 dX3_find_31 rfl hf (fun _ hf => ?_) (fun _ hf => ?_)
      · refine z_iinc 4 (x4 + 1) dX3_find_48 rfl rfl (by decide) (lc' := [(0, .ref a), (1, .int x1), (2, .int x2), (3, .int x3), (4, .int (x4 + 1))]) rfl ?_
        refine z_goto 3 dX3_find_51 rfl ?_
        cases hf
        exact (hM.1 _ rfl)
      · refine z_aload_n 0 dX3_find_34 rfl rfl ?_
        refine z_getr fdX3_18_2 (Or.inr ⟨_, rfl⟩) ((hL.b 0 rfl).t 0 rfl) ((hL.b 0 rfl).p 2 rfl) dX3_find_35 ?_
        refine z_iload 4 dX3_find_38 rfl ?_
        obtain ⟨hi_3, hf⟩ := zck_some hf
        refine z_iald ((hL.b 0 rfl).t 3 rfl) hi_3 dX3_find_40 ?_
        refine z_iload_n 3 dX3_find_41 rfl rfl ?_
        refine z_icmp_ne 48 dX3_find_42 rfl hf (fun _ hf => ?_) (fun _ hf => ?_)
        · refine z_iinc 4 (x4 + 1) dX3_find_48 rfl rfl (by decide) (lc' := [(0, .ref a), (1, .int x1), (2, .int x2), (3, .int x3), (4, .int (x4 + 1))]) rfl ?_
          refine z_goto 3 dX3_find_51 rfl ?_
          cases hf
          exact (hM.1 _ rfl)
        · refine z_iload 4 dX3_find_45 rfl ?_
          cases hf
          exact z_iret dX3_find_47 rfl (hM.2 _ rfl)
noncomputable def fX3_find (h : zH) (a : Nat) (x1 : Int32) (x2 : Int32) (x3 : Int32) : Option (Int32) := zlp (fun s => fX3_find_L3 h a x1 x2 x3 s) 0
theorem zX3_find {F : zF} {h : zH} {a : Nat} {x1 : Int32} {x2 : Int32} {x3 : Int32} {y : Int32} (hD : 1 ≤ F.2.1) (hL : zCt [(tB, tP, a)] [] h) (hf : fX3_find h a x1 x2 x3 = some y) (hM : ((.inl (some (.int y)), h) : zX) = zEnd F) : Z F 5 cX3_find RX3 "find" (some .int) [] h 0 [(0, .ref a), (1, .int x1), (2, .int x2), (3, .int x3)] [] := by
  unfold fX3_find at hf
  refine z_iconst 0 dX3_find_0 rfl ?_
  refine z_istore dX3_find_1 (by decide) (lc' := [(0, .ref a), (1, .int x1), (2, .int x2), (3, .int x3), (4, .int 0)]) rfl ?_
  exact z_loop (fun (s : Int32) => Z F 5 cX3_find RX3 "find" (some .int) [] h 3 [(0, .ref a), (1, .int x1), (2, .int x2), (3, .int x3), (4, .int s)] []) (fun (r : Int32) => ((.inl (some (.int r)), h) : zX) = zEnd F) (fun s y hb hs hr => zX3_find_L3 hD hL hb ⟨hs, hr⟩) hf hM
theorem ctX3_find {l : Launch} {h : zH} {a : Nat} {x1 : Int32} {x2 : Int32} {x3 : Int32} {v : Int32} (hL : zCt [(tB, tP, a)] [] h) (hf : fX3_find h a x1 x2 x3 = some v) : zC l yX3_find (ws_ yX3_find cX3_find 5 (some .int)) 1 [.ref a, .int x1, .int x2, .int x3] h (.inl (some (.int v)), h) :=
  z_start (by decide) (Nat.le_of_ble_eq_true rfl) (zX3_find (F := (l, 1, h, (.inl (some (.int v)), h))) (Nat.le_refl _) hL hf rfl)
noncomputable def fX3_findShift_L2 (h : zH) (a : Nat) (x1 : Int32) (x2 : Int32) (x3 : Int32) : Option ((Int32) ⊕ (Int32)) := if (zI h a 10) ≤ x3 then (some (.inr ((-1)))) else (zck (vp_in x3 10) (if (zI h (a + 6) x3.toNatClampNeg) = x1 then (zck (vp_in x3 10) (if (zI h (a + 7) x3.toNatClampNeg) = x2 then (some (.inr x3)) else (some (.inl (x3 + 1))))) else (some (.inl (x3 + 1)))))
theorem zX3_findShift_L2 {F : zF} {h : zH} {a : Nat} {x1 : Int32} {x2 : Int32} {x3 : Int32} {y : (Int32) ⊕ (Int32)} (hD : 1 ≤ F.2.1) (hL : zCt [(tB, tP, a)] [] h) (hf : fX3_findShift_L2 h a x1 x2 x3 = some y) (hM : ((∀ s' : Int32, y = .inl s' → Z F 4 cX3_findShift RX3 "findShift" (some .int) [] h 2 [(0, .ref a), (1, .int x1), (2, .int x2), (3, .int s')] []) ∧ ∀ r : Int32, y = .inr r → ((.inl (some (.int r)), h) : zX) = zEnd F)) : Z F 4 cX3_findShift RX3 "findShift" (some .int) [] h 2 [(0, .ref a), (1, .int x1), (2, .int x2), (3, .int x3)] [] := by
  unfold fX3_findShift_L2 at hf
  refine z_iload_n 3 dX3_findShift_2 rfl rfl ?_
  refine z_aload_n 0 dX3_findShift_3 rfl rfl ?_
  refine z_geti fdX3_75_2 ((hL.b 0 rfl).t 0 rfl) dX3_findShift_4 ?_
  refine z_icmp_ge 38 dX3_findShift_7 rfl hf (fun _ hf => ?_) (fun _ hf => ?_)
  · refine z_iconst (-1) dX3_findShift_38 rfl ?_
    cases hf
    exact z_iret dX3_findShift_39 rfl (hM.2 _ rfl)
  · refine z_aload_n 0 dX3_findShift_10 rfl rfl ?_
    refine z_getr fdX3_28_2 (Or.inr ⟨_, rfl⟩) ((hL.b 0 rfl).t 0 rfl) ((hL.b 0 rfl).p 5 rfl) dX3_findShift_11 ?_
    refine z_iload_n 3 dX3_findShift_14 rfl rfl ?_
    obtain ⟨hi_1, hf⟩ := zck_some hf
    refine z_iald ((hL.b 0 rfl).t 6 rfl) hi_1 dX3_findShift_15 ?_
    refine z_iload_n 1 dX3_findShift_16 rfl rfl ?_
    refine z_icmp_ne 32 dX3_findShift_17 rfl hf (fun _ hf => ?_) (fun _ hf => ?_)
    · refine z_iinc 3 (x3 + 1) dX3_findShift_32 rfl rfl (by decide) (lc' := [(0, .ref a), (1, .int x1), (2, .int x2), (3, .int (x3 + 1))]) rfl ?_
      refine z_goto 2 dX3_findShift_35 rfl ?_
      cases hf
      exact (hM.1 _ rfl)
    · refine z_aload_n 0 dX3_findShift_20 rfl rfl ?_
      refine z_getr fdX3_31_2 (Or.inr ⟨_, rfl⟩) ((hL.b 0 rfl).t 0 rfl) ((hL.b 0 rfl).p 6 rfl) dX3_findShift_21 ?_
      refine z_iload_n 3 dX3_findShift_24 rfl rfl ?_
      obtain ⟨hi_2, hf⟩ := zck_some hf
      refine z_iald ((hL.b 0 rfl).t 7 rfl) hi_2 dX3_findShift_25 ?_
      refine z_iload_n 2 dX3_findShift_26 rfl rfl ?_
      refine z_icmp_ne 32 dX3_findShift_27 rfl hf (fun _ hf => ?_) (fun _ hf => ?_)
      · refine z_iinc 3 (x3 + 1) dX3_findShift_32 rfl rfl (by decide) (lc' := [(0, .ref a), (1, .int x1), (2, .int x2), (3, .int (x3 + 1))]) rfl ?_
        refine z_goto 2 dX3_findShift_35 rfl ?_
        cases hf
        exact (hM.1 _ rfl)
      · refine z_iload_n 3 dX3_findShift_30 rfl rfl ?_
        cases hf
        exact z_iret dX3_findShift_31 rfl (hM.2 _ rfl)
noncomputable def fX3_findShift (h : zH) (a : Nat) (x1 : Int32) (x2 : Int32) : Option (Int32) := zlp (fun s => fX3_findShift_L2 h a x1 x2 s) 0
theorem zX3_findShift {F : zF} {h : zH} {a : Nat} {x1 : Int32} {x2 : Int32} {y : Int32} (hD : 1 ≤ F.2.1) (hL : zCt [(tB, tP, a)] [] h) (hf : fX3_findShift h a x1 x2 = some y) (hM : ((.inl (some (.int y)), h) : zX) = zEnd F) : Z F 4 cX3_findShift RX3 "findShift" (some .int) [] h 0 [(0, .ref a), (1, .int x1), (2, .int x2)] [] := by
  unfold fX3_findShift at hf
  refine z_iconst 0 dX3_findShift_0 rfl ?_
  refine z_istore_n dX3_findShift_1 rfl (by decide) (lc' := [(0, .ref a), (1, .int x1), (2, .int x2), (3, .int 0)]) rfl ?_
  exact z_loop (fun (s : Int32) => Z F 4 cX3_findShift RX3 "findShift" (some .int) [] h 2 [(0, .ref a), (1, .int x1), (2, .int x2), (3, .int s)] []) (fun (r : Int32) => ((.inl (some (.int r)), h) : zX) = zEnd F) (fun s y hb hs hr => zX3_findShift_L2 hD hL hb ⟨hs, hr⟩) hf hM
theorem ctX3_findShift {l : Launch} {h : zH} {a : Nat} {x1 : Int32} {x2 : Int32} {v : Int32} (hL : zCt [(tB, tP, a)] [] h) (hf : fX3_findShift h a x1 x2 = some v) : zC l yX3_findShift (ws_ yX3_findShift cX3_findShift 4 (some .int)) 1 [.ref a, .int x1, .int x2] h (.inl (some (.int v)), h) :=
  z_start (by decide) (Nat.le_of_ble_eq_true rfl) (zX3_findShift (F := (l, 1, h, (.inl (some (.int v)), h))) (Nat.le_refl _) hL hf rfl)
noncomputable def fX3_remove_L12 (h : zH) (a : Nat) (x2 : Int32) : Option ((zH × Int32) ⊕ (zH)) := if (zI h a 4) ≤ x2 then (some (.inr h)) else (zck (vp_in (x2 + 1) 100) (zck (vp_in (x2 + 1) 100) (zck (vp_in (x2 + 1) 100) (zck (vp_in (x2 + 1) 100) (zck (vp_in (x2 + 1) 100) (zb1 (fX3_set h a x2 (zI h (a + 1) (x2 + 1).toNatClampNeg) (zI h (a + 2) (x2 + 1).toNatClampNeg) (zI h (a + 3) (x2 + 1).toNatClampNeg) (zI h (a + 4) (x2 + 1).toNatClampNeg) (zI h (a + 5) (x2 + 1).toNatClampNeg)) (fun h_9 => some (.inl ((h_9, x2 + 1))))))))))
theorem zX3_remove_L12 {F : zF} {h : zH} {a : Nat} {x2 : Int32} {y : (zH × Int32) ⊕ (zH)} (hD : 2 ≤ F.2.1) (hL : zCt [(tB, tP, a)] [] h) (hf : fX3_remove_L12 h a x2 = some y) (hM : ((∀ s' : zH × Int32, y = .inl s' → (zCt [(tB, tP, a)] [] s'.1 → Z F 3 cX3_remove RX3 "remove" none [] s'.1 12 [(0, .ref a), (2, .int s'.2)] [])) ∧ ∀ r : zH, y = .inr r → ((.inl none, r) : zX) = zEnd F)) : Z F 3 cX3_remove RX3 "remove" none [] h 12 [(0, .ref a), (2, .int x2)] [] := by
  unfold fX3_remove_L12 at hf
  refine z_iload_n 1 dX3_remove_12 rfl rfl ?_
  refine z_aload_n 0 dX3_remove_13 rfl rfl ?_
  refine z_geti fdX3_71_2 ((hL.b 0 rfl).t 0 rfl) dX3_remove_14 ?_
  refine z_icmp_ge 71 dX3_remove_17 rfl hf (fun _ hf => ?_) (fun _ hf => ?_)
  · cases hf
    exact z_vret dX3_remove_71 rfl (hM.2 _ rfl)
  · refine z_aload_n 0 dX3_remove_20 rfl rfl ?_
    refine z_iload_n 1 dX3_remove_21 rfl rfl ?_
    refine z_aload_n 0 dX3_remove_22 rfl rfl ?_
    refine z_getr fdX3_9_2 (Or.inr ⟨_, rfl⟩) ((hL.b 0 rfl).t 0 rfl) ((hL.b 0 rfl).p 0 rfl) dX3_remove_23 ?_
    refine z_iload_n 1 dX3_remove_26 rfl rfl ?_
    refine z_iconst 1 dX3_remove_27 rfl ?_
    refine z_iadd dX3_remove_28 ?_
    obtain ⟨hi_2, hf⟩ := zck_some hf
    refine z_iald ((hL.b 0 rfl).t 1 rfl) hi_2 dX3_remove_29 ?_
    refine z_aload_n 0 dX3_remove_30 rfl rfl ?_
    refine z_getr fdX3_15_2 (Or.inr ⟨_, rfl⟩) ((hL.b 0 rfl).t 0 rfl) ((hL.b 0 rfl).p 1 rfl) dX3_remove_31 ?_
    refine z_iload_n 1 dX3_remove_34 rfl rfl ?_
    refine z_iconst 1 dX3_remove_35 rfl ?_
    refine z_iadd dX3_remove_36 ?_
    obtain ⟨hi_3, hf⟩ := zck_some hf
    refine z_iald ((hL.b 0 rfl).t 2 rfl) hi_3 dX3_remove_37 ?_
    refine z_aload_n 0 dX3_remove_38 rfl rfl ?_
    refine z_getr fdX3_18_2 (Or.inr ⟨_, rfl⟩) ((hL.b 0 rfl).t 0 rfl) ((hL.b 0 rfl).p 2 rfl) dX3_remove_39 ?_
    refine z_iload_n 1 dX3_remove_42 rfl rfl ?_
    refine z_iconst 1 dX3_remove_43 rfl ?_
    refine z_iadd dX3_remove_44 ?_
    obtain ⟨hi_4, hf⟩ := zck_some hf
    refine z_iald ((hL.b 0 rfl).t 3 rfl) hi_4 dX3_remove_45 ?_
    refine z_aload_n 0 dX3_remove_46 rfl rfl ?_
    refine z_getr fdX3_21_2 (Or.inr ⟨_, rfl⟩) ((hL.b 0 rfl).t 0 rfl) ((hL.b 0 rfl).p 3 rfl) dX3_remove_47 ?_
    refine z_iload_n 1 dX3_remove_50 rfl rfl ?_
    refine z_iconst 1 dX3_remove_51 rfl ?_
    refine z_iadd dX3_remove_52 ?_
    obtain ⟨hi_5, hf⟩ := zck_some hf
    refine z_iald ((hL.b 0 rfl).t 4 rfl) hi_5 dX3_remove_53 ?_
    refine z_aload_n 0 dX3_remove_54 rfl rfl ?_
    refine z_getr fdX3_24_2 (Or.inr ⟨_, rfl⟩) ((hL.b 0 rfl).t 0 rfl) ((hL.b 0 rfl).p 4 rfl) dX3_remove_55 ?_
    refine z_iload_n 1 dX3_remove_58 rfl rfl ?_
    refine z_iconst 1 dX3_remove_59 rfl ?_
    refine z_iadd dX3_remove_60 ?_
    obtain ⟨hi_6, hf⟩ := zck_some hf
    refine z_zald ((hL.b 0 rfl).t 5 rfl) hi_6 dX3_remove_61 ?_
    obtain ⟨h_9, hc_7, hf⟩ := zb1_some hf
    have hct := ctX3_set (l := F.1) hL hc_7
    refine z_invVv svX3_78_2 hct ((hL.b 0 rfl).t 0 rfl) ⟨Nat.le_trans (by decide) hD, by decide⟩ rfl rfl (Nat.le_of_ble_eq_true rfl) dX3_remove_62 ?_
    have hL := hL.ext hct.1
    refine z_iinc 1 (x2 + 1) dX3_remove_65 rfl rfl (by decide) (lc' := [(0, .ref a), (2, .int (x2 + 1))]) rfl ?_
    refine z_goto 12 dX3_remove_68 rfl ?_
    cases hf
    exact (hM.1 _ rfl) hL
noncomputable def fX3_remove (h : zH) (a : Nat) (x1 : Int32) : Option (zH) := zlet (zsI h a 4 ((zI h a 4) - 1)) (fun h_1 => zlp (fun s => fX3_remove_L12 s.1 a s.2) (h_1, x1))
theorem zX3_remove {F : zF} {h : zH} {a : Nat} {x1 : Int32} {y : zH} (hD : 2 ≤ F.2.1) (hL : zCt [(tB, tP, a)] [] h) (hf : fX3_remove h a x1 = some y) (hM : ((.inl none, y) : zX) = zEnd F) : Z F 3 cX3_remove RX3 "remove" none [] h 0 [(0, .ref a), (1, .int x1)] [] := by
  unfold fX3_remove at hf
  refine z_aload_n 0 dX3_remove_0 rfl rfl ?_
  refine z_dup dX3_remove_1 rfl ?_
  refine z_geti fdX3_71_2 ((hL.b 0 rfl).t 0 rfl) dX3_remove_2 ?_
  refine z_iconst 1 dX3_remove_5 rfl ?_
  refine z_isub dX3_remove_6 ?_
  obtain ⟨h_1, he, hf⟩ := zlet_some hf
  refine z_puti fdX3_71_2 ((hL.b 0 rfl).t 0 rfl) ((hL.b 0 rfl).nz 0) he dX3_remove_7 ?_
  have hL := hL.I he
  refine z_iload_n 1 dX3_remove_10 rfl rfl ?_
  refine z_istore_n dX3_remove_11 rfl (by decide) (lc' := [(0, .ref a), (1, .int x1), (2, .int x1)]) rfl ?_
  refine z_sub [0, 2] rfl ?_
  exact z_loop (fun (s : zH × Int32) => (zCt [(tB, tP, a)] [] s.1 → Z F 3 cX3_remove RX3 "remove" none [] s.1 12 [(0, .ref a), (2, .int s.2)] [])) (fun (r : zH) => ((.inl none, r) : zX) = zEnd F) (fun s y hb hs hr hL => zX3_remove_L12 hD hL hb ⟨hs, hr⟩) hf hM hL
theorem ctX3_remove {l : Launch} {h : zH} {a : Nat} {x1 : Int32} {h' : zH} (hL : zCt [(tB, tP, a)] [] h) (hf : fX3_remove h a x1 = some h') : zC l yX3_remove (ws_ yX3_remove cX3_remove 3 none) 2 [.ref a, .int x1] h (.inl none, h') :=
  z_start (by decide) (Nat.le_of_ble_eq_true rfl) (zX3_remove (F := (l, 2, h, (.inl none, h'))) (Nat.le_refl _) hL hf rfl)
noncomputable def fX3_removeShift_L12 (h : zH) (a : Nat) (x2 : Int32) : Option ((zH × Int32) ⊕ (zH)) := if (zI h a 10) ≤ x2 then (some (.inr h)) else (zck (vp_in (x2 + 1) 10) (zck (vp_in (x2 + 1) 10) (zck (vp_in (x2 + 1) 10) (zck (vp_in (x2 + 1) 10) (zb1 (fX3_setShift h a x2 (zI h (a + 6) (x2 + 1).toNatClampNeg) (zI h (a + 7) (x2 + 1).toNatClampNeg) (zI h (a + 8) (x2 + 1).toNatClampNeg) (zI h (a + 9) (x2 + 1).toNatClampNeg)) (fun h_8 => some (.inl ((h_8, x2 + 1)))))))))
theorem zX3_removeShift_L12 {F : zF} {h : zH} {a : Nat} {x2 : Int32} {y : (zH × Int32) ⊕ (zH)} (hD : 2 ≤ F.2.1) (hL : zCt [(tB, tP, a)] [] h) (hf : fX3_removeShift_L12 h a x2 = some y) (hM : ((∀ s' : zH × Int32, y = .inl s' → (zCt [(tB, tP, a)] [] s'.1 → Z F 3 cX3_removeShift RX3 "removeShift" none [] s'.1 12 [(0, .ref a), (2, .int s'.2)] [])) ∧ ∀ r : zH, y = .inr r → ((.inl none, r) : zX) = zEnd F)) : Z F 3 cX3_removeShift RX3 "removeShift" none [] h 12 [(0, .ref a), (2, .int x2)] [] := by
  unfold fX3_removeShift_L12 at hf
  refine z_iload_n 1 dX3_removeShift_12 rfl rfl ?_
  refine z_aload_n 0 dX3_removeShift_13 rfl rfl ?_
  refine z_geti fdX3_75_2 ((hL.b 0 rfl).t 0 rfl) dX3_removeShift_14 ?_
  refine z_icmp_ge 63 dX3_removeShift_17 rfl hf (fun _ hf => ?_) (fun _ hf => ?_)
  · cases hf
    exact z_vret dX3_removeShift_63 rfl (hM.2 _ rfl)
  · refine z_aload_n 0 dX3_removeShift_20 rfl rfl ?_
    refine z_iload_n 1 dX3_removeShift_21 rfl rfl ?_
    refine z_aload_n 0 dX3_removeShift_22 rfl rfl ?_
    refine z_getr fdX3_28_2 (Or.inr ⟨_, rfl⟩) ((hL.b 0 rfl).t 0 rfl) ((hL.b 0 rfl).p 5 rfl) dX3_removeShift_23 ?_
    refine z_iload_n 1 dX3_removeShift_26 rfl rfl ?_
    refine z_iconst 1 dX3_removeShift_27 rfl ?_
    refine z_iadd dX3_removeShift_28 ?_
    obtain ⟨hi_2, hf⟩ := zck_some hf
    refine z_iald ((hL.b 0 rfl).t 6 rfl) hi_2 dX3_removeShift_29 ?_
    refine z_aload_n 0 dX3_removeShift_30 rfl rfl ?_
    refine z_getr fdX3_31_2 (Or.inr ⟨_, rfl⟩) ((hL.b 0 rfl).t 0 rfl) ((hL.b 0 rfl).p 6 rfl) dX3_removeShift_31 ?_
    refine z_iload_n 1 dX3_removeShift_34 rfl rfl ?_
    refine z_iconst 1 dX3_removeShift_35 rfl ?_
    refine z_iadd dX3_removeShift_36 ?_
    obtain ⟨hi_3, hf⟩ := zck_some hf
    refine z_iald ((hL.b 0 rfl).t 7 rfl) hi_3 dX3_removeShift_37 ?_
    refine z_aload_n 0 dX3_removeShift_38 rfl rfl ?_
    refine z_getr fdX3_34_2 (Or.inr ⟨_, rfl⟩) ((hL.b 0 rfl).t 0 rfl) ((hL.b 0 rfl).p 7 rfl) dX3_removeShift_39 ?_
    refine z_iload_n 1 dX3_removeShift_42 rfl rfl ?_
    refine z_iconst 1 dX3_removeShift_43 rfl ?_
    refine z_iadd dX3_removeShift_44 ?_
    obtain ⟨hi_4, hf⟩ := zck_some hf
    refine z_iald ((hL.b 0 rfl).t 8 rfl) hi_4 dX3_removeShift_45 ?_
    refine z_aload_n 0 dX3_removeShift_46 rfl rfl ?_
    refine z_getr fdX3_37_2 (Or.inr ⟨_, rfl⟩) ((hL.b 0 rfl).t 0 rfl) ((hL.b 0 rfl).p 8 rfl) dX3_removeShift_47 ?_
    refine z_iload_n 1 dX3_removeShift_50 rfl rfl ?_
    refine z_iconst 1 dX3_removeShift_51 rfl ?_
    refine z_iadd dX3_removeShift_52 ?_
    obtain ⟨hi_5, hf⟩ := zck_some hf
    refine z_zald ((hL.b 0 rfl).t 9 rfl) hi_5 dX3_removeShift_53 ?_
    obtain ⟨h_8, hc_6, hf⟩ := zb1_some hf
    have hct := ctX3_setShift (l := F.1) hL hc_6
    refine z_invVv svX3_82_2 hct ((hL.b 0 rfl).t 0 rfl) ⟨Nat.le_trans (by decide) hD, by decide⟩ rfl rfl (Nat.le_of_ble_eq_true rfl) dX3_removeShift_54 ?_
    have hL := hL.ext hct.1
    refine z_iinc 1 (x2 + 1) dX3_removeShift_57 rfl rfl (by decide) (lc' := [(0, .ref a), (2, .int (x2 + 1))]) rfl ?_
    refine z_goto 12 dX3_removeShift_60 rfl ?_
    cases hf
    exact (hM.1 _ rfl) hL
noncomputable def fX3_removeShift (h : zH) (a : Nat) (x1 : Int32) : Option (zH) := zlet (zsI h a 10 ((zI h a 10) - 1)) (fun h_1 => zlp (fun s => fX3_removeShift_L12 s.1 a s.2) (h_1, x1))
theorem zX3_removeShift {F : zF} {h : zH} {a : Nat} {x1 : Int32} {y : zH} (hD : 2 ≤ F.2.1) (hL : zCt [(tB, tP, a)] [] h) (hf : fX3_removeShift h a x1 = some y) (hM : ((.inl none, y) : zX) = zEnd F) : Z F 3 cX3_removeShift RX3 "removeShift" none [] h 0 [(0, .ref a), (1, .int x1)] [] := by
  unfold fX3_removeShift at hf
  refine z_aload_n 0 dX3_removeShift_0 rfl rfl ?_
  refine z_dup dX3_removeShift_1 rfl ?_
  refine z_geti fdX3_75_2 ((hL.b 0 rfl).t 0 rfl) dX3_removeShift_2 ?_
  refine z_iconst 1 dX3_removeShift_5 rfl ?_
  refine z_isub dX3_removeShift_6 ?_
  obtain ⟨h_1, he, hf⟩ := zlet_some hf
  refine z_puti fdX3_75_2 ((hL.b 0 rfl).t 0 rfl) ((hL.b 0 rfl).nz 0) he dX3_removeShift_7 ?_
  have hL := hL.I he
  refine z_iload_n 1 dX3_removeShift_10 rfl rfl ?_
  refine z_istore_n dX3_removeShift_11 rfl (by decide) (lc' := [(0, .ref a), (1, .int x1), (2, .int x1)]) rfl ?_
  refine z_sub [0, 2] rfl ?_
  exact z_loop (fun (s : zH × Int32) => (zCt [(tB, tP, a)] [] s.1 → Z F 3 cX3_removeShift RX3 "removeShift" none [] s.1 12 [(0, .ref a), (2, .int s.2)] [])) (fun (r : zH) => ((.inl none, r) : zX) = zEnd F) (fun s y hb hs hr hL => zX3_removeShift_L12 hD hL hb ⟨hs, hr⟩) hf hM hL
theorem ctX3_removeShift {l : Launch} {h : zH} {a : Nat} {x1 : Int32} {h' : zH} (hL : zCt [(tB, tP, a)] [] h) (hf : fX3_removeShift h a x1 = some h') : zC l yX3_removeShift (ws_ yX3_removeShift cX3_removeShift 3 none) 2 [.ref a, .int x1] h (.inl none, h') :=
  z_start (by decide) (Nat.le_of_ble_eq_true rfl) (zX3_removeShift (F := (l, 2, h, (.inl none, h'))) (Nat.le_refl _) hL hf rfl)
noncomputable def fX3_better (h : zH) (a : Nat) (x1 : Nat) (x2 : Nat) (x3 : Int32) (x4 : Int32) (x5 : Int64) : Option (zH) := zck (zAr h x1 x3) (if (zI h x1 x3.toNatClampNeg) < 0 then (zck (x1 ≠ 0 ∧ zAr h x1 x3) (zlet (zsI h x1 x3.toNatClampNeg x4) (fun h_3 => zck (x2 ≠ 0 ∧ zAk 2 h_3 x2 x3) (zlet (zsL h_3 x2 x3.toNatClampNeg x5) (fun h_5 => some h_5))))) else (zck (zAr h x1 x3) (if (zI h x1 x3.toNatClampNeg) = x4 then (zck (zAk 2 h x2 x3) (if 0 ≤ (lg_cmp x5 (zL h x2 x3.toNatClampNeg)) then (some h) else (zck (x1 ≠ 0 ∧ zAr h x1 x3) (zlet (zsI h x1 x3.toNatClampNeg x4) (fun h_9 => zck (x2 ≠ 0 ∧ zAk 2 h_9 x2 x3) (zlet (zsL h_9 x2 x3.toNatClampNeg x5) (fun h_11 => some h_11))))))) else (some h))))
theorem zX3_better {F : zF} {h : zH} {a : Nat} {x1 : Nat} {x2 : Nat} {x3 : Int32} {x4 : Int32} {x5 : Int64} {y : zH} (hD : 1 ≤ F.2.1) (hL : zCt [(tB, tP, a)] [] h) (hf : fX3_better h a x1 x2 x3 x4 x5 = some y) (hM : ((.inl none, y) : zX) = zEnd F) : Z F 7 cX3_better RX3 "better" none [] h 0 [(0, .ref a), (1, .ref x1), (2, .ref x2), (3, .int x3), (4, .int x4), (5, .long x5)] [] := by
  unfold fX3_better at hf
  refine z_aload_n 1 dX3_better_0 rfl rfl ?_
  refine z_iload_n 3 dX3_better_1 rfl rfl ?_
  obtain ⟨hi_1, hf⟩ := zck_some hf
  refine z_iald (zAr_t hi_1) hi_1.2 dX3_better_2 ?_
  refine z_if_lt 23 dX3_better_3 rfl hf (fun _ hf => ?_) (fun _ hf => ?_)
  · refine z_aload_n 1 dX3_better_23 rfl rfl ?_
    refine z_iload_n 3 dX3_better_24 rfl rfl ?_
    refine z_iload 4 dX3_better_25 rfl ?_
    obtain ⟨hi_2, hf⟩ := zck_some hf
    obtain ⟨h_3, he, hf⟩ := zlet_some hf
    refine z_iast (zAr_t hi_2.2) hi_2.1 hi_2.2.2 he dX3_better_27 ?_
    have hL := hL.I he
    refine z_aload_n 2 dX3_better_28 rfl rfl ?_
    refine z_iload_n 3 dX3_better_29 rfl rfl ?_
    refine z_lload 5 dX3_better_30 rfl ?_
    obtain ⟨hi_4, hf⟩ := zck_some hf
    obtain ⟨h_5, he, hf⟩ := zlet_some hf
    refine z_last (zAk_t hi_4.2) hi_4.1 hi_4.2.2 he dX3_better_32 ?_
    have hL := hL.L he
    cases hf
    exact z_vret dX3_better_33 rfl hM
  · refine z_aload_n 1 dX3_better_6 rfl rfl ?_
    refine z_iload_n 3 dX3_better_7 rfl rfl ?_
    obtain ⟨hi_6, hf⟩ := zck_some hf
    refine z_iald (zAr_t hi_6) hi_6.2 dX3_better_8 ?_
    refine z_iload 4 dX3_better_9 rfl ?_
    refine z_icmp_ne 33 dX3_better_11 rfl hf (fun _ hf => ?_) (fun _ hf => ?_)
    · cases hf
      exact z_vret dX3_better_33 rfl hM
    · refine z_lload 5 dX3_better_14 rfl ?_
      refine z_aload_n 2 dX3_better_16 rfl rfl ?_
      refine z_iload_n 3 dX3_better_17 rfl rfl ?_
      obtain ⟨hi_7, hf⟩ := zck_some hf
      refine z_lald (zAk_t hi_7) hi_7.2 dX3_better_18 ?_
      refine z_lcmp dX3_better_19 ?_
      refine z_if_ge 33 dX3_better_20 rfl hf (fun _ hf => ?_) (fun _ hf => ?_)
      · cases hf
        exact z_vret dX3_better_33 rfl hM
      · refine z_aload_n 1 dX3_better_23 rfl rfl ?_
        refine z_iload_n 3 dX3_better_24 rfl rfl ?_
        refine z_iload 4 dX3_better_25 rfl ?_
        obtain ⟨hi_8, hf⟩ := zck_some hf
        obtain ⟨h_9, he, hf⟩ := zlet_some hf
        refine z_iast (zAr_t hi_8.2) hi_8.1 hi_8.2.2 he dX3_better_27 ?_
        have hL := hL.I he
        refine z_aload_n 2 dX3_better_28 rfl rfl ?_
        refine z_iload_n 3 dX3_better_29 rfl rfl ?_
        refine z_lload 5 dX3_better_30 rfl ?_
        obtain ⟨hi_10, hf⟩ := zck_some hf
        obtain ⟨h_11, he, hf⟩ := zlet_some hf
        refine z_last (zAk_t hi_10.2) hi_10.1 hi_10.2.2 he dX3_better_32 ?_
        have hL := hL.L he
        cases hf
        exact z_vret dX3_better_33 rfl hM
theorem ctX3_better {l : Launch} {h : zH} {a : Nat} {x1 : Nat} {x2 : Nat} {x3 : Int32} {x4 : Int32} {x5 : Int64} {h' : zH} (hL : zCt [(tB, tP, a)] [] h) (hf : fX3_better h a x1 x2 x3 x4 x5 = some h') : zC l yX3_better (ws_ yX3_better cX3_better 7 none) 1 [.ref a, .ref x1, .ref x2, .int x3, .int x4, .long x5] h (.inl none, h') :=
  z_start (by decide) (Nat.le_of_ble_eq_true rfl) (zX3_better (F := (l, 1, h, (.inl none, h'))) (Nat.le_refl _) hL hf rfl)
theorem fdX3_58_2 : zFd RX3 58 2 21 (.array .int) true := ⟨_, _, _, rfl, rfl, by decide, rfl, rfl, Or.inl q255, Or.inl rfl⟩
theorem fdX3_51_2 : zFd RX3 51 2 19 (.array .int) true := ⟨_, _, _, rfl, rfl, by decide, rfl, rfl, Or.inl q253, Or.inl rfl⟩
theorem fdX3_61_2 : zFd RX3 61 2 22 (.array .long) true := ⟨_, _, _, rfl, rfl, by decide, rfl, rfl, Or.inl q256, Or.inl rfl⟩
theorem fdX3_54_2 : zFd RX3 54 2 20 (.array .long) true := ⟨_, _, _, rfl, rfl, by decide, rfl, rfl, Or.inl q254, Or.inl rfl⟩
theorem fdX3_64_2 : zFd RX3 64 2 23 (.array .int) true := ⟨_, _, _, rfl, rfl, by decide, rfl, rfl, Or.inl q257, Or.inl rfl⟩
noncomputable def fX3_walkTo_J171 (h : zH) (a : Nat) (x1 : Int32) (x2 : Int32) (x3 : Int32) (x4 : Int32) (x6 : Int32) (x7 : Int64) : Option ((zH × Int32) ⊕ (zH)) := zck (vp_in x3 16) (zlet (zsI h (a + 19) x3.toNatClampNeg x6) (fun h_18 => zck (vp_in x3 16) (zlet (zsL h_18 (a + 20) x3.toNatClampNeg x7) (fun h_20 => zck (vp_in x4 10) (zck (vp_in x3 16) (zlet (zsI h_20 (a + 21) x3.toNatClampNeg (zI h_20 (a + 6) x4.toNatClampNeg)) (fun h_23 => some (.inl ((h_23, x4 + 1))))))))))
theorem zX3_walkTo_J171 {F : zF} {h : zH} {a : Nat} {x1 : Int32} {x2 : Int32} {x3 : Int32} {x4 : Int32} {x6 : Int32} {x7 : Int64} {y : (zH × Int32) ⊕ (zH)} (hD : 1 ≤ F.2.1) (hL : zCt [(tB, tP, a)] [] h) (hf : fX3_walkTo_J171 h a x1 x2 x3 x4 x6 x7 = some y) (hM : ((∀ s' : zH × Int32, y = .inl s' → (zCt [(tB, tP, a)] [] s'.1 → Z F 9 cX3_walkTo RX3 "walkTo" none [] s'.1 40 [(0, .ref a), (1, .int x1), (2, .int x2), (3, .int x3), (4, .int s'.2)] [])) ∧ ∀ r : zH, y = .inr r → ((.inl none, r) : zX) = zEnd F)) : Z F 9 cX3_walkTo RX3 "walkTo" none [] h 171 [(0, .ref a), (1, .int x1), (2, .int x2), (3, .int x3), (4, .int x4), (6, .int x6), (7, .long x7)] [] := by
  unfold fX3_walkTo_J171 at hf
  refine z_aload_n 0 dX3_walkTo_171 rfl rfl ?_
  refine z_getr fdX3_58_2 (Or.inr ⟨_, rfl⟩) ((hL.b 0 rfl).t 0 rfl) ((hL.b 0 rfl).p 18 rfl) dX3_walkTo_172 ?_
  refine z_iload_n 3 dX3_walkTo_175 rfl rfl ?_
  refine z_iload 5 dX3_walkTo_176 rfl ?_
  obtain ⟨hi_17, hf⟩ := zck_some hf
  obtain ⟨h_18, he, hf⟩ := zlet_some hf
  refine z_iast ((hL.b 0 rfl).t 19 rfl) ((hL.b 0 rfl).nz 19) hi_17 he dX3_walkTo_178 ?_
  have hL := hL.I he
  refine z_aload_n 0 dX3_walkTo_179 rfl rfl ?_
  refine z_getr fdX3_61_2 (Or.inr ⟨_, rfl⟩) ((hL.b 0 rfl).t 0 rfl) ((hL.b 0 rfl).p 19 rfl) dX3_walkTo_180 ?_
  refine z_iload_n 3 dX3_walkTo_183 rfl rfl ?_
  refine z_lload 6 dX3_walkTo_184 rfl ?_
  obtain ⟨hi_19, hf⟩ := zck_some hf
  obtain ⟨h_20, he, hf⟩ := zlet_some hf
  refine z_last ((hL.b 0 rfl).t 20 rfl) ((hL.b 0 rfl).nz 20) hi_19 he dX3_walkTo_186 ?_
  have hL := hL.L he
  refine z_aload_n 0 dX3_walkTo_187 rfl rfl ?_
  refine z_getr fdX3_64_2 (Or.inr ⟨_, rfl⟩) ((hL.b 0 rfl).t 0 rfl) ((hL.b 0 rfl).p 20 rfl) dX3_walkTo_188 ?_
  refine z_iload_n 3 dX3_walkTo_191 rfl rfl ?_
  refine z_aload_n 0 dX3_walkTo_192 rfl rfl ?_
  refine z_getr fdX3_28_2 (Or.inr ⟨_, rfl⟩) ((hL.b 0 rfl).t 0 rfl) ((hL.b 0 rfl).p 5 rfl) dX3_walkTo_193 ?_
  refine z_iload 4 dX3_walkTo_196 rfl ?_
  obtain ⟨hi_21, hf⟩ := zck_some hf
  refine z_iald ((hL.b 0 rfl).t 6 rfl) hi_21 dX3_walkTo_198 ?_
  obtain ⟨hi_22, hf⟩ := zck_some hf
  obtain ⟨h_23, he, hf⟩ := zlet_some hf
  refine z_iast ((hL.b 0 rfl).t 21 rfl) ((hL.b 0 rfl).nz 21) hi_22 he dX3_walkTo_199 ?_
  have hL := hL.I he
  refine z_iinc 4 (x4 + 1) dX3_walkTo_200 rfl rfl (by decide) (lc' := [(0, .ref a), (1, .int x1), (2, .int x2), (3, .int x3), (4, .int (x4 + 1)), (6, .int x6), (7, .long x7)]) rfl ?_
  refine z_goto 40 dX3_walkTo_203 rfl ?_
  cases hf
  refine z_sub [0, 1, 2, 3, 4] rfl ?_
  exact (hM.1 _ rfl) hL
noncomputable def fX3_walkTo_L40 (h : zH) (a : Nat) (x1 : Int32) (x2 : Int32) (x3 : Int32) (x4 : Int32) : Option ((zH × Int32) ⊕ (zH)) := if (zI h a 10) ≤ x4 then (some (.inr h)) else (zck (vp_in x4 10) (zck (vp_in x4 10) (if (zI h (a + 9) x4.toNatClampNeg) = 0 then (zck (vp_in x4 10) (if (zI h (a + 8) x4.toNatClampNeg) = x2 then (zck (vp_in (((4 : Int32) * x1) + (zI h (a + 6) x4.toNatClampNeg)) 16) (if 0 ≤ (zI h (a + 17) (((4 : Int32) * x1) + (zI h (a + 6) x4.toNatClampNeg)).toNatClampNeg) then (zck (vp_in (((4 : Int32) * x1) + (zI h (a + 6) x4.toNatClampNeg)) 16) (zck (vp_in (((4 : Int32) * x1) + (zI h (a + 6) x4.toNatClampNeg)) 16) (zck (vp_in x4 10) (zck (vp_in x3 16) (if (zI h (a + 19) x3.toNatClampNeg) < 0 then (fX3_walkTo_J171 h a x1 x2 x3 x4 ((zI h (a + 17) (((4 : Int32) * x1) + (zI h (a + 6) x4.toNatClampNeg)).toNatClampNeg) + 1) (((zL h (a + 18) (((4 : Int32) * x1) + (zI h (a + 6) x4.toNatClampNeg)).toNatClampNeg) <<< ((8 : Int32).toInt64 &&& 63)) ||| ((zI h (a + 7) x4.toNatClampNeg).toInt64))) else (zck (vp_in x3 16) (if ((zI h (a + 17) (((4 : Int32) * x1) + (zI h (a + 6) x4.toNatClampNeg)).toNatClampNeg) + 1) < (zI h (a + 19) x3.toNatClampNeg) then (fX3_walkTo_J171 h a x1 x2 x3 x4 ((zI h (a + 17) (((4 : Int32) * x1) + (zI h (a + 6) x4.toNatClampNeg)).toNatClampNeg) + 1) (((zL h (a + 18) (((4 : Int32) * x1) + (zI h (a + 6) x4.toNatClampNeg)).toNatClampNeg) <<< ((8 : Int32).toInt64 &&& 63)) ||| ((zI h (a + 7) x4.toNatClampNeg).toInt64))) else (zck (vp_in x3 16) (if ((zI h (a + 17) (((4 : Int32) * x1) + (zI h (a + 6) x4.toNatClampNeg)).toNatClampNeg) + 1) = (zI h (a + 19) x3.toNatClampNeg) then (zck (vp_in x3 16) (if 0 ≤ (lg_cmp (((zL h (a + 18) (((4 : Int32) * x1) + (zI h (a + 6) x4.toNatClampNeg)).toNatClampNeg) <<< ((8 : Int32).toInt64 &&& 63)) ||| ((zI h (a + 7) x4.toNatClampNeg).toInt64)) (zL h (a + 20) x3.toNatClampNeg)) then (some (.inl ((h, x4 + 1)))) else (fX3_walkTo_J171 h a x1 x2 x3 x4 ((zI h (a + 17) (((4 : Int32) * x1) + (zI h (a + 6) x4.toNatClampNeg)).toNatClampNeg) + 1) (((zL h (a + 18) (((4 : Int32) * x1) + (zI h (a + 6) x4.toNatClampNeg)).toNatClampNeg) <<< ((8 : Int32).toInt64 &&& 63)) ||| ((zI h (a + 7) x4.toNatClampNeg).toInt64))))) else (some (.inl ((h, x4 + 1))))))))))))) else (some (.inl ((h, x4 + 1)))))) else (some (.inl ((h, x4 + 1)))))) else (some (.inl ((h, x4 + 1)))))))
theorem zX3_walkTo_L40 {F : zF} {h : zH} {a : Nat} {x1 : Int32} {x2 : Int32} {x3 : Int32} {x4 : Int32} {y : (zH × Int32) ⊕ (zH)} (hD : 1 ≤ F.2.1) (hL : zCt [(tB, tP, a)] [] h) (hf : fX3_walkTo_L40 h a x1 x2 x3 x4 = some y) (hM : ((∀ s' : zH × Int32, y = .inl s' → (zCt [(tB, tP, a)] [] s'.1 → Z F 9 cX3_walkTo RX3 "walkTo" none [] s'.1 40 [(0, .ref a), (1, .int x1), (2, .int x2), (3, .int x3), (4, .int s'.2)] [])) ∧ ∀ r : zH, y = .inr r → ((.inl none, r) : zX) = zEnd F)) : Z F 9 cX3_walkTo RX3 "walkTo" none [] h 40 [(0, .ref a), (1, .int x1), (2, .int x2), (3, .int x3), (4, .int x4)] [] := by
  unfold fX3_walkTo_L40 at hf
  refine z_iload 4 dX3_walkTo_40 rfl ?_
  refine z_aload_n 0 dX3_walkTo_42 rfl rfl ?_
  refine z_geti fdX3_75_2 ((hL.b 0 rfl).t 0 rfl) dX3_walkTo_43 ?_
  refine z_icmp_ge 206 dX3_walkTo_46 rfl hf (fun _ hf => ?_) (fun _ hf => ?_)
  · cases hf
    exact z_vret dX3_walkTo_206 rfl (hM.2 _ rfl)
  · refine z_iconst 4 dX3_walkTo_49 rfl ?_
    refine z_iload_n 1 dX3_walkTo_50 rfl rfl ?_
    refine z_imul dX3_walkTo_51 ?_
    refine z_aload_n 0 dX3_walkTo_52 rfl rfl ?_
    refine z_getr fdX3_28_2 (Or.inr ⟨_, rfl⟩) ((hL.b 0 rfl).t 0 rfl) ((hL.b 0 rfl).p 5 rfl) dX3_walkTo_53 ?_
    refine z_iload 4 dX3_walkTo_56 rfl ?_
    obtain ⟨hi_9, hf⟩ := zck_some hf
    refine z_iald ((hL.b 0 rfl).t 6 rfl) hi_9 dX3_walkTo_58 ?_
    refine z_iadd dX3_walkTo_59 ?_
    refine z_istore dX3_walkTo_60 (by decide) (lc' := [(0, .ref a), (1, .int x1), (2, .int x2), (3, .int x3), (4, .int x4), (5, .int (((4 : Int32) * x1) + (zI h (a + 6) x4.toNatClampNeg)))]) rfl ?_
    refine z_aload_n 0 dX3_walkTo_62 rfl rfl ?_
    refine z_getr fdX3_37_2 (Or.inr ⟨_, rfl⟩) ((hL.b 0 rfl).t 0 rfl) ((hL.b 0 rfl).p 8 rfl) dX3_walkTo_63 ?_
    refine z_iload 4 dX3_walkTo_66 rfl ?_
    obtain ⟨hi_10, hf⟩ := zck_some hf
    refine z_zald ((hL.b 0 rfl).t 9 rfl) hi_10 dX3_walkTo_68 ?_
    refine z_if_ne 200 dX3_walkTo_69 rfl hf (fun _ hf => ?_) (fun _ hf => ?_)
    · refine z_iinc 4 (x4 + 1) dX3_walkTo_200 rfl rfl (by decide) (lc' := [(0, .ref a), (1, .int x1), (2, .int x2), (3, .int x3), (4, .int (x4 + 1)), (5, .int (((4 : Int32) * x1) + (zI h (a + 6) x4.toNatClampNeg)))]) rfl ?_
      refine z_goto 40 dX3_walkTo_203 rfl ?_
      cases hf
      refine z_sub [0, 1, 2, 3, 4] rfl ?_
      exact (hM.1 _ rfl) hL
    · refine z_aload_n 0 dX3_walkTo_72 rfl rfl ?_
      refine z_getr fdX3_34_2 (Or.inr ⟨_, rfl⟩) ((hL.b 0 rfl).t 0 rfl) ((hL.b 0 rfl).p 7 rfl) dX3_walkTo_73 ?_
      refine z_iload 4 dX3_walkTo_76 rfl ?_
      obtain ⟨hi_11, hf⟩ := zck_some hf
      refine z_iald ((hL.b 0 rfl).t 8 rfl) hi_11 dX3_walkTo_78 ?_
      refine z_iload_n 2 dX3_walkTo_79 rfl rfl ?_
      refine z_icmp_ne 200 dX3_walkTo_80 rfl hf (fun _ hf => ?_) (fun _ hf => ?_)
      · refine z_iinc 4 (x4 + 1) dX3_walkTo_200 rfl rfl (by decide) (lc' := [(0, .ref a), (1, .int x1), (2, .int x2), (3, .int x3), (4, .int (x4 + 1)), (5, .int (((4 : Int32) * x1) + (zI h (a + 6) x4.toNatClampNeg)))]) rfl ?_
        refine z_goto 40 dX3_walkTo_203 rfl ?_
        cases hf
        refine z_sub [0, 1, 2, 3, 4] rfl ?_
        exact (hM.1 _ rfl) hL
      · refine z_aload_n 0 dX3_walkTo_83 rfl rfl ?_
        refine z_getr fdX3_51_2 (Or.inr ⟨_, rfl⟩) ((hL.b 0 rfl).t 0 rfl) ((hL.b 0 rfl).p 16 rfl) dX3_walkTo_84 ?_
        refine z_iload 5 dX3_walkTo_87 rfl ?_
        obtain ⟨hi_12, hf⟩ := zck_some hf
        refine z_iald ((hL.b 0 rfl).t 17 rfl) hi_12 dX3_walkTo_89 ?_
        refine z_if_ge 96 dX3_walkTo_90 rfl hf (fun _ hf => ?_) (fun _ hf => ?_)
        · refine z_aload_n 0 dX3_walkTo_96 rfl rfl ?_
          refine z_getr fdX3_51_2 (Or.inr ⟨_, rfl⟩) ((hL.b 0 rfl).t 0 rfl) ((hL.b 0 rfl).p 16 rfl) dX3_walkTo_97 ?_
          refine z_iload 5 dX3_walkTo_100 rfl ?_
          obtain ⟨hi_13, hf⟩ := zck_some hf
          refine z_iald ((hL.b 0 rfl).t 17 rfl) hi_13 dX3_walkTo_102 ?_
          refine z_iconst 1 dX3_walkTo_103 rfl ?_
          refine z_iadd dX3_walkTo_104 ?_
          refine z_istore dX3_walkTo_105 (by decide) (lc' := [(0, .ref a), (1, .int x1), (2, .int x2), (3, .int x3), (4, .int x4), (5, .int (((4 : Int32) * x1) + (zI h (a + 6) x4.toNatClampNeg))), (6, .int ((zI h (a + 17) (((4 : Int32) * x1) + (zI h (a + 6) x4.toNatClampNeg)).toNatClampNeg) + 1))]) rfl ?_
          refine z_aload_n 0 dX3_walkTo_107 rfl rfl ?_
          refine z_getr fdX3_54_2 (Or.inr ⟨_, rfl⟩) ((hL.b 0 rfl).t 0 rfl) ((hL.b 0 rfl).p 17 rfl) dX3_walkTo_108 ?_
          refine z_iload 5 dX3_walkTo_111 rfl ?_
          obtain ⟨hi_14, hf⟩ := zck_some hf
          refine z_lald ((hL.b 0 rfl).t 18 rfl) hi_14 dX3_walkTo_113 ?_
          refine z_bipush 8 dX3_walkTo_114 rfl ?_
          refine z_lshl dX3_walkTo_116 ?_
          refine z_aload_n 0 dX3_walkTo_117 rfl rfl ?_
          refine z_getr fdX3_31_2 (Or.inr ⟨_, rfl⟩) ((hL.b 0 rfl).t 0 rfl) ((hL.b 0 rfl).p 6 rfl) dX3_walkTo_118 ?_
          refine z_iload 4 dX3_walkTo_121 rfl ?_
          obtain ⟨hi_15, hf⟩ := zck_some hf
          refine z_iald ((hL.b 0 rfl).t 7 rfl) hi_15 dX3_walkTo_123 ?_
          refine z_i2l dX3_walkTo_124 ?_
          refine z_lor dX3_walkTo_125 ?_
          refine z_lstore dX3_walkTo_126 (by decide) (lc' := [(0, .ref a), (1, .int x1), (2, .int x2), (3, .int x3), (4, .int x4), (5, .int (((4 : Int32) * x1) + (zI h (a + 6) x4.toNatClampNeg))), (6, .int ((zI h (a + 17) (((4 : Int32) * x1) + (zI h (a + 6) x4.toNatClampNeg)).toNatClampNeg) + 1)), (7, .long (((zL h (a + 18) (((4 : Int32) * x1) + (zI h (a + 6) x4.toNatClampNeg)).toNatClampNeg) <<< ((8 : Int32).toInt64 &&& 63)) ||| ((zI h (a + 7) x4.toNatClampNeg).toInt64)))]) rfl ?_
          refine z_aload_n 0 dX3_walkTo_128 rfl rfl ?_
          refine z_getr fdX3_58_2 (Or.inr ⟨_, rfl⟩) ((hL.b 0 rfl).t 0 rfl) ((hL.b 0 rfl).p 18 rfl) dX3_walkTo_129 ?_
          refine z_iload_n 3 dX3_walkTo_132 rfl rfl ?_
          obtain ⟨hi_16, hf⟩ := zck_some hf
          refine z_iald ((hL.b 0 rfl).t 19 rfl) hi_16 dX3_walkTo_133 ?_
          refine z_if_lt 171 dX3_walkTo_134 rfl hf (fun _ hf => ?_) (fun _ hf => ?_)
          · refine z_sub [0, 1, 2, 3, 4, 6, 7] rfl ?_
            exact zX3_walkTo_J171 hD hL hf hM
          · refine z_iload 6 dX3_walkTo_137 rfl ?_
            refine z_aload_n 0 dX3_walkTo_139 rfl rfl ?_
            refine z_getr fdX3_58_2 (Or.inr ⟨_, rfl⟩) ((hL.b 0 rfl).t 0 rfl) ((hL.b 0 rfl).p 18 rfl) dX3_walkTo_140 ?_
            refine z_iload_n 3 dX3_walkTo_143 rfl rfl ?_
            obtain ⟨hi_24, hf⟩ := zck_some hf
            refine z_iald ((hL.b 0 rfl).t 19 rfl) hi_24 dX3_walkTo_144 ?_
            refine z_icmp_lt 171 dX3_walkTo_145 rfl hf (fun _ hf => ?_) (fun _ hf => ?_)
            · refine z_sub [0, 1, 2, 3, 4, 6, 7] rfl ?_
              exact zX3_walkTo_J171 hD hL hf hM
            · refine z_iload 6 dX3_walkTo_148 rfl ?_
              refine z_aload_n 0 dX3_walkTo_150 rfl rfl ?_
              refine z_getr fdX3_58_2 (Or.inr ⟨_, rfl⟩) ((hL.b 0 rfl).t 0 rfl) ((hL.b 0 rfl).p 18 rfl) dX3_walkTo_151 ?_
              refine z_iload_n 3 dX3_walkTo_154 rfl rfl ?_
              obtain ⟨hi_25, hf⟩ := zck_some hf
              refine z_iald ((hL.b 0 rfl).t 19 rfl) hi_25 dX3_walkTo_155 ?_
              refine z_icmp_ne 200 dX3_walkTo_156 rfl hf (fun _ hf => ?_) (fun _ hf => ?_)
              · refine z_iinc 4 (x4 + 1) dX3_walkTo_200 rfl rfl (by decide) (lc' := [(0, .ref a), (1, .int x1), (2, .int x2), (3, .int x3), (4, .int (x4 + 1)), (5, .int (((4 : Int32) * x1) + (zI h (a + 6) x4.toNatClampNeg))), (6, .int ((zI h (a + 17) (((4 : Int32) * x1) + (zI h (a + 6) x4.toNatClampNeg)).toNatClampNeg) + 1)), (7, .long (((zL h (a + 18) (((4 : Int32) * x1) + (zI h (a + 6) x4.toNatClampNeg)).toNatClampNeg) <<< ((8 : Int32).toInt64 &&& 63)) ||| ((zI h (a + 7) x4.toNatClampNeg).toInt64)))]) rfl ?_
                refine z_goto 40 dX3_walkTo_203 rfl ?_
                cases hf
                refine z_sub [0, 1, 2, 3, 4] rfl ?_
                exact (hM.1 _ rfl) hL
              · refine z_lload 7 dX3_walkTo_159 rfl ?_
                refine z_aload_n 0 dX3_walkTo_161 rfl rfl ?_
                refine z_getr fdX3_61_2 (Or.inr ⟨_, rfl⟩) ((hL.b 0 rfl).t 0 rfl) ((hL.b 0 rfl).p 19 rfl) dX3_walkTo_162 ?_
                refine z_iload_n 3 dX3_walkTo_165 rfl rfl ?_
                obtain ⟨hi_26, hf⟩ := zck_some hf
                refine z_lald ((hL.b 0 rfl).t 20 rfl) hi_26 dX3_walkTo_166 ?_
                refine z_lcmp dX3_walkTo_167 ?_
                refine z_if_ge 200 dX3_walkTo_168 rfl hf (fun _ hf => ?_) (fun _ hf => ?_)
                · refine z_iinc 4 (x4 + 1) dX3_walkTo_200 rfl rfl (by decide) (lc' := [(0, .ref a), (1, .int x1), (2, .int x2), (3, .int x3), (4, .int (x4 + 1)), (5, .int (((4 : Int32) * x1) + (zI h (a + 6) x4.toNatClampNeg))), (6, .int ((zI h (a + 17) (((4 : Int32) * x1) + (zI h (a + 6) x4.toNatClampNeg)).toNatClampNeg) + 1)), (7, .long (((zL h (a + 18) (((4 : Int32) * x1) + (zI h (a + 6) x4.toNatClampNeg)).toNatClampNeg) <<< ((8 : Int32).toInt64 &&& 63)) ||| ((zI h (a + 7) x4.toNatClampNeg).toInt64)))]) rfl ?_
                  refine z_goto 40 dX3_walkTo_203 rfl ?_
                  cases hf
                  refine z_sub [0, 1, 2, 3, 4] rfl ?_
                  exact (hM.1 _ rfl) hL
                · refine z_sub [0, 1, 2, 3, 4, 6, 7] rfl ?_
                  exact zX3_walkTo_J171 hD hL hf hM
        · refine z_goto 200 dX3_walkTo_93 rfl ?_
          refine z_iinc 4 (x4 + 1) dX3_walkTo_200 rfl rfl (by decide) (lc' := [(0, .ref a), (1, .int x1), (2, .int x2), (3, .int x3), (4, .int (x4 + 1)), (5, .int (((4 : Int32) * x1) + (zI h (a + 6) x4.toNatClampNeg)))]) rfl ?_
          refine z_goto 40 dX3_walkTo_203 rfl ?_
          cases hf
          refine z_sub [0, 1, 2, 3, 4] rfl ?_
          exact (hM.1 _ rfl) hL
noncomputable def fX3_walkTo (h : zH) (a : Nat) (x1 : Int32) (x2 : Int32) : Option (zH) := zck (vp_in (((4 : Int32) * x1) + x2) 16) (zck (vp_in (((4 : Int32) * x1) + x2) 16) (zlet (zsI h (a + 19) (((4 : Int32) * x1) + x2).toNatClampNeg (zI h (a + 17) (((4 : Int32) * x1) + x2).toNatClampNeg)) (fun h_3 => zck (vp_in (((4 : Int32) * x1) + x2) 16) (zck (vp_in (((4 : Int32) * x1) + x2) 16) (zlet (zsL h_3 (a + 20) (((4 : Int32) * x1) + x2).toNatClampNeg (zL h_3 (a + 18) (((4 : Int32) * x1) + x2).toNatClampNeg)) (fun h_6 => zck (vp_in (((4 : Int32) * x1) + x2) 16) (zlet (zsI h_6 (a + 21) (((4 : Int32) * x1) + x2).toNatClampNeg x2) (fun h_8 => zlp (fun s => fX3_walkTo_L40 s.1 a x1 x2 (((4 : Int32) * x1) + x2) s.2) (h_8, 0)))))))))
theorem zX3_walkTo {F : zF} {h : zH} {a : Nat} {x1 : Int32} {x2 : Int32} {y : zH} (hD : 1 ≤ F.2.1) (hL : zCt [(tB, tP, a)] [] h) (hf : fX3_walkTo h a x1 x2 = some y) (hM : ((.inl none, y) : zX) = zEnd F) : Z F 9 cX3_walkTo RX3 "walkTo" none [] h 0 [(0, .ref a), (1, .int x1), (2, .int x2)] [] := by
  unfold fX3_walkTo at hf
  refine z_iconst 4 dX3_walkTo_0 rfl ?_
  refine z_iload_n 1 dX3_walkTo_1 rfl rfl ?_
  refine z_imul dX3_walkTo_2 ?_
  refine z_iload_n 2 dX3_walkTo_3 rfl rfl ?_
  refine z_iadd dX3_walkTo_4 ?_
  refine z_istore_n dX3_walkTo_5 rfl (by decide) (lc' := [(0, .ref a), (1, .int x1), (2, .int x2), (3, .int (((4 : Int32) * x1) + x2))]) rfl ?_
  refine z_aload_n 0 dX3_walkTo_6 rfl rfl ?_
  refine z_getr fdX3_58_2 (Or.inr ⟨_, rfl⟩) ((hL.b 0 rfl).t 0 rfl) ((hL.b 0 rfl).p 18 rfl) dX3_walkTo_7 ?_
  refine z_iload_n 3 dX3_walkTo_10 rfl rfl ?_
  refine z_aload_n 0 dX3_walkTo_11 rfl rfl ?_
  refine z_getr fdX3_51_2 (Or.inr ⟨_, rfl⟩) ((hL.b 0 rfl).t 0 rfl) ((hL.b 0 rfl).p 16 rfl) dX3_walkTo_12 ?_
  refine z_iload_n 3 dX3_walkTo_15 rfl rfl ?_
  obtain ⟨hi_1, hf⟩ := zck_some hf
  refine z_iald ((hL.b 0 rfl).t 17 rfl) hi_1 dX3_walkTo_16 ?_
  obtain ⟨hi_2, hf⟩ := zck_some hf
  obtain ⟨h_3, he, hf⟩ := zlet_some hf
  refine z_iast ((hL.b 0 rfl).t 19 rfl) ((hL.b 0 rfl).nz 19) hi_2 he dX3_walkTo_17 ?_
  have hL := hL.I he
  refine z_aload_n 0 dX3_walkTo_18 rfl rfl ?_
  refine z_getr fdX3_61_2 (Or.inr ⟨_, rfl⟩) ((hL.b 0 rfl).t 0 rfl) ((hL.b 0 rfl).p 19 rfl) dX3_walkTo_19 ?_
  refine z_iload_n 3 dX3_walkTo_22 rfl rfl ?_
  refine z_aload_n 0 dX3_walkTo_23 rfl rfl ?_
  refine z_getr fdX3_54_2 (Or.inr ⟨_, rfl⟩) ((hL.b 0 rfl).t 0 rfl) ((hL.b 0 rfl).p 17 rfl) dX3_walkTo_24 ?_
  refine z_iload_n 3 dX3_walkTo_27 rfl rfl ?_
  obtain ⟨hi_4, hf⟩ := zck_some hf
  refine z_lald ((hL.b 0 rfl).t 18 rfl) hi_4 dX3_walkTo_28 ?_
  obtain ⟨hi_5, hf⟩ := zck_some hf
  obtain ⟨h_6, he, hf⟩ := zlet_some hf
  refine z_last ((hL.b 0 rfl).t 20 rfl) ((hL.b 0 rfl).nz 20) hi_5 he dX3_walkTo_29 ?_
  have hL := hL.L he
  refine z_aload_n 0 dX3_walkTo_30 rfl rfl ?_
  refine z_getr fdX3_64_2 (Or.inr ⟨_, rfl⟩) ((hL.b 0 rfl).t 0 rfl) ((hL.b 0 rfl).p 20 rfl) dX3_walkTo_31 ?_
  refine z_iload_n 3 dX3_walkTo_34 rfl rfl ?_
  refine z_iload_n 2 dX3_walkTo_35 rfl rfl ?_
  obtain ⟨hi_7, hf⟩ := zck_some hf
  obtain ⟨h_8, he, hf⟩ := zlet_some hf
  refine z_iast ((hL.b 0 rfl).t 21 rfl) ((hL.b 0 rfl).nz 21) hi_7 he dX3_walkTo_36 ?_
  have hL := hL.I he
  refine z_iconst 0 dX3_walkTo_37 rfl ?_
  refine z_istore dX3_walkTo_38 (by decide) (lc' := [(0, .ref a), (1, .int x1), (2, .int x2), (3, .int (((4 : Int32) * x1) + x2)), (4, .int 0)]) rfl ?_
  exact z_loop (fun (s : zH × Int32) => (zCt [(tB, tP, a)] [] s.1 → Z F 9 cX3_walkTo RX3 "walkTo" none [] s.1 40 [(0, .ref a), (1, .int x1), (2, .int x2), (3, .int (((4 : Int32) * x1) + x2)), (4, .int s.2)] [])) (fun (r : zH) => ((.inl none, r) : zX) = zEnd F) (fun s y hb hs hr hL => zX3_walkTo_L40 hD hL hb ⟨hs, hr⟩) hf hM hL
theorem ctX3_walkTo {l : Launch} {h : zH} {a : Nat} {x1 : Int32} {x2 : Int32} {h' : zH} (hL : zCt [(tB, tP, a)] [] h) (hf : fX3_walkTo h a x1 x2 = some h') : zC l yX3_walkTo (ws_ yX3_walkTo cX3_walkTo 9 none) 1 [.ref a, .int x1, .int x2] h (.inl none, h') :=
  z_start (by decide) (Nat.le_of_ble_eq_true rfl) (zX3_walkTo (F := (l, 1, h, (.inl none, h'))) (Nat.le_refl _) hL hf rfl)
noncomputable def fX3_walk_L2 (h : zH) (a : Nat) (x1 : Int32) : Option ((zH × Int32) ⊕ (zH)) := if 16 ≤ x1 then (some (.inr h)) else (if (x1 - x1 / 5 * 5) = 0 then (zck (vp_in x1 16) (zlet (zsI h (a + 17) x1.toNatClampNeg 0) (fun h_6 => zck (vp_in x1 16) (zlet (zsL h_6 (a + 18) x1.toNatClampNeg 0) (fun h_8 => some (.inl ((h_8, x1 + 1)))))))) else (zck (vp_in x1 16) (zlet (zsI h (a + 17) x1.toNatClampNeg ((-1))) (fun h_2 => zck (vp_in x1 16) (zlet (zsL h_2 (a + 18) x1.toNatClampNeg 0) (fun h_4 => some (.inl ((h_4, x1 + 1)))))))))
theorem zX3_walk_L2 {F : zF} {h : zH} {a : Nat} {x1 : Int32} {y : (zH × Int32) ⊕ (zH)} (hD : 2 ≤ F.2.1) (hL : zCt [(tB, tP, a)] [] h) (hf : fX3_walk_L2 h a x1 = some y) (hM : ((∀ s' : zH × Int32, y = .inl s' → (zCt [(tB, tP, a)] [] s'.1 → Z F 5 cX3_walk RX3 "walk" none [] s'.1 2 [(0, .ref a), (1, .int s'.2)] [])) ∧ ∀ r : zH, y = .inr r → (zCt [(tB, tP, a)] [] r → Z F 5 cX3_walk RX3 "walk" none [] r 38 [(0, .ref a)] []))) : Z F 5 cX3_walk RX3 "walk" none [] h 2 [(0, .ref a), (1, .int x1)] [] := by
  unfold fX3_walk_L2 at hf
  refine z_iload_n 1 dX3_walk_2 rfl rfl ?_
  refine z_bipush 16 dX3_walk_3 rfl ?_
  refine z_icmp_ge 38 dX3_walk_5 rfl hf (fun _ hf => ?_) (fun _ hf => ?_)
  · cases hf
    refine z_sub [0] rfl ?_
    exact (hM.2 _ rfl) hL
  · refine z_aload_n 0 dX3_walk_8 rfl rfl ?_
    refine z_getr fdX3_51_2 (Or.inr ⟨_, rfl⟩) ((hL.b 0 rfl).t 0 rfl) ((hL.b 0 rfl).p 16 rfl) dX3_walk_9 ?_
    refine z_iload_n 1 dX3_walk_12 rfl rfl ?_
    refine z_iload_n 1 dX3_walk_13 rfl rfl ?_
    refine z_iconst 5 dX3_walk_14 rfl ?_
    refine z_irem dX3_walk_15 (by decide) ?_
    refine z_if_ne 23 dX3_walk_16 rfl hf (fun _ hf => ?_) (fun _ hf => ?_)
    · refine z_iconst (-1) dX3_walk_23 rfl ?_
      obtain ⟨hi_1, hf⟩ := zck_some hf
      obtain ⟨h_2, he, hf⟩ := zlet_some hf
      refine z_iast ((hL.b 0 rfl).t 17 rfl) ((hL.b 0 rfl).nz 17) hi_1 he dX3_walk_24 ?_
      have hL := hL.I he
      refine z_aload_n 0 dX3_walk_25 rfl rfl ?_
      refine z_getr fdX3_54_2 (Or.inr ⟨_, rfl⟩) ((hL.b 0 rfl).t 0 rfl) ((hL.b 0 rfl).p 17 rfl) dX3_walk_26 ?_
      refine z_iload_n 1 dX3_walk_29 rfl rfl ?_
      refine z_lconst 0 dX3_walk_30 rfl ?_
      obtain ⟨hi_3, hf⟩ := zck_some hf
      obtain ⟨h_4, he, hf⟩ := zlet_some hf
      refine z_last ((hL.b 0 rfl).t 18 rfl) ((hL.b 0 rfl).nz 18) hi_3 he dX3_walk_31 ?_
      have hL := hL.L he
      refine z_iinc 1 (x1 + 1) dX3_walk_32 rfl rfl (by decide) (lc' := [(0, .ref a), (1, .int (x1 + 1))]) rfl ?_
      refine z_goto 2 dX3_walk_35 rfl ?_
      cases hf
      exact (hM.1 _ rfl) hL
    · refine z_iconst 0 dX3_walk_19 rfl ?_
      refine z_goto 24 dX3_walk_20 rfl ?_
      obtain ⟨hi_5, hf⟩ := zck_some hf
      obtain ⟨h_6, he, hf⟩ := zlet_some hf
      refine z_iast ((hL.b 0 rfl).t 17 rfl) ((hL.b 0 rfl).nz 17) hi_5 he dX3_walk_24 ?_
      have hL := hL.I he
      refine z_aload_n 0 dX3_walk_25 rfl rfl ?_
      refine z_getr fdX3_54_2 (Or.inr ⟨_, rfl⟩) ((hL.b 0 rfl).t 0 rfl) ((hL.b 0 rfl).p 17 rfl) dX3_walk_26 ?_
      refine z_iload_n 1 dX3_walk_29 rfl rfl ?_
      refine z_lconst 0 dX3_walk_30 rfl ?_
      obtain ⟨hi_7, hf⟩ := zck_some hf
      obtain ⟨h_8, he, hf⟩ := zlet_some hf
      refine z_last ((hL.b 0 rfl).t 18 rfl) ((hL.b 0 rfl).nz 18) hi_7 he dX3_walk_31 ?_
      have hL := hL.L he
      refine z_iinc 1 (x1 + 1) dX3_walk_32 rfl rfl (by decide) (lc' := [(0, .ref a), (1, .int (x1 + 1))]) rfl ?_
      refine z_goto 2 dX3_walk_35 rfl ?_
      cases hf
      exact (hM.1 _ rfl) hL
theorem svX3_142_2 : zIv RX3 142 yX3_better (ws_ yX3_better cX3_better 7 none) 7 2 5 := ⟨zGood_c q792 q103, ⟨_, _, rfl, rfl, qs9⟩, Or.inl q789, q791, ⟨by decide, by decide⟩, by decide +kernel⟩
noncomputable def fX3_walk_L54 (h : zH) (a : Nat) (x1 : Int32) (x2 : Int32) (x3 : Int32) : Option ((zH × Int32) ⊕ (zH)) := if (zI h a 10) ≤ x3 then (some (.inr h)) else (zck (vp_in x3 10) (zck (vp_in x3 10) (if (zI h (a + 9) x3.toNatClampNeg) = 0 then (some (.inl ((h, x3 + 1)))) else (zck (vp_in (((4 : Int32) * x1) + (zI h (a + 6) x3.toNatClampNeg)) 16) (if (zI h (a + 17) (((4 : Int32) * x1) + (zI h (a + 6) x3.toNatClampNeg)).toNatClampNeg) = (x2 - 1) then (zck (vp_in x3 10) (zck (vp_in (((4 : Int32) * x1) + (zI h (a + 6) x3.toNatClampNeg)) 16) (zck (vp_in x3 10) (zb1 (fX3_better h a (a + 17) (a + 18) (((4 : Int32) * x1) + (zI h (a + 8) x3.toNatClampNeg)) x2 (((zL h (a + 18) (((4 : Int32) * x1) + (zI h (a + 6) x3.toNatClampNeg)).toNatClampNeg) <<< ((8 : Int32).toInt64 &&& 63)) ||| ((zI h (a + 7) x3.toNatClampNeg).toInt64))) (fun h_18 => some (.inl ((h_18, x3 + 1)))))))) else (some (.inl ((h, x3 + 1)))))))))
theorem zX3_walk_L54 {F : zF} {h : zH} {a : Nat} {x1 : Int32} {x2 : Int32} {x3 : Int32} {y : (zH × Int32) ⊕ (zH)} (hD : 2 ≤ F.2.1) (hL : zCt [(tB, tP, a)] [] h) (hf : fX3_walk_L54 h a x1 x2 x3 = some y) (hM : ((∀ s' : zH × Int32, y = .inl s' → (zCt [(tB, tP, a)] [] s'.1 → Z F 5 cX3_walk RX3 "walk" none [] s'.1 54 [(0, .ref a), (1, .int x1), (2, .int x2), (3, .int s'.2)] [])) ∧ ∀ r : zH, y = .inr r → (zCt [(tB, tP, a)] [] r → Z F 5 cX3_walk RX3 "walk" none [] r 143 [(0, .ref a), (1, .int x1), (2, .int x2)] []))) : Z F 5 cX3_walk RX3 "walk" none [] h 54 [(0, .ref a), (1, .int x1), (2, .int x2), (3, .int x3)] [] := by
  unfold fX3_walk_L54 at hf
  refine z_iload_n 3 dX3_walk_54 rfl rfl ?_
  refine z_aload_n 0 dX3_walk_55 rfl rfl ?_
  refine z_geti fdX3_75_2 ((hL.b 0 rfl).t 0 rfl) dX3_walk_56 ?_
  refine z_icmp_ge 143 dX3_walk_59 rfl hf (fun _ hf => ?_) (fun _ hf => ?_)
  · cases hf
    refine z_sub [0, 1, 2] rfl ?_
    exact (hM.2 _ rfl) hL
  · refine z_iconst 4 dX3_walk_62 rfl ?_
    refine z_iload_n 1 dX3_walk_63 rfl rfl ?_
    refine z_imul dX3_walk_64 ?_
    refine z_aload_n 0 dX3_walk_65 rfl rfl ?_
    refine z_getr fdX3_28_2 (Or.inr ⟨_, rfl⟩) ((hL.b 0 rfl).t 0 rfl) ((hL.b 0 rfl).p 5 rfl) dX3_walk_66 ?_
    refine z_iload_n 3 dX3_walk_69 rfl rfl ?_
    obtain ⟨hi_10, hf⟩ := zck_some hf
    refine z_iald ((hL.b 0 rfl).t 6 rfl) hi_10 dX3_walk_70 ?_
    refine z_iadd dX3_walk_71 ?_
    refine z_istore dX3_walk_72 (by decide) (lc' := [(0, .ref a), (1, .int x1), (2, .int x2), (3, .int x3), (4, .int (((4 : Int32) * x1) + (zI h (a + 6) x3.toNatClampNeg)))]) rfl ?_
    refine z_aload_n 0 dX3_walk_74 rfl rfl ?_
    refine z_getr fdX3_37_2 (Or.inr ⟨_, rfl⟩) ((hL.b 0 rfl).t 0 rfl) ((hL.b 0 rfl).p 8 rfl) dX3_walk_75 ?_
    refine z_iload_n 3 dX3_walk_78 rfl rfl ?_
    obtain ⟨hi_11, hf⟩ := zck_some hf
    refine z_zald ((hL.b 0 rfl).t 9 rfl) hi_11 dX3_walk_79 ?_
    refine z_if_eq 137 dX3_walk_80 rfl hf (fun _ hf => ?_) (fun _ hf => ?_)
    · refine z_iinc 3 (x3 + 1) dX3_walk_137 rfl rfl (by decide) (lc' := [(0, .ref a), (1, .int x1), (2, .int x2), (3, .int (x3 + 1)), (4, .int (((4 : Int32) * x1) + (zI h (a + 6) x3.toNatClampNeg)))]) rfl ?_
      refine z_goto 54 dX3_walk_140 rfl ?_
      cases hf
      refine z_sub [0, 1, 2, 3] rfl ?_
      exact (hM.1 _ rfl) hL
    · refine z_aload_n 0 dX3_walk_83 rfl rfl ?_
      refine z_getr fdX3_51_2 (Or.inr ⟨_, rfl⟩) ((hL.b 0 rfl).t 0 rfl) ((hL.b 0 rfl).p 16 rfl) dX3_walk_84 ?_
      refine z_iload 4 dX3_walk_87 rfl ?_
      obtain ⟨hi_12, hf⟩ := zck_some hf
      refine z_iald ((hL.b 0 rfl).t 17 rfl) hi_12 dX3_walk_89 ?_
      refine z_iload_n 2 dX3_walk_90 rfl rfl ?_
      refine z_iconst 1 dX3_walk_91 rfl ?_
      refine z_isub dX3_walk_92 ?_
      refine z_icmp_ne 137 dX3_walk_93 rfl hf (fun _ hf => ?_) (fun _ hf => ?_)
      · refine z_iinc 3 (x3 + 1) dX3_walk_137 rfl rfl (by decide) (lc' := [(0, .ref a), (1, .int x1), (2, .int x2), (3, .int (x3 + 1)), (4, .int (((4 : Int32) * x1) + (zI h (a + 6) x3.toNatClampNeg)))]) rfl ?_
        refine z_goto 54 dX3_walk_140 rfl ?_
        cases hf
        refine z_sub [0, 1, 2, 3] rfl ?_
        exact (hM.1 _ rfl) hL
      · refine z_aload_n 0 dX3_walk_96 rfl rfl ?_
        refine z_aload_n 0 dX3_walk_97 rfl rfl ?_
        refine z_getr fdX3_51_2 (Or.inr ⟨_, rfl⟩) ((hL.b 0 rfl).t 0 rfl) ((hL.b 0 rfl).p 16 rfl) dX3_walk_98 ?_
        refine z_aload_n 0 dX3_walk_101 rfl rfl ?_
        refine z_getr fdX3_54_2 (Or.inr ⟨_, rfl⟩) ((hL.b 0 rfl).t 0 rfl) ((hL.b 0 rfl).p 17 rfl) dX3_walk_102 ?_
        refine z_iconst 4 dX3_walk_105 rfl ?_
        refine z_iload_n 1 dX3_walk_106 rfl rfl ?_
        refine z_imul dX3_walk_107 ?_
        refine z_aload_n 0 dX3_walk_108 rfl rfl ?_
        refine z_getr fdX3_34_2 (Or.inr ⟨_, rfl⟩) ((hL.b 0 rfl).t 0 rfl) ((hL.b 0 rfl).p 7 rfl) dX3_walk_109 ?_
        refine z_iload_n 3 dX3_walk_112 rfl rfl ?_
        obtain ⟨hi_13, hf⟩ := zck_some hf
        refine z_iald ((hL.b 0 rfl).t 8 rfl) hi_13 dX3_walk_113 ?_
        refine z_iadd dX3_walk_114 ?_
        refine z_iload_n 2 dX3_walk_115 rfl rfl ?_
        refine z_aload_n 0 dX3_walk_116 rfl rfl ?_
        refine z_getr fdX3_54_2 (Or.inr ⟨_, rfl⟩) ((hL.b 0 rfl).t 0 rfl) ((hL.b 0 rfl).p 17 rfl) dX3_walk_117 ?_
        refine z_iload 4 dX3_walk_120 rfl ?_
        obtain ⟨hi_14, hf⟩ := zck_some hf
        refine z_lald ((hL.b 0 rfl).t 18 rfl) hi_14 dX3_walk_122 ?_
        refine z_bipush 8 dX3_walk_123 rfl ?_
        refine z_lshl dX3_walk_125 ?_
        refine z_aload_n 0 dX3_walk_126 rfl rfl ?_
        refine z_getr fdX3_31_2 (Or.inr ⟨_, rfl⟩) ((hL.b 0 rfl).t 0 rfl) ((hL.b 0 rfl).p 6 rfl) dX3_walk_127 ?_
        refine z_iload_n 3 dX3_walk_130 rfl rfl ?_
        obtain ⟨hi_15, hf⟩ := zck_some hf
        refine z_iald ((hL.b 0 rfl).t 7 rfl) hi_15 dX3_walk_131 ?_
        refine z_i2l dX3_walk_132 ?_
        refine z_lor dX3_walk_133 ?_
        obtain ⟨h_18, hc_16, hf⟩ := zb1_some hf
        have hct := ctX3_better (l := F.1) hL hc_16
        refine z_invVv svX3_142_2 hct ((hL.b 0 rfl).t 0 rfl) ⟨Nat.le_trans (by decide) hD, by decide⟩ rfl rfl (Nat.le_of_ble_eq_true rfl) dX3_walk_134 ?_
        have hL := hL.ext hct.1
        refine z_iinc 3 (x3 + 1) dX3_walk_137 rfl rfl (by decide) (lc' := [(0, .ref a), (1, .int x1), (2, .int x2), (3, .int (x3 + 1)), (4, .int (((4 : Int32) * x1) + (zI h (a + 6) x3.toNatClampNeg)))]) rfl ?_
        refine z_goto 54 dX3_walk_140 rfl ?_
        cases hf
        refine z_sub [0, 1, 2, 3] rfl ?_
        exact (hM.1 _ rfl) hL
noncomputable def fX3_walk_L47 (h : zH) (a : Nat) (x1 : Int32) (x2 : Int32) : Option ((zH × Int32) ⊕ (zH)) := if 4 ≤ x2 then (some (.inr h)) else (zb1 (zlp (fun s => fX3_walk_L54 s.1 a x1 x2 s.2) (h, 0)) (fun t_19 => some (.inl ((t_19, x2 + 1)))))
theorem zX3_walk_L47 {F : zF} {h : zH} {a : Nat} {x1 : Int32} {x2 : Int32} {y : (zH × Int32) ⊕ (zH)} (hD : 2 ≤ F.2.1) (hL : zCt [(tB, tP, a)] [] h) (hf : fX3_walk_L47 h a x1 x2 = some y) (hM : ((∀ s' : zH × Int32, y = .inl s' → (zCt [(tB, tP, a)] [] s'.1 → Z F 5 cX3_walk RX3 "walk" none [] s'.1 47 [(0, .ref a), (1, .int x1), (2, .int s'.2)] [])) ∧ ∀ r : zH, y = .inr r → (zCt [(tB, tP, a)] [] r → Z F 5 cX3_walk RX3 "walk" none [] r 149 [(0, .ref a), (1, .int x1)] []))) : Z F 5 cX3_walk RX3 "walk" none [] h 47 [(0, .ref a), (1, .int x1), (2, .int x2)] [] := by
  unfold fX3_walk_L47 at hf
  refine z_iload_n 2 dX3_walk_47 rfl rfl ?_
  refine z_iconst 4 dX3_walk_48 rfl ?_
  refine z_icmp_ge 149 dX3_walk_49 rfl hf (fun _ hf => ?_) (fun _ hf => ?_)
  · cases hf
    refine z_sub [0, 1] rfl ?_
    exact (hM.2 _ rfl) hL
  · refine z_iconst 0 dX3_walk_52 rfl ?_
    refine z_istore_n dX3_walk_53 rfl (by decide) (lc' := [(0, .ref a), (1, .int x1), (2, .int x2), (3, .int 0)]) rfl ?_
    obtain ⟨t_19, hl, hf⟩ := zb1_some hf
    refine z_loop (fun (s : zH × Int32) => (zCt [(tB, tP, a)] [] s.1 → Z F 5 cX3_walk RX3 "walk" none [] s.1 54 [(0, .ref a), (1, .int x1), (2, .int x2), (3, .int s.2)] [])) (fun (r : zH) => (zCt [(tB, tP, a)] [] r → Z F 5 cX3_walk RX3 "walk" none [] r 143 [(0, .ref a), (1, .int x1), (2, .int x2)] [])) (fun s y hb hs hr hL => zX3_walk_L54 hD hL hb ⟨hs, hr⟩) hl ?_ hL
    intro hL
    show Z F 5 cX3_walk RX3 "walk" none [] t_19 143 [(0, .ref a), (1, .int x1), (2, .int x2)] []
    refine z_iinc 2 (x2 + 1) dX3_walk_143 rfl rfl (by decide) (lc' := [(0, .ref a), (1, .int x1), (2, .int (x2 + 1))]) rfl ?_
    refine z_goto 47 dX3_walk_146 rfl ?_
    cases hf
    exact (hM.1 _ rfl) hL
theorem svX3_146_2 : zIv RX3 146 yX3_walkTo (ws_ yX3_walkTo cX3_walkTo 9 none) 9 2 2 := ⟨zGood_c q796 q103, ⟨_, _, rfl, rfl, qs10⟩, Or.inl q793, q795, ⟨by decide, by decide⟩, by decide +kernel⟩
noncomputable def fX3_walk_L151 (h : zH) (a : Nat) (x1 : Int32) (x2 : Int32) : Option ((zH × Int32) ⊕ (zH)) := if 4 ≤ x2 then (some (.inr h)) else (zb1 (fX3_walkTo h a x1 x2) (fun h_23 => some (.inl ((h_23, x2 + 1)))))
theorem zX3_walk_L151 {F : zF} {h : zH} {a : Nat} {x1 : Int32} {x2 : Int32} {y : (zH × Int32) ⊕ (zH)} (hD : 2 ≤ F.2.1) (hL : zCt [(tB, tP, a)] [] h) (hf : fX3_walk_L151 h a x1 x2 = some y) (hM : ((∀ s' : zH × Int32, y = .inl s' → (zCt [(tB, tP, a)] [] s'.1 → Z F 5 cX3_walk RX3 "walk" none [] s'.1 151 [(0, .ref a), (1, .int x1), (2, .int s'.2)] [])) ∧ ∀ r : zH, y = .inr r → (zCt [(tB, tP, a)] [] r → Z F 5 cX3_walk RX3 "walk" none [] r 168 [(0, .ref a), (1, .int x1)] []))) : Z F 5 cX3_walk RX3 "walk" none [] h 151 [(0, .ref a), (1, .int x1), (2, .int x2)] [] := by
  unfold fX3_walk_L151 at hf
  refine z_iload_n 2 dX3_walk_151 rfl rfl ?_
  refine z_iconst 4 dX3_walk_152 rfl ?_
  refine z_icmp_ge 168 dX3_walk_153 rfl hf (fun _ hf => ?_) (fun _ hf => ?_)
  · cases hf
    refine z_sub [0, 1] rfl ?_
    exact (hM.2 _ rfl) hL
  · refine z_aload_n 0 dX3_walk_156 rfl rfl ?_
    refine z_iload_n 1 dX3_walk_157 rfl rfl ?_
    refine z_iload_n 2 dX3_walk_158 rfl rfl ?_
    obtain ⟨h_23, hc_21, hf⟩ := zb1_some hf
    have hct := ctX3_walkTo (l := F.1) hL hc_21
    refine z_invVv svX3_146_2 hct ((hL.b 0 rfl).t 0 rfl) ⟨Nat.le_trans (by decide) hD, by decide⟩ rfl rfl (Nat.le_of_ble_eq_true rfl) dX3_walk_159 ?_
    have hL := hL.ext hct.1
    refine z_iinc 2 (x2 + 1) dX3_walk_162 rfl rfl (by decide) (lc' := [(0, .ref a), (1, .int x1), (2, .int (x2 + 1))]) rfl ?_
    refine z_goto 151 dX3_walk_165 rfl ?_
    cases hf
    exact (hM.1 _ rfl) hL
noncomputable def fX3_walk_L40 (h : zH) (a : Nat) (x1 : Int32) : Option ((zH × Int32) ⊕ (zH)) := if 4 ≤ x1 then (some (.inr h)) else (zb1 (zlp (fun s => fX3_walk_L47 s.1 a x1 s.2) (h, 1)) (fun t_20 => zb1 (zlp (fun s => fX3_walk_L151 s.1 a x1 s.2) (t_20, 0)) (fun t_24 => some (.inl ((t_24, x1 + 1))))))
theorem zX3_walk_L40 {F : zF} {h : zH} {a : Nat} {x1 : Int32} {y : (zH × Int32) ⊕ (zH)} (hD : 2 ≤ F.2.1) (hL : zCt [(tB, tP, a)] [] h) (hf : fX3_walk_L40 h a x1 = some y) (hM : ((∀ s' : zH × Int32, y = .inl s' → (zCt [(tB, tP, a)] [] s'.1 → Z F 5 cX3_walk RX3 "walk" none [] s'.1 40 [(0, .ref a), (1, .int s'.2)] [])) ∧ ∀ r : zH, y = .inr r → ((.inl none, r) : zX) = zEnd F)) : Z F 5 cX3_walk RX3 "walk" none [] h 40 [(0, .ref a), (1, .int x1)] [] := by
  unfold fX3_walk_L40 at hf
  refine z_iload_n 1 dX3_walk_40 rfl rfl ?_
  refine z_iconst 4 dX3_walk_41 rfl ?_
  refine z_icmp_ge 174 dX3_walk_42 rfl hf (fun _ hf => ?_) (fun _ hf => ?_)
  · cases hf
    exact z_vret dX3_walk_174 rfl (hM.2 _ rfl)
  · refine z_iconst 1 dX3_walk_45 rfl ?_
    refine z_istore_n dX3_walk_46 rfl (by decide) (lc' := [(0, .ref a), (1, .int x1), (2, .int 1)]) rfl ?_
    obtain ⟨t_20, hl, hf⟩ := zb1_some hf
    refine z_loop (fun (s : zH × Int32) => (zCt [(tB, tP, a)] [] s.1 → Z F 5 cX3_walk RX3 "walk" none [] s.1 47 [(0, .ref a), (1, .int x1), (2, .int s.2)] [])) (fun (r : zH) => (zCt [(tB, tP, a)] [] r → Z F 5 cX3_walk RX3 "walk" none [] r 149 [(0, .ref a), (1, .int x1)] [])) (fun s y hb hs hr hL => zX3_walk_L47 hD hL hb ⟨hs, hr⟩) hl ?_ hL
    intro hL
    show Z F 5 cX3_walk RX3 "walk" none [] t_20 149 [(0, .ref a), (1, .int x1)] []
    refine z_iconst 0 dX3_walk_149 rfl ?_
    refine z_istore_n dX3_walk_150 rfl (by decide) (lc' := [(0, .ref a), (1, .int x1), (2, .int 0)]) rfl ?_
    obtain ⟨t_24, hl, hf⟩ := zb1_some hf
    refine z_loop (fun (s : zH × Int32) => (zCt [(tB, tP, a)] [] s.1 → Z F 5 cX3_walk RX3 "walk" none [] s.1 151 [(0, .ref a), (1, .int x1), (2, .int s.2)] [])) (fun (r : zH) => (zCt [(tB, tP, a)] [] r → Z F 5 cX3_walk RX3 "walk" none [] r 168 [(0, .ref a), (1, .int x1)] [])) (fun s y hb hs hr hL => zX3_walk_L151 hD hL hb ⟨hs, hr⟩) hl ?_ hL
    intro hL
    show Z F 5 cX3_walk RX3 "walk" none [] t_24 168 [(0, .ref a), (1, .int x1)] []
    refine z_iinc 1 (x1 + 1) dX3_walk_168 rfl rfl (by decide) (lc' := [(0, .ref a), (1, .int (x1 + 1))]) rfl ?_
    refine z_goto 40 dX3_walk_171 rfl ?_
    cases hf
    exact (hM.1 _ rfl) hL
noncomputable def fX3_walk (h : zH) (a : Nat) : Option (zH) := zb1 (zlp (fun s => fX3_walk_L2 s.1 a s.2) (h, 0)) (fun t_9 => zlp (fun s => fX3_walk_L40 s.1 a s.2) (t_9, 0))
theorem zX3_walk {F : zF} {h : zH} {a : Nat} {y : zH} (hD : 2 ≤ F.2.1) (hL : zCt [(tB, tP, a)] [] h) (hf : fX3_walk h a = some y) (hM : ((.inl none, y) : zX) = zEnd F) : Z F 5 cX3_walk RX3 "walk" none [] h 0 [(0, .ref a)] [] := by
  unfold fX3_walk at hf
  refine z_iconst 0 dX3_walk_0 rfl ?_
  refine z_istore_n dX3_walk_1 rfl (by decide) (lc' := [(0, .ref a), (1, .int 0)]) rfl ?_
  obtain ⟨t_9, hl, hf⟩ := zb1_some hf
  refine z_loop (fun (s : zH × Int32) => (zCt [(tB, tP, a)] [] s.1 → Z F 5 cX3_walk RX3 "walk" none [] s.1 2 [(0, .ref a), (1, .int s.2)] [])) (fun (r : zH) => (zCt [(tB, tP, a)] [] r → Z F 5 cX3_walk RX3 "walk" none [] r 38 [(0, .ref a)] [])) (fun s y hb hs hr hL => zX3_walk_L2 hD hL hb ⟨hs, hr⟩) hl ?_ hL
  intro hL
  show Z F 5 cX3_walk RX3 "walk" none [] t_9 38 [(0, .ref a)] []
  refine z_iconst 0 dX3_walk_38 rfl ?_
  refine z_istore_n dX3_walk_39 rfl (by decide) (lc' := [(0, .ref a), (1, .int 0)]) rfl ?_
  exact z_loop (fun (s : zH × Int32) => (zCt [(tB, tP, a)] [] s.1 → Z F 5 cX3_walk RX3 "walk" none [] s.1 40 [(0, .ref a), (1, .int s.2)] [])) (fun (r : zH) => ((.inl none, r) : zX) = zEnd F) (fun s y hb hs hr hL => zX3_walk_L40 hD hL hb ⟨hs, hr⟩) hf hM hL
theorem ctX3_walk {l : Launch} {h : zH} {a : Nat} {h' : zH} (hL : zCt [(tB, tP, a)] [] h) (hf : fX3_walk h a = some h') : zC l yX3_walk (ws_ yX3_walk cX3_walk 5 none) 2 [.ref a] h (.inl none, h') :=
  z_start (by decide) (Nat.le_of_ble_eq_true rfl) (zX3_walk (F := (l, 2, h, (.inl none, h'))) (Nat.le_refl _) hL hf rfl)
noncomputable def fX3_next (h : zH) (a : Nat) (x1 : Int32) : Option (Int32) := if (x1 + 1) = (zI h a 4) then (some 100) else (some (x1 + 1))
theorem zX3_next {F : zF} {h : zH} {a : Nat} {x1 : Int32} {y : Int32} (hD : 1 ≤ F.2.1) (hL : zCt [(tB, tP, a)] [] h) (hf : fX3_next h a x1 = some y) (hM : ((.inl (some (.int y)), h) : zX) = zEnd F) : Z F 2 cX3_next RX3 "next" (some .int) [] h 0 [(0, .ref a), (1, .int x1)] [] := by
  unfold fX3_next at hf
  refine z_iload_n 1 dX3_next_0 rfl rfl ?_
  refine z_iconst 1 dX3_next_1 rfl ?_
  refine z_iadd dX3_next_2 ?_
  refine z_aload_n 0 dX3_next_3 rfl rfl ?_
  refine z_geti fdX3_71_2 ((hL.b 0 rfl).t 0 rfl) dX3_next_4 ?_
  refine z_icmp_ne 15 dX3_next_7 rfl hf (fun _ hf => ?_) (fun _ hf => ?_)
  · refine z_iload_n 1 dX3_next_15 rfl rfl ?_
    refine z_iconst 1 dX3_next_16 rfl ?_
    refine z_iadd dX3_next_17 ?_
    cases hf
    exact z_iret dX3_next_18 rfl hM
  · refine z_bipush 100 dX3_next_10 rfl ?_
    refine z_goto 18 dX3_next_12 rfl ?_
    cases hf
    exact z_iret dX3_next_18 rfl hM
theorem ctX3_next {l : Launch} {h : zH} {a : Nat} {x1 : Int32} {v : Int32} (hL : zCt [(tB, tP, a)] [] h) (hf : fX3_next h a x1 = some v) : zC l yX3_next (ws_ yX3_next cX3_next 2 (some .int)) 1 [.ref a, .int x1] h (.inl (some (.int v)), h) :=
  z_start (by decide) (Nat.le_of_ble_eq_true rfl) (zX3_next (F := (l, 1, h, (.inl (some (.int v)), h))) (Nat.le_refl _) hL hf rfl)
noncomputable def fX3_lengthOf (h : zH) (a : Nat) (x1 : Int32) : Option (Int32) := if 100 ≤ x1 then (some 1) else (zck (vp_in x1 100) (some (zI h (a + 3) x1.toNatClampNeg)))
theorem zX3_lengthOf {F : zF} {h : zH} {a : Nat} {x1 : Int32} {y : Int32} (hD : 1 ≤ F.2.1) (hL : zCt [(tB, tP, a)] [] h) (hf : fX3_lengthOf h a x1 = some y) (hM : ((.inl (some (.int y)), h) : zX) = zEnd F) : Z F 2 cX3_lengthOf RX3 "lengthOf" (some .int) [] h 0 [(0, .ref a), (1, .int x1)] [] := by
  unfold fX3_lengthOf at hf
  refine z_iload_n 1 dX3_lengthOf_0 rfl rfl ?_
  refine z_bipush 100 dX3_lengthOf_1 rfl ?_
  refine z_icmp_ge 15 dX3_lengthOf_3 rfl hf (fun _ hf => ?_) (fun _ hf => ?_)
  · refine z_iconst 1 dX3_lengthOf_15 rfl ?_
    cases hf
    exact z_iret dX3_lengthOf_16 rfl hM
  · refine z_aload_n 0 dX3_lengthOf_6 rfl rfl ?_
    refine z_getr fdX3_18_2 (Or.inr ⟨_, rfl⟩) ((hL.b 0 rfl).t 0 rfl) ((hL.b 0 rfl).p 2 rfl) dX3_lengthOf_7 ?_
    refine z_iload_n 1 dX3_lengthOf_10 rfl rfl ?_
    obtain ⟨hi_1, hf⟩ := zck_some hf
    refine z_iald ((hL.b 0 rfl).t 3 rfl) hi_1 dX3_lengthOf_11 ?_
    refine z_goto 16 dX3_lengthOf_12 rfl ?_
    cases hf
    exact z_iret dX3_lengthOf_16 rfl hM
theorem ctX3_lengthOf {l : Launch} {h : zH} {a : Nat} {x1 : Int32} {v : Int32} (hL : zCt [(tB, tP, a)] [] h) (hf : fX3_lengthOf h a x1 = some v) : zC l yX3_lengthOf (ws_ yX3_lengthOf cX3_lengthOf 2 (some .int)) 1 [.ref a, .int x1] h (.inl (some (.int v)), h) :=
  z_start (by decide) (Nat.le_of_ble_eq_true rfl) (zX3_lengthOf (F := (l, 1, h, (.inl (some (.int v)), h))) (Nat.le_refl _) hL hf rfl)
noncomputable def fX3_stateOf (h : zH) (a : Nat) (x1 : Int32) : Option (Int32) := if 100 ≤ x1 then (zck (vp_in (x1 - 100) 10) (some (zI h (a + 6) (x1 - 100).toNatClampNeg))) else (zck (vp_in x1 100) (some (zI h (a + 1) x1.toNatClampNeg)))
theorem zX3_stateOf {F : zF} {h : zH} {a : Nat} {x1 : Int32} {y : Int32} (hD : 1 ≤ F.2.1) (hL : zCt [(tB, tP, a)] [] h) (hf : fX3_stateOf h a x1 = some y) (hM : ((.inl (some (.int y)), h) : zX) = zEnd F) : Z F 2 cX3_stateOf RX3 "stateOf" (some .int) [] h 0 [(0, .ref a), (1, .int x1)] [] := by
  unfold fX3_stateOf at hf
  refine z_iload_n 1 dX3_stateOf_0 rfl rfl ?_
  refine z_bipush 100 dX3_stateOf_1 rfl ?_
  refine z_icmp_ge 15 dX3_stateOf_3 rfl hf (fun _ hf => ?_) (fun _ hf => ?_)
  · refine z_aload_n 0 dX3_stateOf_15 rfl rfl ?_
    refine z_getr fdX3_28_2 (Or.inr ⟨_, rfl⟩) ((hL.b 0 rfl).t 0 rfl) ((hL.b 0 rfl).p 5 rfl) dX3_stateOf_16 ?_
    refine z_iload_n 1 dX3_stateOf_19 rfl rfl ?_
    refine z_bipush 100 dX3_stateOf_20 rfl ?_
    refine z_isub dX3_stateOf_22 ?_
    obtain ⟨hi_1, hf⟩ := zck_some hf
    refine z_iald ((hL.b 0 rfl).t 6 rfl) hi_1 dX3_stateOf_23 ?_
    cases hf
    exact z_iret dX3_stateOf_24 rfl hM
  · refine z_aload_n 0 dX3_stateOf_6 rfl rfl ?_
    refine z_getr fdX3_9_2 (Or.inr ⟨_, rfl⟩) ((hL.b 0 rfl).t 0 rfl) ((hL.b 0 rfl).p 0 rfl) dX3_stateOf_7 ?_
    refine z_iload_n 1 dX3_stateOf_10 rfl rfl ?_
    obtain ⟨hi_2, hf⟩ := zck_some hf
    refine z_iald ((hL.b 0 rfl).t 1 rfl) hi_2 dX3_stateOf_11 ?_
    refine z_goto 24 dX3_stateOf_12 rfl ?_
    cases hf
    exact z_iret dX3_stateOf_24 rfl hM
theorem ctX3_stateOf {l : Launch} {h : zH} {a : Nat} {x1 : Int32} {v : Int32} (hL : zCt [(tB, tP, a)] [] h) (hf : fX3_stateOf h a x1 = some v) : zC l yX3_stateOf (ws_ yX3_stateOf cX3_stateOf 2 (some .int)) 1 [.ref a, .int x1] h (.inl (some (.int v)), h) :=
  z_start (by decide) (Nat.le_of_ble_eq_true rfl) (zX3_stateOf (F := (l, 1, h, (.inl (some (.int v)), h))) (Nat.le_refl _) hL hf rfl)
noncomputable def fX3_keyOf (h : zH) (a : Nat) (x1 : Int32) : Option (Int32) := if 100 ≤ x1 then (zck (vp_in (x1 - 100) 10) (some ((zI h (a + 7) (x1 - 100).toNatClampNeg) <<< (16 &&& 31)))) else (zck (vp_in x1 100) (zck (vp_in x1 100) (some ((zI h (a + 2) x1.toNatClampNeg) <<< (((8 : Int32) * ((3 : Int32) - (zI h (a + 3) x1.toNatClampNeg))) &&& 31)))))
theorem zX3_keyOf {F : zF} {h : zH} {a : Nat} {x1 : Int32} {y : Int32} (hD : 1 ≤ F.2.1) (hL : zCt [(tB, tP, a)] [] h) (hf : fX3_keyOf h a x1 = some y) (hM : ((.inl (some (.int y)), h) : zX) = zEnd F) : Z F 2 cX3_keyOf RX3 "keyOf" (some .int) [] h 0 [(0, .ref a), (1, .int x1)] [] := by
  unfold fX3_keyOf at hf
  refine z_iload_n 1 dX3_keyOf_0 rfl rfl ?_
  refine z_bipush 100 dX3_keyOf_1 rfl ?_
  refine z_icmp_ge 27 dX3_keyOf_3 rfl hf (fun _ hf => ?_) (fun _ hf => ?_)
  · refine z_aload_n 0 dX3_keyOf_27 rfl rfl ?_
    refine z_getr fdX3_31_2 (Or.inr ⟨_, rfl⟩) ((hL.b 0 rfl).t 0 rfl) ((hL.b 0 rfl).p 6 rfl) dX3_keyOf_28 ?_
    refine z_iload_n 1 dX3_keyOf_31 rfl rfl ?_
    refine z_bipush 100 dX3_keyOf_32 rfl ?_
    refine z_isub dX3_keyOf_34 ?_
    obtain ⟨hi_1, hf⟩ := zck_some hf
    refine z_iald ((hL.b 0 rfl).t 7 rfl) hi_1 dX3_keyOf_35 ?_
    refine z_bipush 16 dX3_keyOf_36 rfl ?_
    refine z_ishl dX3_keyOf_38 ?_
    cases hf
    exact z_iret dX3_keyOf_39 rfl hM
  · refine z_aload_n 0 dX3_keyOf_6 rfl rfl ?_
    refine z_getr fdX3_15_2 (Or.inr ⟨_, rfl⟩) ((hL.b 0 rfl).t 0 rfl) ((hL.b 0 rfl).p 1 rfl) dX3_keyOf_7 ?_
    refine z_iload_n 1 dX3_keyOf_10 rfl rfl ?_
    obtain ⟨hi_2, hf⟩ := zck_some hf
    refine z_iald ((hL.b 0 rfl).t 2 rfl) hi_2 dX3_keyOf_11 ?_
    refine z_bipush 8 dX3_keyOf_12 rfl ?_
    refine z_iconst 3 dX3_keyOf_14 rfl ?_
    refine z_aload_n 0 dX3_keyOf_15 rfl rfl ?_
    refine z_getr fdX3_18_2 (Or.inr ⟨_, rfl⟩) ((hL.b 0 rfl).t 0 rfl) ((hL.b 0 rfl).p 2 rfl) dX3_keyOf_16 ?_
    refine z_iload_n 1 dX3_keyOf_19 rfl rfl ?_
    obtain ⟨hi_3, hf⟩ := zck_some hf
    refine z_iald ((hL.b 0 rfl).t 3 rfl) hi_3 dX3_keyOf_20 ?_
    refine z_isub dX3_keyOf_21 ?_
    refine z_imul dX3_keyOf_22 ?_
    refine z_ishl dX3_keyOf_23 ?_
    refine z_goto 39 dX3_keyOf_24 rfl ?_
    cases hf
    exact z_iret dX3_keyOf_39 rfl hM
theorem ctX3_keyOf {l : Launch} {h : zH} {a : Nat} {x1 : Int32} {v : Int32} (hL : zCt [(tB, tP, a)] [] h) (hf : fX3_keyOf h a x1 = some v) : zC l yX3_keyOf (ws_ yX3_keyOf cX3_keyOf 2 (some .int)) 1 [.ref a, .int x1] h (.inl (some (.int v)), h) :=
  z_start (by decide) (Nat.le_of_ble_eq_true rfl) (zX3_keyOf (F := (l, 1, h, (.inl (some (.int v)), h))) (Nat.le_refl _) hL hf rfl)
theorem svX3_86_2 : zIv RX3 86 yX3_lengthOf (ws_ yX3_lengthOf cX3_lengthOf 2 (some .int)) 2 2 1 := ⟨zGood_c q812 q103, ⟨_, _, rfl, rfl, qs14⟩, Or.inl q809, q811, ⟨by decide, by decide⟩, by decide +kernel⟩
theorem svX3_96_2 : zIv RX3 96 yX3_stateOf (ws_ yX3_stateOf cX3_stateOf 2 (some .int)) 2 2 1 := ⟨zGood_c q819 q103, ⟨_, _, rfl, rfl, qs15⟩, Or.inl q816, q818, ⟨by decide, by decide⟩, by decide +kernel⟩
theorem svX3_99_2 : zIv RX3 99 yX3_keyOf (ws_ yX3_keyOf cX3_keyOf 2 (some .int)) 2 2 1 := ⟨zGood_c q823 q103, ⟨_, _, rfl, rfl, qs16⟩, Or.inl q820, q822, ⟨by decide, by decide⟩, by decide +kernel⟩
noncomputable def fX3_clash (h : zH) (a : Nat) (x1 : Int32) (x2 : Int32) : Option (Int32) := zb1 (fX3_lengthOf h a x1) (fun v_2 => zb1 (fX3_lengthOf h a x2) (fun v_4 => zb1 (fX3_stateOf h a x1) (fun v_6 => zb1 (fX3_stateOf h a x2) (fun v_8 => if v_6 = v_8 then (zb1 (fX3_keyOf h a x1) (fun v_10 => zb1 (fX3_keyOf h a x2) (fun v_12 => if (v_10 >>> (((8 : Int32) * ((3 : Int32) - (if v_4 < v_2 then v_4 else v_2))) &&& 31)) = (v_12 >>> (((8 : Int32) * ((3 : Int32) - (if v_4 < v_2 then v_4 else v_2))) &&& 31)) then (some 1) else (some 0)))) else (some 0)))))
theorem zX3_clash {F : zF} {h : zH} {a : Nat} {x1 : Int32} {x2 : Int32} {y : Int32} (hD : 2 ≤ F.2.1) (hL : zCt [(tB, tP, a)] [] h) (hf : fX3_clash h a x1 x2 = some y) (hM : ((.inl (some (.int y)), h) : zX) = zEnd F) : Z F 4 cX3_clash RX3 "clash" (some .boolean) [] h 0 [(0, .ref a), (1, .int x1), (2, .int x2)] [] := by
  unfold fX3_clash at hf
  refine z_bipush 8 dX3_clash_0 rfl ?_
  refine z_iconst 3 dX3_clash_2 rfl ?_
  refine z_aload_n 0 dX3_clash_3 rfl rfl ?_
  refine z_iload_n 1 dX3_clash_4 rfl rfl ?_
  obtain ⟨v_2, hc_1, hf⟩ := zb1_some hf
  refine z_invVi svX3_86_2 (ctX3_lengthOf hL hc_1) ((hL.b 0 rfl).t 0 rfl) ⟨Nat.le_trans (by decide) hD, by decide⟩ rfl rfl (Nat.le_of_ble_eq_true rfl) dX3_clash_5 ?_
  refine z_aload_n 0 dX3_clash_8 rfl rfl ?_
  refine z_iload_n 2 dX3_clash_9 rfl rfl ?_
  obtain ⟨v_4, hc_3, hf⟩ := zb1_some hf
  refine z_invVi svX3_86_2 (ctX3_lengthOf hL hc_3) ((hL.b 0 rfl).t 0 rfl) ⟨Nat.le_trans (by decide) hD, by decide⟩ rfl rfl (Nat.le_of_ble_eq_true rfl) dX3_clash_10 ?_
  refine z_mmin q813 q814 q119 q815 (Nat.le_trans (by decide) hD) (Nat.le_of_ble_eq_true rfl) dX3_clash_13 ?_
  refine z_isub dX3_clash_16 ?_
  refine z_imul dX3_clash_17 ?_
  refine z_istore_n dX3_clash_18 rfl (by decide) (lc' := [(0, .ref a), (1, .int x1), (2, .int x2), (3, .int ((8 : Int32) * ((3 : Int32) - (if v_4 < v_2 then v_4 else v_2))))]) rfl ?_
  refine z_aload_n 0 dX3_clash_19 rfl rfl ?_
  refine z_iload_n 1 dX3_clash_20 rfl rfl ?_
  obtain ⟨v_6, hc_5, hf⟩ := zb1_some hf
  refine z_invVi svX3_96_2 (ctX3_stateOf hL hc_5) ((hL.b 0 rfl).t 0 rfl) ⟨Nat.le_trans (by decide) hD, by decide⟩ rfl rfl (Nat.le_of_ble_eq_true rfl) dX3_clash_21 ?_
  refine z_aload_n 0 dX3_clash_24 rfl rfl ?_
  refine z_iload_n 2 dX3_clash_25 rfl rfl ?_
  obtain ⟨v_8, hc_7, hf⟩ := zb1_some hf
  refine z_invVi svX3_96_2 (ctX3_stateOf hL hc_7) ((hL.b 0 rfl).t 0 rfl) ⟨Nat.le_trans (by decide) hD, by decide⟩ rfl rfl (Nat.le_of_ble_eq_true rfl) dX3_clash_26 ?_
  refine z_icmp_ne 53 dX3_clash_29 rfl hf (fun _ hf => ?_) (fun _ hf => ?_)
  · refine z_iconst 0 dX3_clash_53 rfl ?_
    cases hf
    exact z_zret dX3_clash_54 rfl (Or.inl rfl) hM
  · refine z_aload_n 0 dX3_clash_32 rfl rfl ?_
    refine z_iload_n 1 dX3_clash_33 rfl rfl ?_
    obtain ⟨v_10, hc_9, hf⟩ := zb1_some hf
    refine z_invVi svX3_99_2 (ctX3_keyOf hL hc_9) ((hL.b 0 rfl).t 0 rfl) ⟨Nat.le_trans (by decide) hD, by decide⟩ rfl rfl (Nat.le_of_ble_eq_true rfl) dX3_clash_34 ?_
    refine z_iload_n 3 dX3_clash_37 rfl rfl ?_
    refine z_ishr dX3_clash_38 ?_
    refine z_aload_n 0 dX3_clash_39 rfl rfl ?_
    refine z_iload_n 2 dX3_clash_40 rfl rfl ?_
    obtain ⟨v_12, hc_11, hf⟩ := zb1_some hf
    refine z_invVi svX3_99_2 (ctX3_keyOf hL hc_11) ((hL.b 0 rfl).t 0 rfl) ⟨Nat.le_trans (by decide) hD, by decide⟩ rfl rfl (Nat.le_of_ble_eq_true rfl) dX3_clash_41 ?_
    refine z_iload_n 3 dX3_clash_44 rfl rfl ?_
    refine z_ishr dX3_clash_45 ?_
    refine z_icmp_ne 53 dX3_clash_46 rfl hf (fun _ hf => ?_) (fun _ hf => ?_)
    · refine z_iconst 0 dX3_clash_53 rfl ?_
      cases hf
      exact z_zret dX3_clash_54 rfl (Or.inl rfl) hM
    · refine z_iconst 1 dX3_clash_49 rfl ?_
      refine z_goto 54 dX3_clash_50 rfl ?_
      cases hf
      exact z_zret dX3_clash_54 rfl (Or.inr rfl) hM
theorem ctX3_clash {l : Launch} {h : zH} {a : Nat} {x1 : Int32} {x2 : Int32} {v : Int32} (hL : zCt [(tB, tP, a)] [] h) (hf : fX3_clash h a x1 x2 = some v) : zC l yX3_clash (ws_ yX3_clash cX3_clash 4 (some .boolean)) 2 [.ref a, .int x1, .int x2] h (.inl (some (.int v)), h) :=
  z_start (by decide) (Nat.le_of_ble_eq_true rfl) (zX3_clash (F := (l, 2, h, (.inl (some (.int v)), h))) (Nat.le_refl _) hL hf rfl)
theorem fdX3_102_2 : zFd RX3 102 2 24 .int false := ⟨_, _, _, rfl, rfl, by decide, rfl, rfl, Or.inl q258, Or.inl rfl⟩
theorem fdX3_105_2 : zFd RX3 105 2 25 .int false := ⟨_, _, _, rfl, rfl, by decide, rfl, rfl, Or.inl q260, Or.inl rfl⟩
theorem fdX3_108_2 : zFd RX3 108 2 26 .int false := ⟨_, _, _, rfl, rfl, by decide, rfl, rfl, Or.inl q262, Or.inl rfl⟩
noncomputable def fX3_breaks (h : zH) (a : Nat) (x1 : Int32) (x2 : Int32) (x3 : Int32) : Option (Int32 × zH) := zlet (zsI h a 24 x1) (fun h_1 => zlet (zsI h_1 a 25 x2) (fun h_2 => zlet (zsI h_2 a 26 x3) (fun h_3 => some ((1, h_3)))))
theorem zX3_breaks {F : zF} {h : zH} {a : Nat} {x1 : Int32} {x2 : Int32} {x3 : Int32} {y : Int32 × zH} (hD : 1 ≤ F.2.1) (hL : zCt [(tB, tP, a)] [] h) (hf : fX3_breaks h a x1 x2 x3 = some y) (hM : ((.inl (some (.int y.1)), y.2) : zX) = zEnd F) : Z F 4 cX3_breaks RX3 "breaks" (some .boolean) [] h 0 [(0, .ref a), (1, .int x1), (2, .int x2), (3, .int x3)] [] := by
  unfold fX3_breaks at hf
  refine z_aload_n 0 dX3_breaks_0 rfl rfl ?_
  refine z_iload_n 1 dX3_breaks_1 rfl rfl ?_
  obtain ⟨h_1, he, hf⟩ := zlet_some hf
  refine z_puti fdX3_102_2 ((hL.b 0 rfl).t 0 rfl) ((hL.b 0 rfl).nz 0) he dX3_breaks_2 ?_
  have hL := hL.I he
  refine z_aload_n 0 dX3_breaks_5 rfl rfl ?_
  refine z_iload_n 2 dX3_breaks_6 rfl rfl ?_
  obtain ⟨h_2, he, hf⟩ := zlet_some hf
  refine z_puti fdX3_105_2 ((hL.b 0 rfl).t 0 rfl) ((hL.b 0 rfl).nz 0) he dX3_breaks_7 ?_
  have hL := hL.I he
  refine z_aload_n 0 dX3_breaks_10 rfl rfl ?_
  refine z_iload_n 3 dX3_breaks_11 rfl rfl ?_
  obtain ⟨h_3, he, hf⟩ := zlet_some hf
  refine z_puti fdX3_108_2 ((hL.b 0 rfl).t 0 rfl) ((hL.b 0 rfl).nz 0) he dX3_breaks_12 ?_
  have hL := hL.I he
  refine z_iconst 1 dX3_breaks_15 rfl ?_
  cases hf
  exact z_zret dX3_breaks_16 rfl (Or.inr rfl) hM
theorem ctX3_breaks {l : Launch} {h : zH} {a : Nat} {x1 : Int32} {x2 : Int32} {x3 : Int32} {v : Int32} {h' : zH} (hL : zCt [(tB, tP, a)] [] h) (hf : fX3_breaks h a x1 x2 x3 = some (v, h')) : zC l yX3_breaks (ws_ yX3_breaks cX3_breaks 4 (some .boolean)) 1 [.ref a, .int x1, .int x2, .int x3] h (.inl (some (.int v)), h') :=
  z_start (by decide) (Nat.le_of_ble_eq_true rfl) (zX3_breaks (F := (l, 1, h, (.inl (some (.int v)), h'))) (Nat.le_refl _) hL hf rfl)
theorem svX3_111_2 : zIv RX3 111 yX3_next (ws_ yX3_next cX3_next 2 (some .int)) 2 2 1 := ⟨zGood_c q804 q103, ⟨_, _, rfl, rfl, qs12⟩, Or.inl q801, q803, ⟨by decide, by decide⟩, by decide +kernel⟩
theorem svX3_114_2 : zIv RX3 114 yX3_clash (ws_ yX3_clash cX3_clash 4 (some .boolean)) 4 2 2 := ⟨zGood_c q808 q103, ⟨_, _, rfl, rfl, qs13⟩, Or.inl q805, q807, ⟨by decide, by decide⟩, by decide +kernel⟩
theorem svX3_118_2 : zIv RX3 118 yX3_breaks (ws_ yX3_breaks cX3_breaks 4 (some .boolean)) 4 2 3 := ⟨zGood_c q827 q103, ⟨_, _, rfl, rfl, qs17⟩, Or.inl q824, q826, ⟨by decide, by decide⟩, by decide +kernel⟩
noncomputable def fX3_isClashing_L33 (h : zH) (a : Nat) (x1 : Int32) (x2 : Int32) (x3 : Int32) : Option ((Int32) ⊕ ((Unit) ⊕ ((Int32) ⊕ ((Int32 × zH))))) := if x1 ≤ x3 then (some (.inr (.inl (())))) else (zb1 (fX3_clash h a x2 x3) (fun v_4 => if v_4 = 0 then (zb1 (fX3_next h a x3) (fun v_6 => some (.inl v_6))) else (zb2 (fX3_breaks h a 1 x2 x3) (fun v_8 h_9 => zck (zB v_8) (some (.inr (.inr (.inr ((v_8, h_9))))))))))
theorem zX3_isClashing_L33 {F : zF} {h : zH} {a : Nat} {x1 : Int32} {x2 : Int32} {x3 : Int32} {y : (Int32) ⊕ ((Unit) ⊕ ((Int32) ⊕ ((Int32 × zH))))} (hD : 3 ≤ F.2.1) (hL : zCt [(tB, tP, a)] [] h) (hf : fX3_isClashing_L33 h a x1 x2 x3 = some y) (hM : ((∀ s' : Int32, y = .inl s' → Z F 4 cX3_isClashing RX3 "isClashing" (some .boolean) [] h 33 [(0, .ref a), (1, .int x1), (2, .int x2), (3, .int s')] []) ∧ ∀ r : (Unit) ⊕ ((Int32) ⊕ ((Int32 × zH))), y = .inr r → (match r with | .inl t => Z F 4 cX3_isClashing RX3 "isClashing" (some .boolean) [] h 64 [(0, .ref a), (1, .int x1), (2, .int x2)] [] | .inr z => ((∀ s' : Int32, z = .inl s' → Z F 4 cX3_isClashing RX3 "isClashing" (some .boolean) [] h 22 [(0, .ref a), (1, .int x1), (2, .int s')] []) ∧ ∀ r : (Int32 × zH), z = .inr r → ((.inl (some (.int r.1)), r.2) : zX) = zEnd F)))) : Z F 4 cX3_isClashing RX3 "isClashing" (some .boolean) [] h 33 [(0, .ref a), (1, .int x1), (2, .int x2), (3, .int x3)] [] := by
  unfold fX3_isClashing_L33 at hf
  refine z_iload_n 3 dX3_isClashing_33 rfl rfl ?_
  refine z_iload_n 1 dX3_isClashing_34 rfl rfl ?_
  refine z_icmp_ge 64 dX3_isClashing_35 rfl hf (fun _ hf => ?_) (fun _ hf => ?_)
  · cases hf
    refine z_sub [0, 1, 2] rfl ?_
    exact (hM.2 _ rfl)
  · refine z_aload_n 0 dX3_isClashing_38 rfl rfl ?_
    refine z_iload_n 2 dX3_isClashing_39 rfl rfl ?_
    refine z_iload_n 3 dX3_isClashing_40 rfl rfl ?_
    obtain ⟨v_4, hc_3, hf⟩ := zb1_some hf
    refine z_invVi svX3_114_2 (ctX3_clash hL hc_3) ((hL.b 0 rfl).t 0 rfl) ⟨Nat.le_trans (by decide) hD, by decide⟩ rfl rfl (Nat.le_of_ble_eq_true rfl) dX3_isClashing_41 ?_
    refine z_if_eq 55 dX3_isClashing_44 rfl hf (fun _ hf => ?_) (fun _ hf => ?_)
    · refine z_aload_n 0 dX3_isClashing_55 rfl rfl ?_
      refine z_iload_n 3 dX3_isClashing_56 rfl rfl ?_
      obtain ⟨v_6, hc_5, hf⟩ := zb1_some hf
      refine z_invVi svX3_111_2 (ctX3_next hL hc_5) ((hL.b 0 rfl).t 0 rfl) ⟨Nat.le_trans (by decide) hD, by decide⟩ rfl rfl (Nat.le_of_ble_eq_true rfl) dX3_isClashing_57 ?_
      refine z_istore_n dX3_isClashing_60 rfl (by decide) (lc' := [(0, .ref a), (1, .int x1), (2, .int x2), (3, .int v_6)]) rfl ?_
      refine z_goto 33 dX3_isClashing_61 rfl ?_
      cases hf
      exact (hM.1 _ rfl)
    · refine z_aload_n 0 dX3_isClashing_47 rfl rfl ?_
      refine z_iconst 1 dX3_isClashing_48 rfl ?_
      refine z_iload_n 2 dX3_isClashing_49 rfl rfl ?_
      refine z_iload_n 3 dX3_isClashing_50 rfl rfl ?_
      obtain ⟨v_8, h_9, hc_7, hf⟩ := zb2_some hf
      have hct := ctX3_breaks (l := F.1) hL hc_7
      refine z_invVi svX3_118_2 hct ((hL.b 0 rfl).t 0 rfl) ⟨Nat.le_trans (by decide) hD, by decide⟩ rfl rfl (Nat.le_of_ble_eq_true rfl) dX3_isClashing_51 ?_
      have hL := hL.ext hct.1
      obtain ⟨hz_10, hf⟩ := zck_some hf
      cases hf
      exact z_zret dX3_isClashing_54 rfl hz_10 ((hM.2 _ rfl).2 _ rfl)
noncomputable def fX3_isClashing_L22 (h : zH) (a : Nat) (x1 : Int32) (x2 : Int32) : Option ((Int32) ⊕ ((Int32 × zH))) := if x1 ≤ x2 then (some (.inr ((0, h)))) else (zb1 (fX3_next h a x2) (fun v_2 => zlx (zlp (fun s => fX3_isClashing_L33 h a x1 x2 s) v_2) (fun t_11 => zb1 (fX3_next h a x2) (fun v_13 => some (.inl v_13)))))
theorem zX3_isClashing_L22 {F : zF} {h : zH} {a : Nat} {x1 : Int32} {x2 : Int32} {y : (Int32) ⊕ ((Int32 × zH))} (hD : 3 ≤ F.2.1) (hL : zCt [(tB, tP, a)] [] h) (hf : fX3_isClashing_L22 h a x1 x2 = some y) (hM : ((∀ s' : Int32, y = .inl s' → Z F 4 cX3_isClashing RX3 "isClashing" (some .boolean) [] h 22 [(0, .ref a), (1, .int x1), (2, .int s')] []) ∧ ∀ r : (Int32 × zH), y = .inr r → ((.inl (some (.int r.1)), r.2) : zX) = zEnd F)) : Z F 4 cX3_isClashing RX3 "isClashing" (some .boolean) [] h 22 [(0, .ref a), (1, .int x1), (2, .int x2)] [] := by
  unfold fX3_isClashing_L22 at hf
  refine z_iload_n 2 dX3_isClashing_22 rfl rfl ?_
  refine z_iload_n 1 dX3_isClashing_23 rfl rfl ?_
  refine z_icmp_ge 73 dX3_isClashing_24 rfl hf (fun _ hf => ?_) (fun _ hf => ?_)
  · refine z_iconst 0 dX3_isClashing_73 rfl ?_
    cases hf
    exact z_zret dX3_isClashing_74 rfl (Or.inl rfl) (hM.2 _ rfl)
  · refine z_aload_n 0 dX3_isClashing_27 rfl rfl ?_
    refine z_iload_n 2 dX3_isClashing_28 rfl rfl ?_
    obtain ⟨v_2, hc_1, hf⟩ := zb1_some hf
    refine z_invVi svX3_111_2 (ctX3_next hL hc_1) ((hL.b 0 rfl).t 0 rfl) ⟨Nat.le_trans (by decide) hD, by decide⟩ rfl rfl (Nat.le_of_ble_eq_true rfl) dX3_isClashing_29 ?_
    refine z_istore_n dX3_isClashing_32 rfl (by decide) (lc' := [(0, .ref a), (1, .int x1), (2, .int x2), (3, .int v_2)]) rfl ?_
    obtain ⟨rr, hl, hf⟩ := zlx_some hf
    refine z_loop (fun (s : Int32) => Z F 4 cX3_isClashing RX3 "isClashing" (some .boolean) [] h 33 [(0, .ref a), (1, .int x1), (2, .int x2), (3, .int s)] []) (fun (r : (Unit) ⊕ ((Int32) ⊕ ((Int32 × zH)))) => (match r with | .inl t => Z F 4 cX3_isClashing RX3 "isClashing" (some .boolean) [] h 64 [(0, .ref a), (1, .int x1), (2, .int x2)] [] | .inr z => ((∀ s' : Int32, z = .inl s' → Z F 4 cX3_isClashing RX3 "isClashing" (some .boolean) [] h 22 [(0, .ref a), (1, .int x1), (2, .int s')] []) ∧ ∀ r : (Int32 × zH), z = .inr r → ((.inl (some (.int r.1)), r.2) : zX) = zEnd F))) (fun s y hb hs hr => zX3_isClashing_L33 hD hL hb ⟨hs, hr⟩) hl ?_
    rcases hf with ⟨t_11, rfl, hf⟩ | rfl
    · show Z F 4 cX3_isClashing RX3 "isClashing" (some .boolean) [] h 64 [(0, .ref a), (1, .int x1), (2, .int x2)] []
      refine z_aload_n 0 dX3_isClashing_64 rfl rfl ?_
      refine z_iload_n 2 dX3_isClashing_65 rfl rfl ?_
      obtain ⟨v_13, hc_12, hf⟩ := zb1_some hf
      refine z_invVi svX3_111_2 (ctX3_next hL hc_12) ((hL.b 0 rfl).t 0 rfl) ⟨Nat.le_trans (by decide) hD, by decide⟩ rfl rfl (Nat.le_of_ble_eq_true rfl) dX3_isClashing_66 ?_
      refine z_istore_n dX3_isClashing_69 rfl (by decide) (lc' := [(0, .ref a), (1, .int x1), (2, .int v_13)]) rfl ?_
      refine z_goto 22 dX3_isClashing_70 rfl ?_
      cases hf
      exact (hM.1 _ rfl)
    · exact hM
noncomputable def fX3_isClashing_J21 (h : zH) (a : Nat) (x1 : Int32) (k0 : Int32) : Option (Int32 × zH) := zlp (fun s => fX3_isClashing_L22 h a x1 s) k0
theorem zX3_isClashing_J21 {F : zF} {h : zH} {a : Nat} {x1 : Int32} {k0 : Int32} {y : Int32 × zH} (hD : 3 ≤ F.2.1) (hL : zCt [(tB, tP, a)] [] h) (hf : fX3_isClashing_J21 h a x1 k0 = some y) (hM : ((.inl (some (.int y.1)), y.2) : zX) = zEnd F) : Z F 4 cX3_isClashing RX3 "isClashing" (some .boolean) [] h 21 [(0, .ref a), (1, .int x1)] [.int k0] := by
  unfold fX3_isClashing_J21 at hf
  refine z_istore_n dX3_isClashing_21 rfl (by decide) (lc' := [(0, .ref a), (1, .int x1), (2, .int k0)]) rfl ?_
  exact z_loop (fun (s : Int32) => Z F 4 cX3_isClashing RX3 "isClashing" (some .boolean) [] h 22 [(0, .ref a), (1, .int x1), (2, .int s)] []) (fun (r : (Int32 × zH)) => ((.inl (some (.int r.1)), r.2) : zX) = zEnd F) (fun s y hb hs hr => zX3_isClashing_L22 hD hL hb ⟨hs, hr⟩) hf hM
noncomputable def fX3_isClashing (h : zH) (a : Nat) : Option (Int32 × zH) := if (zI h a 4) ≤ 0 then (fX3_isClashing_J21 h a ((100 : Int32) + (zI h a 10)) 100) else (fX3_isClashing_J21 h a ((100 : Int32) + (zI h a 10)) 0)
theorem zX3_isClashing {F : zF} {h : zH} {a : Nat} {y : Int32 × zH} (hD : 3 ≤ F.2.1) (hL : zCt [(tB, tP, a)] [] h) (hf : fX3_isClashing h a = some y) (hM : ((.inl (some (.int y.1)), y.2) : zX) = zEnd F) : Z F 4 cX3_isClashing RX3 "isClashing" (some .boolean) [] h 0 [(0, .ref a)] [] := by
  unfold fX3_isClashing at hf
  refine z_bipush 100 dX3_isClashing_0 rfl ?_
  refine z_aload_n 0 dX3_isClashing_2 rfl rfl ?_
  refine z_geti fdX3_75_2 ((hL.b 0 rfl).t 0 rfl) dX3_isClashing_3 ?_
  refine z_iadd dX3_isClashing_6 ?_
  refine z_istore_n dX3_isClashing_7 rfl (by decide) (lc' := [(0, .ref a), (1, .int ((100 : Int32) + (zI h a 10)))]) rfl ?_
  refine z_aload_n 0 dX3_isClashing_8 rfl rfl ?_
  refine z_geti fdX3_71_2 ((hL.b 0 rfl).t 0 rfl) dX3_isClashing_9 ?_
  refine z_if_le 19 dX3_isClashing_12 rfl hf (fun _ hf => ?_) (fun _ hf => ?_)
  · refine z_bipush 100 dX3_isClashing_19 rfl ?_
    exact zX3_isClashing_J21 hD hL hf hM
  · refine z_iconst 0 dX3_isClashing_15 rfl ?_
    refine z_goto 21 dX3_isClashing_16 rfl ?_
    exact zX3_isClashing_J21 hD hL hf hM
theorem ctX3_isClashing {l : Launch} {h : zH} {a : Nat} {v : Int32} {h' : zH} (hL : zCt [(tB, tP, a)] [] h) (hf : fX3_isClashing h a = some (v, h')) : zC l yX3_isClashing (ws_ yX3_isClashing cX3_isClashing 4 (some .boolean)) 3 [.ref a] h (.inl (some (.int v)), h') :=
  z_start (by decide) (Nat.le_of_ble_eq_true rfl) (zX3_isClashing (F := (l, 3, h, (.inl (some (.int v)), h'))) (Nat.le_refl _) hL hf rfl)
noncomputable def fX3_isDoubtful_L17 (h : zH) (a : Nat) (x1 : Int32) (x2 : Int32) (x3 : Int32) (x4 : Int32) : Option ((Int32 × Int32) ⊕ (Int32)) := if (zI h a 4) ≤ x4 then (some (.inr x3)) else (zck (vp_in x4 100) (zck (vp_in x2 100) (if (zI h (a + 4) x4.toNatClampNeg) = (zI h (a + 4) x2.toNatClampNeg) then (zck (vp_in x4 100) (if (zI h (a + 5) x4.toNatClampNeg) = 0 then (some (.inl ((x3 + 0, x4 + 1)))) else (some (.inl ((x3 + 1, x4 + 1)))))) else (some (.inl ((x3 + 0, x4 + 1)))))))
theorem zX3_isDoubtful_L17 {F : zF} {h : zH} {a : Nat} {x1 : Int32} {x2 : Int32} {x3 : Int32} {x4 : Int32} {y : (Int32 × Int32) ⊕ (Int32)} (hD : 2 ≤ F.2.1) (hL : zCt [(tB, tP, a)] [] h) (hf : fX3_isDoubtful_L17 h a x1 x2 x3 x4 = some y) (hM : ((∀ s' : Int32 × Int32, y = .inl s' → Z F 5 cX3_isDoubtful RX3 "isDoubtful" (some .boolean) [] h 17 [(0, .ref a), (1, .int x1), (2, .int x2), (3, .int s'.1), (4, .int s'.2)] []) ∧ ∀ r : Int32, y = .inr r → Z F 5 cX3_isDoubtful RX3 "isDoubtful" (some .boolean) [] h 66 [(0, .ref a), (1, .int x1), (2, .int x2), (3, .int r)] [])) : Z F 5 cX3_isDoubtful RX3 "isDoubtful" (some .boolean) [] h 17 [(0, .ref a), (1, .int x1), (2, .int x2), (3, .int x3), (4, .int x4)] [] := by
  unfold fX3_isDoubtful_L17 at hf
  refine z_iload 4 dX3_isDoubtful_17 rfl ?_
  refine z_aload_n 0 dX3_isDoubtful_19 rfl rfl ?_
  refine z_geti fdX3_71_2 ((hL.b 0 rfl).t 0 rfl) dX3_isDoubtful_20 ?_
  refine z_icmp_ge 66 dX3_isDoubtful_23 rfl hf (fun _ hf => ?_) (fun _ hf => ?_)
  · cases hf
    refine z_sub [0, 1, 2, 3] rfl ?_
    exact (hM.2 _ rfl)
  · refine z_iload_n 3 dX3_isDoubtful_26 rfl rfl ?_
    refine z_aload_n 0 dX3_isDoubtful_27 rfl rfl ?_
    refine z_getr fdX3_21_2 (Or.inr ⟨_, rfl⟩) ((hL.b 0 rfl).t 0 rfl) ((hL.b 0 rfl).p 3 rfl) dX3_isDoubtful_28 ?_
    refine z_iload 4 dX3_isDoubtful_31 rfl ?_
    obtain ⟨hi_1, hf⟩ := zck_some hf
    refine z_iald ((hL.b 0 rfl).t 4 rfl) hi_1 dX3_isDoubtful_33 ?_
    refine z_aload_n 0 dX3_isDoubtful_34 rfl rfl ?_
    refine z_getr fdX3_21_2 (Or.inr ⟨_, rfl⟩) ((hL.b 0 rfl).t 0 rfl) ((hL.b 0 rfl).p 3 rfl) dX3_isDoubtful_35 ?_
    refine z_iload_n 2 dX3_isDoubtful_38 rfl rfl ?_
    obtain ⟨hi_2, hf⟩ := zck_some hf
    refine z_iald ((hL.b 0 rfl).t 4 rfl) hi_2 dX3_isDoubtful_39 ?_
    refine z_icmp_ne 57 dX3_isDoubtful_40 rfl hf (fun _ hf => ?_) (fun _ hf => ?_)
    · refine z_iconst 0 dX3_isDoubtful_57 rfl ?_
      refine z_iadd dX3_isDoubtful_58 ?_
      refine z_istore_n dX3_isDoubtful_59 rfl (by decide) (lc' := [(0, .ref a), (1, .int x1), (2, .int x2), (3, .int (x3 + 0)), (4, .int x4)]) rfl ?_
      refine z_iinc 4 (x4 + 1) dX3_isDoubtful_60 rfl rfl (by decide) (lc' := [(0, .ref a), (1, .int x1), (2, .int x2), (3, .int (x3 + 0)), (4, .int (x4 + 1))]) rfl ?_
      refine z_goto 17 dX3_isDoubtful_63 rfl ?_
      cases hf
      exact (hM.1 _ rfl)
    · refine z_aload_n 0 dX3_isDoubtful_43 rfl rfl ?_
      refine z_getr fdX3_24_2 (Or.inr ⟨_, rfl⟩) ((hL.b 0 rfl).t 0 rfl) ((hL.b 0 rfl).p 4 rfl) dX3_isDoubtful_44 ?_
      refine z_iload 4 dX3_isDoubtful_47 rfl ?_
      obtain ⟨hi_3, hf⟩ := zck_some hf
      refine z_zald ((hL.b 0 rfl).t 5 rfl) hi_3 dX3_isDoubtful_49 ?_
      refine z_if_eq 57 dX3_isDoubtful_50 rfl hf (fun _ hf => ?_) (fun _ hf => ?_)
      · refine z_iconst 0 dX3_isDoubtful_57 rfl ?_
        refine z_iadd dX3_isDoubtful_58 ?_
        refine z_istore_n dX3_isDoubtful_59 rfl (by decide) (lc' := [(0, .ref a), (1, .int x1), (2, .int x2), (3, .int (x3 + 0)), (4, .int x4)]) rfl ?_
        refine z_iinc 4 (x4 + 1) dX3_isDoubtful_60 rfl rfl (by decide) (lc' := [(0, .ref a), (1, .int x1), (2, .int x2), (3, .int (x3 + 0)), (4, .int (x4 + 1))]) rfl ?_
        refine z_goto 17 dX3_isDoubtful_63 rfl ?_
        cases hf
        exact (hM.1 _ rfl)
      · refine z_iconst 1 dX3_isDoubtful_53 rfl ?_
        refine z_goto 58 dX3_isDoubtful_54 rfl ?_
        refine z_iadd dX3_isDoubtful_58 ?_
        refine z_istore_n dX3_isDoubtful_59 rfl (by decide) (lc' := [(0, .ref a), (1, .int x1), (2, .int x2), (3, .int (x3 + 1)), (4, .int x4)]) rfl ?_
        refine z_iinc 4 (x4 + 1) dX3_isDoubtful_60 rfl rfl (by decide) (lc' := [(0, .ref a), (1, .int x1), (2, .int x2), (3, .int (x3 + 1)), (4, .int (x4 + 1))]) rfl ?_
        refine z_goto 17 dX3_isDoubtful_63 rfl ?_
        cases hf
        exact (hM.1 _ rfl)
noncomputable def fX3_isDoubtful_L4 (h : zH) (a : Nat) (x1 : Int32) (x2 : Int32) : Option ((Int32 × Int32) ⊕ (Int32)) := if (zI h a 4) ≤ x2 then (some (.inr x1)) else (zb1 (zlp (fun s => fX3_isDoubtful_L17 h a x1 x2 s.1 s.2) (0, 0)) (fun t_4 => if t_4 = 1 then (some (.inl ((x1, x2 + 1)))) else (if x1 < 0 then (zck (vp_in x2 100) (some (.inl ((zI h (a + 4) x2.toNatClampNeg, x2 + 1))))) else (zck (vp_in x2 100) (if x1 ≤ (zI h (a + 4) x2.toNatClampNeg) then (some (.inl ((x1, x2 + 1)))) else (zck (vp_in x2 100) (some (.inl ((zI h (a + 4) x2.toNatClampNeg, x2 + 1))))))))))
theorem zX3_isDoubtful_L4 {F : zF} {h : zH} {a : Nat} {x1 : Int32} {x2 : Int32} {y : (Int32 × Int32) ⊕ (Int32)} (hD : 2 ≤ F.2.1) (hL : zCt [(tB, tP, a)] [] h) (hf : fX3_isDoubtful_L4 h a x1 x2 = some y) (hM : ((∀ s' : Int32 × Int32, y = .inl s' → Z F 5 cX3_isDoubtful RX3 "isDoubtful" (some .boolean) [] h 4 [(0, .ref a), (1, .int s'.1), (2, .int s'.2)] []) ∧ ∀ r : Int32, y = .inr r → Z F 5 cX3_isDoubtful RX3 "isDoubtful" (some .boolean) [] h 102 [(0, .ref a), (1, .int r)] [])) : Z F 5 cX3_isDoubtful RX3 "isDoubtful" (some .boolean) [] h 4 [(0, .ref a), (1, .int x1), (2, .int x2)] [] := by
  unfold fX3_isDoubtful_L4 at hf
  refine z_iload_n 2 dX3_isDoubtful_4 rfl rfl ?_
  refine z_aload_n 0 dX3_isDoubtful_5 rfl rfl ?_
  refine z_geti fdX3_71_2 ((hL.b 0 rfl).t 0 rfl) dX3_isDoubtful_6 ?_
  refine z_icmp_ge 102 dX3_isDoubtful_9 rfl hf (fun _ hf => ?_) (fun _ hf => ?_)
  · cases hf
    refine z_sub [0, 1] rfl ?_
    exact (hM.2 _ rfl)
  · refine z_iconst 0 dX3_isDoubtful_12 rfl ?_
    refine z_istore_n dX3_isDoubtful_13 rfl (by decide) (lc' := [(0, .ref a), (1, .int x1), (2, .int x2), (3, .int 0)]) rfl ?_
    refine z_iconst 0 dX3_isDoubtful_14 rfl ?_
    refine z_istore dX3_isDoubtful_15 (by decide) (lc' := [(0, .ref a), (1, .int x1), (2, .int x2), (3, .int 0), (4, .int 0)]) rfl ?_
    obtain ⟨t_4, hl, hf⟩ := zb1_some hf
    refine z_loop (fun (s : Int32 × Int32) => Z F 5 cX3_isDoubtful RX3 "isDoubtful" (some .boolean) [] h 17 [(0, .ref a), (1, .int x1), (2, .int x2), (3, .int s.1), (4, .int s.2)] []) (fun (r : Int32) => Z F 5 cX3_isDoubtful RX3 "isDoubtful" (some .boolean) [] h 66 [(0, .ref a), (1, .int x1), (2, .int x2), (3, .int r)] []) (fun s y hb hs hr => zX3_isDoubtful_L17 hD hL hb ⟨hs, hr⟩) hl ?_
    show Z F 5 cX3_isDoubtful RX3 "isDoubtful" (some .boolean) [] h 66 [(0, .ref a), (1, .int x1), (2, .int x2), (3, .int t_4)] []
    refine z_iload_n 3 dX3_isDoubtful_66 rfl rfl ?_
    refine z_iconst 1 dX3_isDoubtful_67 rfl ?_
    refine z_icmp_eq 94 dX3_isDoubtful_68 rfl hf (fun _ hf => ?_) (fun _ hf => ?_)
    · refine z_iload_n 1 dX3_isDoubtful_94 rfl rfl ?_
      refine z_istore_n dX3_isDoubtful_95 rfl (by decide) (lc' := [(0, .ref a), (1, .int x1), (2, .int x2), (3, .int t_4)]) rfl ?_
      refine z_iinc 2 (x2 + 1) dX3_isDoubtful_96 rfl rfl (by decide) (lc' := [(0, .ref a), (1, .int x1), (2, .int (x2 + 1)), (3, .int t_4)]) rfl ?_
      refine z_goto 4 dX3_isDoubtful_99 rfl ?_
      cases hf
      refine z_sub [0, 1, 2] rfl ?_
      exact (hM.1 _ rfl)
    · refine z_iload_n 1 dX3_isDoubtful_71 rfl rfl ?_
      refine z_if_lt 85 dX3_isDoubtful_72 rfl hf (fun _ hf => ?_) (fun _ hf => ?_)
      · refine z_aload_n 0 dX3_isDoubtful_85 rfl rfl ?_
        refine z_getr fdX3_21_2 (Or.inr ⟨_, rfl⟩) ((hL.b 0 rfl).t 0 rfl) ((hL.b 0 rfl).p 3 rfl) dX3_isDoubtful_86 ?_
        refine z_iload_n 2 dX3_isDoubtful_89 rfl rfl ?_
        obtain ⟨hi_5, hf⟩ := zck_some hf
        refine z_iald ((hL.b 0 rfl).t 4 rfl) hi_5 dX3_isDoubtful_90 ?_
        refine z_goto 95 dX3_isDoubtful_91 rfl ?_
        refine z_istore_n dX3_isDoubtful_95 rfl (by decide) (lc' := [(0, .ref a), (1, .int (zI h (a + 4) x2.toNatClampNeg)), (2, .int x2), (3, .int t_4)]) rfl ?_
        refine z_iinc 2 (x2 + 1) dX3_isDoubtful_96 rfl rfl (by decide) (lc' := [(0, .ref a), (1, .int (zI h (a + 4) x2.toNatClampNeg)), (2, .int (x2 + 1)), (3, .int t_4)]) rfl ?_
        refine z_goto 4 dX3_isDoubtful_99 rfl ?_
        cases hf
        refine z_sub [0, 1, 2] rfl ?_
        exact (hM.1 _ rfl)
      · refine z_aload_n 0 dX3_isDoubtful_75 rfl rfl ?_
        refine z_getr fdX3_21_2 (Or.inr ⟨_, rfl⟩) ((hL.b 0 rfl).t 0 rfl) ((hL.b 0 rfl).p 3 rfl) dX3_isDoubtful_76 ?_
        refine z_iload_n 2 dX3_isDoubtful_79 rfl rfl ?_
        obtain ⟨hi_6, hf⟩ := zck_some hf
        refine z_iald ((hL.b 0 rfl).t 4 rfl) hi_6 dX3_isDoubtful_80 ?_
        refine z_iload_n 1 dX3_isDoubtful_81 rfl rfl ?_
        refine z_icmp_ge 94 dX3_isDoubtful_82 rfl hf (fun _ hf => ?_) (fun _ hf => ?_)
        · refine z_iload_n 1 dX3_isDoubtful_94 rfl rfl ?_
          refine z_istore_n dX3_isDoubtful_95 rfl (by decide) (lc' := [(0, .ref a), (1, .int x1), (2, .int x2), (3, .int t_4)]) rfl ?_
          refine z_iinc 2 (x2 + 1) dX3_isDoubtful_96 rfl rfl (by decide) (lc' := [(0, .ref a), (1, .int x1), (2, .int (x2 + 1)), (3, .int t_4)]) rfl ?_
          refine z_goto 4 dX3_isDoubtful_99 rfl ?_
          cases hf
          refine z_sub [0, 1, 2] rfl ?_
          exact (hM.1 _ rfl)
        · refine z_aload_n 0 dX3_isDoubtful_85 rfl rfl ?_
          refine z_getr fdX3_21_2 (Or.inr ⟨_, rfl⟩) ((hL.b 0 rfl).t 0 rfl) ((hL.b 0 rfl).p 3 rfl) dX3_isDoubtful_86 ?_
          refine z_iload_n 2 dX3_isDoubtful_89 rfl rfl ?_
          obtain ⟨hi_7, hf⟩ := zck_some hf
          refine z_iald ((hL.b 0 rfl).t 4 rfl) hi_7 dX3_isDoubtful_90 ?_
          refine z_goto 95 dX3_isDoubtful_91 rfl ?_
          refine z_istore_n dX3_isDoubtful_95 rfl (by decide) (lc' := [(0, .ref a), (1, .int (zI h (a + 4) x2.toNatClampNeg)), (2, .int x2), (3, .int t_4)]) rfl ?_
          refine z_iinc 2 (x2 + 1) dX3_isDoubtful_96 rfl rfl (by decide) (lc' := [(0, .ref a), (1, .int (zI h (a + 4) x2.toNatClampNeg)), (2, .int (x2 + 1)), (3, .int t_4)]) rfl ?_
          refine z_goto 4 dX3_isDoubtful_99 rfl ?_
          cases hf
          refine z_sub [0, 1, 2] rfl ?_
          exact (hM.1 _ rfl)
noncomputable def fX3_isDoubtful (h : zH) (a : Nat) : Option (Int32 × zH) := zb1 (zlp (fun s => fX3_isDoubtful_L4 h a s.1 s.2) ((-1), 0)) (fun t_8 => if t_8 < 0 then (some ((0, h))) else (zb2 (fX3_breaks h a 2 t_8 0) (fun v_10 h_11 => if v_10 = 0 then (some ((0, h_11))) else (some ((1, h_11))))))
theorem zX3_isDoubtful {F : zF} {h : zH} {a : Nat} {y : Int32 × zH} (hD : 2 ≤ F.2.1) (hL : zCt [(tB, tP, a)] [] h) (hf : fX3_isDoubtful h a = some y) (hM : ((.inl (some (.int y.1)), y.2) : zX) = zEnd F) : Z F 5 cX3_isDoubtful RX3 "isDoubtful" (some .boolean) [] h 0 [(0, .ref a)] [] := by
  unfold fX3_isDoubtful at hf
  refine z_iconst (-1) dX3_isDoubtful_0 rfl ?_
  refine z_istore_n dX3_isDoubtful_1 rfl (by decide) (lc' := [(0, .ref a), (1, .int ((-1)))]) rfl ?_
  refine z_iconst 0 dX3_isDoubtful_2 rfl ?_
  refine z_istore_n dX3_isDoubtful_3 rfl (by decide) (lc' := [(0, .ref a), (1, .int ((-1))), (2, .int 0)]) rfl ?_
  obtain ⟨t_8, hl, hf⟩ := zb1_some hf
  refine z_loop (fun (s : Int32 × Int32) => Z F 5 cX3_isDoubtful RX3 "isDoubtful" (some .boolean) [] h 4 [(0, .ref a), (1, .int s.1), (2, .int s.2)] []) (fun (r : Int32) => Z F 5 cX3_isDoubtful RX3 "isDoubtful" (some .boolean) [] h 102 [(0, .ref a), (1, .int r)] []) (fun s y hb hs hr => zX3_isDoubtful_L4 hD hL hb ⟨hs, hr⟩) hl ?_
  show Z F 5 cX3_isDoubtful RX3 "isDoubtful" (some .boolean) [] h 102 [(0, .ref a), (1, .int t_8)] []
  refine z_iload_n 1 dX3_isDoubtful_102 rfl rfl ?_
  refine z_if_lt 120 dX3_isDoubtful_103 rfl hf (fun _ hf => ?_) (fun _ hf => ?_)
  · refine z_iconst 0 dX3_isDoubtful_120 rfl ?_
    cases hf
    exact z_zret dX3_isDoubtful_121 rfl (Or.inl rfl) hM
  · refine z_aload_n 0 dX3_isDoubtful_106 rfl rfl ?_
    refine z_iconst 2 dX3_isDoubtful_107 rfl ?_
    refine z_iload_n 1 dX3_isDoubtful_108 rfl rfl ?_
    refine z_iconst 0 dX3_isDoubtful_109 rfl ?_
    obtain ⟨v_10, h_11, hc_9, hf⟩ := zb2_some hf
    have hct := ctX3_breaks (l := F.1) hL hc_9
    refine z_invVi svX3_118_2 hct ((hL.b 0 rfl).t 0 rfl) ⟨Nat.le_trans (by decide) hD, by decide⟩ rfl rfl (Nat.le_of_ble_eq_true rfl) dX3_isDoubtful_110 ?_
    have hL := hL.ext hct.1
    refine z_if_eq 120 dX3_isDoubtful_113 rfl hf (fun _ hf => ?_) (fun _ hf => ?_)
    · refine z_iconst 0 dX3_isDoubtful_120 rfl ?_
      cases hf
      exact z_zret dX3_isDoubtful_121 rfl (Or.inl rfl) hM
    · refine z_iconst 1 dX3_isDoubtful_116 rfl ?_
      refine z_goto 121 dX3_isDoubtful_117 rfl ?_
      cases hf
      exact z_zret dX3_isDoubtful_121 rfl (Or.inr rfl) hM
theorem ctX3_isDoubtful {l : Launch} {h : zH} {a : Nat} {v : Int32} {h' : zH} (hL : zCt [(tB, tP, a)] [] h) (hf : fX3_isDoubtful h a = some (v, h')) : zC l yX3_isDoubtful (ws_ yX3_isDoubtful cX3_isDoubtful 5 (some .boolean)) 2 [.ref a] h (.inl (some (.int v)), h') :=
  z_start (by decide) (Nat.le_of_ble_eq_true rfl) (zX3_isDoubtful (F := (l, 2, h, (.inl (some (.int v)), h'))) (Nat.le_refl _) hL hf rfl)
noncomputable def fX3_isReached (h : zH) (a : Nat) (x1 : Int32) : Option (Int32) := zck (vp_in x1 16) (if (zI h (a + 17) x1.toNatClampNeg) < 0 then (some 0) else (some 1))
theorem zX3_isReached {F : zF} {h : zH} {a : Nat} {x1 : Int32} {y : Int32} (hD : 1 ≤ F.2.1) (hL : zCt [(tB, tP, a)] [] h) (hf : fX3_isReached h a x1 = some y) (hM : ((.inl (some (.int y)), h) : zX) = zEnd F) : Z F 2 cX3_isReached RX3 "isReached" (some .boolean) [] h 0 [(0, .ref a), (1, .int x1)] [] := by
  unfold fX3_isReached at hf
  refine z_aload_n 0 dX3_isReached_0 rfl rfl ?_
  refine z_getr fdX3_51_2 (Or.inr ⟨_, rfl⟩) ((hL.b 0 rfl).t 0 rfl) ((hL.b 0 rfl).p 16 rfl) dX3_isReached_1 ?_
  refine z_iload_n 1 dX3_isReached_4 rfl rfl ?_
  obtain ⟨hi_1, hf⟩ := zck_some hf
  refine z_iald ((hL.b 0 rfl).t 17 rfl) hi_1 dX3_isReached_5 ?_
  refine z_if_lt 13 dX3_isReached_6 rfl hf (fun _ hf => ?_) (fun _ hf => ?_)
  · refine z_iconst 0 dX3_isReached_13 rfl ?_
    cases hf
    exact z_zret dX3_isReached_14 rfl (Or.inl rfl) hM
  · refine z_iconst 1 dX3_isReached_9 rfl ?_
    refine z_goto 14 dX3_isReached_10 rfl ?_
    cases hf
    exact z_zret dX3_isReached_14 rfl (Or.inr rfl) hM
theorem ctX3_isReached {l : Launch} {h : zH} {a : Nat} {x1 : Int32} {v : Int32} (hL : zCt [(tB, tP, a)] [] h) (hf : fX3_isReached h a x1 = some v) : zC l yX3_isReached (ws_ yX3_isReached cX3_isReached 2 (some .boolean)) 1 [.ref a, .int x1] h (.inl (some (.int v)), h) :=
  z_start (by decide) (Nat.le_of_ble_eq_true rfl) (zX3_isReached (F := (l, 1, h, (.inl (some (.int v)), h))) (Nat.le_refl _) hL hf rfl)
theorem svX3_122_2 : zIv RX3 122 yX3_isReached (ws_ yX3_isReached cX3_isReached 2 (some .boolean)) 2 2 1 := ⟨zGood_c q839 q103, ⟨_, _, rfl, rfl, q838⟩, Or.inl q836, q837, ⟨by decide, by decide⟩, by decide +kernel⟩
noncomputable def fX3_isStuck_L2 (h : zH) (a : Nat) (x1 : Int32) : Option ((Int32) ⊕ ((Int32 × zH))) := if 4 ≤ x1 then (some (.inr ((0, h)))) else (zb1 (fX3_isReached h a x1) (fun v_2 => if v_2 = 0 then (some (.inl (x1 + 1))) else (zck (vp_in ((4 : Int32) * x1) 16) (if 0 ≤ (zI h (a + 17) ((4 : Int32) * x1).toNatClampNeg) then (some (.inl (x1 + 1))) else (zb2 (fX3_breaks h a 3 x1 0) (fun v_5 h_6 => zck (zB v_5) (some (.inr ((v_5, h_6))))))))))
theorem zX3_isStuck_L2 {F : zF} {h : zH} {a : Nat} {x1 : Int32} {y : (Int32) ⊕ ((Int32 × zH))} (hD : 2 ≤ F.2.1) (hL : zCt [(tB, tP, a)] [] h) (hf : fX3_isStuck_L2 h a x1 = some y) (hM : ((∀ s' : Int32, y = .inl s' → Z F 2 cX3_isStuck RX3 "isStuck" (some .boolean) [] h 2 [(0, .ref a), (1, .int s')] []) ∧ ∀ r : (Int32 × zH), y = .inr r → ((.inl (some (.int r.1)), r.2) : zX) = zEnd F)) : Z F 2 cX3_isStuck RX3 "isStuck" (some .boolean) [] h 2 [(0, .ref a), (1, .int x1)] [] := by
  unfold fX3_isStuck_L2 at hf
  refine z_iload_n 1 dX3_isStuck_2 rfl rfl ?_
  refine z_iconst 4 dX3_isStuck_3 rfl ?_
  refine z_icmp_ge 40 dX3_isStuck_4 rfl hf (fun _ hf => ?_) (fun _ hf => ?_)
  · refine z_iconst 0 dX3_isStuck_40 rfl ?_
    cases hf
    exact z_zret dX3_isStuck_41 rfl (Or.inl rfl) (hM.2 _ rfl)
  · refine z_aload_n 0 dX3_isStuck_7 rfl rfl ?_
    refine z_iload_n 1 dX3_isStuck_8 rfl rfl ?_
    obtain ⟨v_2, hc_1, hf⟩ := zb1_some hf
    refine z_invVi svX3_122_2 (ctX3_isReached hL hc_1) ((hL.b 0 rfl).t 0 rfl) ⟨Nat.le_trans (by decide) hD, by decide⟩ rfl rfl (Nat.le_of_ble_eq_true rfl) dX3_isStuck_9 ?_
    refine z_if_eq 34 dX3_isStuck_12 rfl hf (fun _ hf => ?_) (fun _ hf => ?_)
    · refine z_iinc 1 (x1 + 1) dX3_isStuck_34 rfl rfl (by decide) (lc' := [(0, .ref a), (1, .int (x1 + 1))]) rfl ?_
      refine z_goto 2 dX3_isStuck_37 rfl ?_
      cases hf
      exact (hM.1 _ rfl)
    · refine z_aload_n 0 dX3_isStuck_15 rfl rfl ?_
      refine z_getr fdX3_51_2 (Or.inr ⟨_, rfl⟩) ((hL.b 0 rfl).t 0 rfl) ((hL.b 0 rfl).p 16 rfl) dX3_isStuck_16 ?_
      refine z_iconst 4 dX3_isStuck_19 rfl ?_
      refine z_iload_n 1 dX3_isStuck_20 rfl rfl ?_
      refine z_imul dX3_isStuck_21 ?_
      obtain ⟨hi_3, hf⟩ := zck_some hf
      refine z_iald ((hL.b 0 rfl).t 17 rfl) hi_3 dX3_isStuck_22 ?_
      refine z_if_ge 34 dX3_isStuck_23 rfl hf (fun _ hf => ?_) (fun _ hf => ?_)
      · refine z_iinc 1 (x1 + 1) dX3_isStuck_34 rfl rfl (by decide) (lc' := [(0, .ref a), (1, .int (x1 + 1))]) rfl ?_
        refine z_goto 2 dX3_isStuck_37 rfl ?_
        cases hf
        exact (hM.1 _ rfl)
      · refine z_aload_n 0 dX3_isStuck_26 rfl rfl ?_
        refine z_iconst 3 dX3_isStuck_27 rfl ?_
        refine z_iload_n 1 dX3_isStuck_28 rfl rfl ?_
        refine z_iconst 0 dX3_isStuck_29 rfl ?_
        obtain ⟨v_5, h_6, hc_4, hf⟩ := zb2_some hf
        have hct := ctX3_breaks (l := F.1) hL hc_4
        refine z_invVi svX3_118_2 hct ((hL.b 0 rfl).t 0 rfl) ⟨Nat.le_trans (by decide) hD, by decide⟩ rfl rfl (Nat.le_of_ble_eq_true rfl) dX3_isStuck_30 ?_
        have hL := hL.ext hct.1
        obtain ⟨hz_7, hf⟩ := zck_some hf
        cases hf
        exact z_zret dX3_isStuck_33 rfl hz_7 (hM.2 _ rfl)
noncomputable def fX3_isStuck (h : zH) (a : Nat) : Option (Int32 × zH) := zlp (fun s => fX3_isStuck_L2 h a s) 0
theorem zX3_isStuck {F : zF} {h : zH} {a : Nat} {y : Int32 × zH} (hD : 2 ≤ F.2.1) (hL : zCt [(tB, tP, a)] [] h) (hf : fX3_isStuck h a = some y) (hM : ((.inl (some (.int y.1)), y.2) : zX) = zEnd F) : Z F 2 cX3_isStuck RX3 "isStuck" (some .boolean) [] h 0 [(0, .ref a)] [] := by
  unfold fX3_isStuck at hf
  refine z_iconst 0 dX3_isStuck_0 rfl ?_
  refine z_istore_n dX3_isStuck_1 rfl (by decide) (lc' := [(0, .ref a), (1, .int 0)]) rfl ?_
  exact z_loop (fun (s : Int32) => Z F 2 cX3_isStuck RX3 "isStuck" (some .boolean) [] h 2 [(0, .ref a), (1, .int s)] []) (fun (r : (Int32 × zH)) => ((.inl (some (.int r.1)), r.2) : zX) = zEnd F) (fun s y hb hs hr => zX3_isStuck_L2 hD hL hb ⟨hs, hr⟩) hf hM
theorem ctX3_isStuck {l : Launch} {h : zH} {a : Nat} {v : Int32} {h' : zH} (hL : zCt [(tB, tP, a)] [] h) (hf : fX3_isStuck h a = some (v, h')) : zC l yX3_isStuck (ws_ yX3_isStuck cX3_isStuck 2 (some .boolean)) 2 [.ref a] h (.inl (some (.int v)), h') :=
  z_start (by decide) (Nat.le_of_ble_eq_true rfl) (zX3_isStuck (F := (l, 2, h, (.inl (some (.int v)), h'))) (Nat.le_refl _) hL hf rfl)
noncomputable def fX3_isFar_L2 (h : zH) (a : Nat) (x1 : Int32) : Option ((Int32) ⊕ ((Int32 × zH))) := if (zI h a 4) ≤ x1 then (some (.inr ((0, h)))) else (zck (vp_in x1 100) (if (zI h (a + 5) x1.toNatClampNeg) = 0 then (some (.inl (x1 + 1))) else (zck (vp_in x1 100) (zck (vp_in (zI h (a + 1) x1.toNatClampNeg) 16) (if 0 ≤ (zI h (a + 19) (zI h (a + 1) x1.toNatClampNeg).toNatClampNeg) then (some (.inl (x1 + 1))) else (zb2 (fX3_breaks h a 4 x1 0) (fun v_5 h_6 => zck (zB v_5) (some (.inr ((v_5, h_6)))))))))))
theorem zX3_isFar_L2 {F : zF} {h : zH} {a : Nat} {x1 : Int32} {y : (Int32) ⊕ ((Int32 × zH))} (hD : 2 ≤ F.2.1) (hL : zCt [(tB, tP, a)] [] h) (hf : fX3_isFar_L2 h a x1 = some y) (hM : ((∀ s' : Int32, y = .inl s' → Z F 2 cX3_isFar RX3 "isFar" (some .boolean) [] h 2 [(0, .ref a), (1, .int s')] []) ∧ ∀ r : (Int32 × zH), y = .inr r → ((.inl (some (.int r.1)), r.2) : zX) = zEnd F)) : Z F 2 cX3_isFar RX3 "isFar" (some .boolean) [] h 2 [(0, .ref a), (1, .int x1)] [] := by
  unfold fX3_isFar_L2 at hf
  refine z_iload_n 1 dX3_isFar_2 rfl rfl ?_
  refine z_aload_n 0 dX3_isFar_3 rfl rfl ?_
  refine z_geti fdX3_71_2 ((hL.b 0 rfl).t 0 rfl) dX3_isFar_4 ?_
  refine z_icmp_ge 47 dX3_isFar_7 rfl hf (fun _ hf => ?_) (fun _ hf => ?_)
  · refine z_iconst 0 dX3_isFar_47 rfl ?_
    cases hf
    exact z_zret dX3_isFar_48 rfl (Or.inl rfl) (hM.2 _ rfl)
  · refine z_aload_n 0 dX3_isFar_10 rfl rfl ?_
    refine z_getr fdX3_24_2 (Or.inr ⟨_, rfl⟩) ((hL.b 0 rfl).t 0 rfl) ((hL.b 0 rfl).p 4 rfl) dX3_isFar_11 ?_
    refine z_iload_n 1 dX3_isFar_14 rfl rfl ?_
    obtain ⟨hi_1, hf⟩ := zck_some hf
    refine z_zald ((hL.b 0 rfl).t 5 rfl) hi_1 dX3_isFar_15 ?_
    refine z_if_eq 41 dX3_isFar_16 rfl hf (fun _ hf => ?_) (fun _ hf => ?_)
    · refine z_iinc 1 (x1 + 1) dX3_isFar_41 rfl rfl (by decide) (lc' := [(0, .ref a), (1, .int (x1 + 1))]) rfl ?_
      refine z_goto 2 dX3_isFar_44 rfl ?_
      cases hf
      exact (hM.1 _ rfl)
    · refine z_aload_n 0 dX3_isFar_19 rfl rfl ?_
      refine z_getr fdX3_58_2 (Or.inr ⟨_, rfl⟩) ((hL.b 0 rfl).t 0 rfl) ((hL.b 0 rfl).p 18 rfl) dX3_isFar_20 ?_
      refine z_aload_n 0 dX3_isFar_23 rfl rfl ?_
      refine z_getr fdX3_9_2 (Or.inr ⟨_, rfl⟩) ((hL.b 0 rfl).t 0 rfl) ((hL.b 0 rfl).p 0 rfl) dX3_isFar_24 ?_
      refine z_iload_n 1 dX3_isFar_27 rfl rfl ?_
      obtain ⟨hi_2, hf⟩ := zck_some hf
      refine z_iald ((hL.b 0 rfl).t 1 rfl) hi_2 dX3_isFar_28 ?_
      obtain ⟨hi_3, hf⟩ := zck_some hf
      refine z_iald ((hL.b 0 rfl).t 19 rfl) hi_3 dX3_isFar_29 ?_
      refine z_if_ge 41 dX3_isFar_30 rfl hf (fun _ hf => ?_) (fun _ hf => ?_)
      · refine z_iinc 1 (x1 + 1) dX3_isFar_41 rfl rfl (by decide) (lc' := [(0, .ref a), (1, .int (x1 + 1))]) rfl ?_
        refine z_goto 2 dX3_isFar_44 rfl ?_
        cases hf
        exact (hM.1 _ rfl)
      · refine z_aload_n 0 dX3_isFar_33 rfl rfl ?_
        refine z_iconst 4 dX3_isFar_34 rfl ?_
        refine z_iload_n 1 dX3_isFar_35 rfl rfl ?_
        refine z_iconst 0 dX3_isFar_36 rfl ?_
        obtain ⟨v_5, h_6, hc_4, hf⟩ := zb2_some hf
        have hct := ctX3_breaks (l := F.1) hL hc_4
        refine z_invVi svX3_118_2 hct ((hL.b 0 rfl).t 0 rfl) ⟨Nat.le_trans (by decide) hD, by decide⟩ rfl rfl (Nat.le_of_ble_eq_true rfl) dX3_isFar_37 ?_
        have hL := hL.ext hct.1
        obtain ⟨hz_7, hf⟩ := zck_some hf
        cases hf
        exact z_zret dX3_isFar_40 rfl hz_7 (hM.2 _ rfl)
noncomputable def fX3_isFar (h : zH) (a : Nat) : Option (Int32 × zH) := zlp (fun s => fX3_isFar_L2 h a s) 0
theorem zX3_isFar {F : zF} {h : zH} {a : Nat} {y : Int32 × zH} (hD : 2 ≤ F.2.1) (hL : zCt [(tB, tP, a)] [] h) (hf : fX3_isFar h a = some y) (hM : ((.inl (some (.int y.1)), y.2) : zX) = zEnd F) : Z F 2 cX3_isFar RX3 "isFar" (some .boolean) [] h 0 [(0, .ref a)] [] := by
  unfold fX3_isFar at hf
  refine z_iconst 0 dX3_isFar_0 rfl ?_
  refine z_istore_n dX3_isFar_1 rfl (by decide) (lc' := [(0, .ref a), (1, .int 0)]) rfl ?_
  exact z_loop (fun (s : Int32) => Z F 2 cX3_isFar RX3 "isFar" (some .boolean) [] h 2 [(0, .ref a), (1, .int s)] []) (fun (r : (Int32 × zH)) => ((.inl (some (.int r.1)), r.2) : zX) = zEnd F) (fun s y hb hs hr => zX3_isFar_L2 hD hL hb ⟨hs, hr⟩) hf hM
theorem ctX3_isFar {l : Launch} {h : zH} {a : Nat} {v : Int32} {h' : zH} (hL : zCt [(tB, tP, a)] [] h) (hf : fX3_isFar h a = some (v, h')) : zC l yX3_isFar (ws_ yX3_isFar cX3_isFar 2 (some .boolean)) 2 [.ref a] h (.inl (some (.int v)), h') :=
  z_start (by decide) (Nat.le_of_ble_eq_true rfl) (zX3_isFar (F := (l, 2, h, (.inl (some (.int v)), h'))) (Nat.le_refl _) hL hf rfl)
theorem svX3_126_2 : zIv RX3 126 yX3_walk (ws_ yX3_walk cX3_walk 5 none) 5 2 0 := ⟨zGood_c q788 q103, ⟨_, _, rfl, rfl, qs8⟩, Or.inl q785, q787, ⟨by decide, by decide⟩, by decide +kernel⟩
theorem svX3_129_2 : zIv RX3 129 yX3_isClashing (ws_ yX3_isClashing cX3_isClashing 4 (some .boolean)) 4 2 0 := ⟨zGood_c q800 q103, ⟨_, _, rfl, rfl, qs11⟩, Or.inl q797, q799, ⟨by decide, by decide⟩, by decide +kernel⟩
theorem svX3_133_2 : zIv RX3 133 yX3_isDoubtful (ws_ yX3_isDoubtful cX3_isDoubtful 5 (some .boolean)) 5 2 0 := ⟨zGood_c q831 q103, ⟨_, _, rfl, rfl, qs18⟩, Or.inl q828, q830, ⟨by decide, by decide⟩, by decide +kernel⟩
theorem svX3_136_2 : zIv RX3 136 yX3_isStuck (ws_ yX3_isStuck cX3_isStuck 2 (some .boolean)) 2 2 0 := ⟨zGood_c q835 q103, ⟨_, _, rfl, rfl, qs19⟩, Or.inl q832, q834, ⟨by decide, by decide⟩, by decide +kernel⟩
theorem svX3_139_2 : zIv RX3 139 yX3_isFar (ws_ yX3_isFar cX3_isFar 2 (some .boolean)) 2 2 0 := ⟨zGood_c q843 q103, ⟨_, _, rfl, rfl, qs20⟩, Or.inl q840, q842, ⟨by decide, by decide⟩, by decide +kernel⟩
noncomputable def fX3_isBad (h : zH) (a : Nat) : Option (Int32 × zH) := zb1 (fX3_walk h a) (fun h_3 => zb2 (fX3_isClashing h_3 a) (fun v_5 h_6 => if v_5 = 0 then (zb2 (fX3_isDoubtful h_6 a) (fun v_8 h_9 => if v_8 = 0 then (zb2 (fX3_isStuck h_9 a) (fun v_11 h_12 => if v_11 = 0 then (zb2 (fX3_isFar h_12 a) (fun v_14 h_15 => if v_14 = 0 then (some ((0, h_15))) else (some ((1, h_15))))) else (some ((1, h_12))))) else (some ((1, h_9))))) else (some ((1, h_6)))))
theorem zX3_isBad {F : zF} {h : zH} {a : Nat} {y : Int32 × zH} (hD : 4 ≤ F.2.1) (hL : zCt [(tB, tP, a)] [] h) (hf : fX3_isBad h a = some y) (hM : ((.inl (some (.int y.1)), y.2) : zX) = zEnd F) : Z F 1 cX3_isBad RX3 "isBad" (some .boolean) [] h 0 [(0, .ref a)] [] := by
  unfold fX3_isBad at hf
  refine z_aload_n 0 dX3_isBad_0 rfl rfl ?_
  obtain ⟨h_3, hc_1, hf⟩ := zb1_some hf
  have hct := ctX3_walk (l := F.1) hL hc_1
  refine z_invVv svX3_126_2 hct ((hL.b 0 rfl).t 0 rfl) ⟨Nat.le_trans (by decide) hD, by decide⟩ rfl rfl (Nat.le_of_ble_eq_true rfl) dX3_isBad_1 ?_
  have hL := hL.ext hct.1
  refine z_aload_n 0 dX3_isBad_4 rfl rfl ?_
  obtain ⟨v_5, h_6, hc_4, hf⟩ := zb2_some hf
  have hct := ctX3_isClashing (l := F.1) hL hc_4
  refine z_invVi svX3_129_2 hct ((hL.b 0 rfl).t 0 rfl) ⟨Nat.le_trans (by decide) hD, by decide⟩ rfl rfl (Nat.le_of_ble_eq_true rfl) dX3_isBad_5 ?_
  have hL := hL.ext hct.1
  refine z_if_ne 32 dX3_isBad_8 rfl hf (fun _ hf => ?_) (fun _ hf => ?_)
  · refine z_iconst 1 dX3_isBad_32 rfl ?_
    refine z_goto 37 dX3_isBad_33 rfl ?_
    cases hf
    exact z_zret dX3_isBad_37 rfl (Or.inr rfl) hM
  · refine z_aload_n 0 dX3_isBad_11 rfl rfl ?_
    obtain ⟨v_8, h_9, hc_7, hf⟩ := zb2_some hf
    have hct := ctX3_isDoubtful (l := F.1) hL hc_7
    refine z_invVi svX3_133_2 hct ((hL.b 0 rfl).t 0 rfl) ⟨Nat.le_trans (by decide) hD, by decide⟩ rfl rfl (Nat.le_of_ble_eq_true rfl) dX3_isBad_12 ?_
    have hL := hL.ext hct.1
    refine z_if_ne 32 dX3_isBad_15 rfl hf (fun _ hf => ?_) (fun _ hf => ?_)
    · refine z_iconst 1 dX3_isBad_32 rfl ?_
      refine z_goto 37 dX3_isBad_33 rfl ?_
      cases hf
      exact z_zret dX3_isBad_37 rfl (Or.inr rfl) hM
    · refine z_aload_n 0 dX3_isBad_18 rfl rfl ?_
      obtain ⟨v_11, h_12, hc_10, hf⟩ := zb2_some hf
      have hct := ctX3_isStuck (l := F.1) hL hc_10
      refine z_invVi svX3_136_2 hct ((hL.b 0 rfl).t 0 rfl) ⟨Nat.le_trans (by decide) hD, by decide⟩ rfl rfl (Nat.le_of_ble_eq_true rfl) dX3_isBad_19 ?_
      have hL := hL.ext hct.1
      refine z_if_ne 32 dX3_isBad_22 rfl hf (fun _ hf => ?_) (fun _ hf => ?_)
      · refine z_iconst 1 dX3_isBad_32 rfl ?_
        refine z_goto 37 dX3_isBad_33 rfl ?_
        cases hf
        exact z_zret dX3_isBad_37 rfl (Or.inr rfl) hM
      · refine z_aload_n 0 dX3_isBad_25 rfl rfl ?_
        obtain ⟨v_14, h_15, hc_13, hf⟩ := zb2_some hf
        have hct := ctX3_isFar (l := F.1) hL hc_13
        refine z_invVi svX3_139_2 hct ((hL.b 0 rfl).t 0 rfl) ⟨Nat.le_trans (by decide) hD, by decide⟩ rfl rfl (Nat.le_of_ble_eq_true rfl) dX3_isBad_26 ?_
        have hL := hL.ext hct.1
        refine z_if_eq 36 dX3_isBad_29 rfl hf (fun _ hf => ?_) (fun _ hf => ?_)
        · refine z_iconst 0 dX3_isBad_36 rfl ?_
          cases hf
          exact z_zret dX3_isBad_37 rfl (Or.inl rfl) hM
        · refine z_iconst 1 dX3_isBad_32 rfl ?_
          refine z_goto 37 dX3_isBad_33 rfl ?_
          cases hf
          exact z_zret dX3_isBad_37 rfl (Or.inr rfl) hM
theorem ctX3_isBad {l : Launch} {h : zH} {a : Nat} {v : Int32} {h' : zH} (hL : zCt [(tB, tP, a)] [] h) (hf : fX3_isBad h a = some (v, h')) : zC l yX3_isBad (ws_ yX3_isBad cX3_isBad 1 (some .boolean)) 4 [.ref a] h (.inl (some (.int v)), h') :=
  z_start (by decide) (Nat.le_of_ble_eq_true rfl) (zX3_isBad (F := (l, 4, h, (.inl (some (.int v)), h'))) (Nat.le_refl _) hL hf rfl)
theorem fdX3_67_2 : zFd RX3 67 2 3 .boolean false := ⟨_, _, _, rfl, rfl, by decide, rfl, rfl, Or.inl q225, Or.inl rfl⟩
theorem fdX3_45_2 : zFd RX3 45 2 16 (.array .int) true := ⟨_, _, _, rfl, rfl, by decide, rfl, rfl, Or.inl q250, Or.inl rfl⟩
noncomputable def fX3_close_L7 (h : zH) (a : Nat) (x1 : Int32) : Option ((zH × Int32) ⊕ (zH)) := if 4 ≤ x1 then (some (.inr h)) else (zck (vp_in x1 4) (zlet (zsI h (a + 15) x1.toNatClampNeg 0) (fun h_3 => some (.inl ((h_3, x1 + 1))))))
theorem zX3_close_L7 {F : zF} {h : zH} {a : Nat} {x1 : Int32} {y : (zH × Int32) ⊕ (zH)} (hD : 2 ≤ F.2.1) (hL : zCt [(tB, tP, a)] [] h) (hf : fX3_close_L7 h a x1 = some y) (hM : ((∀ s' : zH × Int32, y = .inl s' → (zCt [(tB, tP, a)] [] s'.1 → Z F 4 cX3_close RX3 "close" none [] s'.1 7 [(0, .ref a), (1, .int s'.2)] [])) ∧ ∀ r : zH, y = .inr r → (zCt [(tB, tP, a)] [] r → Z F 4 cX3_close RX3 "close" none [] r 25 [(0, .ref a)] []))) : Z F 4 cX3_close RX3 "close" none [] h 7 [(0, .ref a), (1, .int x1)] [] := by
  unfold fX3_close_L7 at hf
  refine z_iload_n 1 dX3_close_7 rfl rfl ?_
  refine z_iconst 4 dX3_close_8 rfl ?_
  refine z_icmp_ge 25 dX3_close_9 rfl hf (fun _ hf => ?_) (fun _ hf => ?_)
  · cases hf
    refine z_sub [0] rfl ?_
    exact (hM.2 _ rfl) hL
  · refine z_aload_n 0 dX3_close_12 rfl rfl ?_
    refine z_getr fdX3_45_2 (Or.inr ⟨_, rfl⟩) ((hL.b 0 rfl).t 0 rfl) ((hL.b 0 rfl).p 14 rfl) dX3_close_13 ?_
    refine z_iload_n 1 dX3_close_16 rfl rfl ?_
    refine z_iconst 0 dX3_close_17 rfl ?_
    obtain ⟨hi_2, hf⟩ := zck_some hf
    obtain ⟨h_3, he, hf⟩ := zlet_some hf
    refine z_iast ((hL.b 0 rfl).t 15 rfl) ((hL.b 0 rfl).nz 15) hi_2 he dX3_close_18 ?_
    have hL := hL.I he
    refine z_iinc 1 (x1 + 1) dX3_close_19 rfl rfl (by decide) (lc' := [(0, .ref a), (1, .int (x1 + 1))]) rfl ?_
    refine z_goto 7 dX3_close_22 rfl ?_
    cases hf
    exact (hM.1 _ rfl) hL
theorem fdX3_42_2 : zFd RX3 42 2 15 (.array (.array .int)) true := ⟨_, _, _, rfl, rfl, by decide, rfl, rfl, Or.inl q249, Or.inl rfl⟩
noncomputable def fX3_close_L63 (h : zH) (a : Nat) (x1 : Int32) (x2 : Int32) (x3 : Int32) : Option ((zH × Int32) ⊕ (zH × Int32)) := if x3 ≤ 0 then (some (.inr ((h, x3)))) else (zck (vp_in x2 4) (zb1 (zP h (a + 10) x2.toNatClampNeg) (fun b_9 => zck (zAr h b_9 (x3 - 1)) (zb1 (fX3_keyOf h a (zI h b_9 (x3 - 1).toNatClampNeg)) (fun v_12 => zb1 (fX3_keyOf h a x1) (fun v_14 => if v_12 ≤ v_14 then (some (.inr ((h, x3)))) else (zck (vp_in x2 4) (zb1 (zP h (a + 10) x2.toNatClampNeg) (fun b_16 => zck (vp_in x2 4) (zb1 (zP h (a + 10) x2.toNatClampNeg) (fun b_18 => zck (zAr h b_18 (x3 - 1)) (zck (b_16 ≠ 0 ∧ zAr h b_16 x3) (zlet (zsI h b_16 x3.toNatClampNeg (zI h b_18 (x3 - 1).toNatClampNeg)) (fun h_21 => some (.inl ((h_21, x3 + (-1))))))))))))))))))
theorem zX3_close_L63 {F : zF} {h : zH} {a : Nat} {x1 : Int32} {x2 : Int32} {x3 : Int32} {y : (zH × Int32) ⊕ (zH × Int32)} (hD : 2 ≤ F.2.1) (hL : zCt [(tB, tP, a)] [] h) (hf : fX3_close_L63 h a x1 x2 x3 = some y) (hM : ((∀ s' : zH × Int32, y = .inl s' → (zCt [(tB, tP, a)] [] s'.1 → Z F 4 cX3_close RX3 "close" none [] s'.1 63 [(0, .ref a), (1, .int x1), (2, .int x2), (3, .int s'.2)] [])) ∧ ∀ r : zH × Int32, y = .inr r → (zCt [(tB, tP, a)] [] r.1 → Z F 4 cX3_close RX3 "close" none [] r.1 113 [(0, .ref a), (1, .int x1), (2, .int x2), (3, .int r.2)] []))) : Z F 4 cX3_close RX3 "close" none [] h 63 [(0, .ref a), (1, .int x1), (2, .int x2), (3, .int x3)] [] := by
  unfold fX3_close_L63 at hf
  refine z_iload_n 3 dX3_close_63 rfl rfl ?_
  refine z_if_le 113 dX3_close_64 rfl hf (fun _ hf => ?_) (fun _ hf => ?_)
  · cases hf
    exact (hM.2 _ rfl) hL
  · refine z_aload_n 0 dX3_close_67 rfl rfl ?_
    refine z_aload_n 0 dX3_close_68 rfl rfl ?_
    refine z_getr fdX3_42_2 (Or.inr ⟨_, rfl⟩) ((hL.b 0 rfl).t 0 rfl) ((hL.b 0 rfl).p 13 rfl) dX3_close_69 ?_
    refine z_iload_n 2 dX3_close_72 rfl rfl ?_
    obtain ⟨hi_8, hf⟩ := zck_some hf
    obtain ⟨b_9, hb_9, hf⟩ := zb1_some hf
    refine z_aldr (t := 6) rfl (Or.inr ⟨_, rfl⟩) ((hL.b 0 rfl).t 10 rfl) hi_8 hb_9 dX3_close_73 ?_
    refine z_iload_n 3 dX3_close_74 rfl rfl ?_
    refine z_iconst 1 dX3_close_75 rfl ?_
    refine z_isub dX3_close_76 ?_
    obtain ⟨hi_10, hf⟩ := zck_some hf
    refine z_iald (zAr_t hi_10) hi_10.2 dX3_close_77 ?_
    obtain ⟨v_12, hc_11, hf⟩ := zb1_some hf
    refine z_invVi svX3_99_2 (ctX3_keyOf hL hc_11) ((hL.b 0 rfl).t 0 rfl) ⟨Nat.le_trans (by decide) hD, by decide⟩ rfl rfl (Nat.le_of_ble_eq_true rfl) dX3_close_78 ?_
    refine z_aload_n 0 dX3_close_81 rfl rfl ?_
    refine z_iload_n 1 dX3_close_82 rfl rfl ?_
    obtain ⟨v_14, hc_13, hf⟩ := zb1_some hf
    refine z_invVi svX3_99_2 (ctX3_keyOf hL hc_13) ((hL.b 0 rfl).t 0 rfl) ⟨Nat.le_trans (by decide) hD, by decide⟩ rfl rfl (Nat.le_of_ble_eq_true rfl) dX3_close_83 ?_
    refine z_icmp_le 113 dX3_close_86 rfl hf (fun _ hf => ?_) (fun _ hf => ?_)
    · cases hf
      exact (hM.2 _ rfl) hL
    · refine z_aload_n 0 dX3_close_89 rfl rfl ?_
      refine z_getr fdX3_42_2 (Or.inr ⟨_, rfl⟩) ((hL.b 0 rfl).t 0 rfl) ((hL.b 0 rfl).p 13 rfl) dX3_close_90 ?_
      refine z_iload_n 2 dX3_close_93 rfl rfl ?_
      obtain ⟨hi_15, hf⟩ := zck_some hf
      obtain ⟨b_16, hb_16, hf⟩ := zb1_some hf
      refine z_aldr (t := 6) rfl (Or.inr ⟨_, rfl⟩) ((hL.b 0 rfl).t 10 rfl) hi_15 hb_16 dX3_close_94 ?_
      refine z_iload_n 3 dX3_close_95 rfl rfl ?_
      refine z_aload_n 0 dX3_close_96 rfl rfl ?_
      refine z_getr fdX3_42_2 (Or.inr ⟨_, rfl⟩) ((hL.b 0 rfl).t 0 rfl) ((hL.b 0 rfl).p 13 rfl) dX3_close_97 ?_
      refine z_iload_n 2 dX3_close_100 rfl rfl ?_
      obtain ⟨hi_17, hf⟩ := zck_some hf
      obtain ⟨b_18, hb_18, hf⟩ := zb1_some hf
      refine z_aldr (t := 6) rfl (Or.inr ⟨_, rfl⟩) ((hL.b 0 rfl).t 10 rfl) hi_17 hb_18 dX3_close_101 ?_
      refine z_iload_n 3 dX3_close_102 rfl rfl ?_
      refine z_iconst 1 dX3_close_103 rfl ?_
      refine z_isub dX3_close_104 ?_
      obtain ⟨hi_19, hf⟩ := zck_some hf
      refine z_iald (zAr_t hi_19) hi_19.2 dX3_close_105 ?_
      obtain ⟨hi_20, hf⟩ := zck_some hf
      obtain ⟨h_21, he, hf⟩ := zlet_some hf
      refine z_iast (zAr_t hi_20.2) hi_20.1 hi_20.2.2 he dX3_close_106 ?_
      have hL := hL.I he
      refine z_iinc 3 (x3 + (-1)) dX3_close_107 rfl rfl (by decide) (lc' := [(0, .ref a), (1, .int x1), (2, .int x2), (3, .int (x3 + (-1)))]) rfl ?_
      refine z_goto 63 dX3_close_110 rfl ?_
      cases hf
      exact (hM.1 _ rfl) hL
noncomputable def fX3_close_J113 (h : zH) (a : Nat) (x1 : Int32) (x2 : Int32) (x3 : Int32) : Option ((zH × Int32) ⊕ (zH)) := zck (vp_in x2 4) (zb1 (zP h (a + 10) x2.toNatClampNeg) (fun b_24 => zck (b_24 ≠ 0 ∧ zAr h b_24 x3) (zlet (zsI h b_24 x3.toNatClampNeg x1) (fun h_26 => zck (vp_in x2 4) (zck (vp_in x2 4) (zlet (zsI h_26 (a + 15) x2.toNatClampNeg ((zI h_26 (a + 15) x2.toNatClampNeg) + 1)) (fun h_29 => zb1 (fX3_next h_29 a x1) (fun v_31 => some (.inl ((h_29, v_31)))))))))))
theorem zX3_close_J113 {F : zF} {h : zH} {a : Nat} {x1 : Int32} {x2 : Int32} {x3 : Int32} {y : (zH × Int32) ⊕ (zH)} (hD : 2 ≤ F.2.1) (hL : zCt [(tB, tP, a)] [] h) (hf : fX3_close_J113 h a x1 x2 x3 = some y) (hM : ((∀ s' : zH × Int32, y = .inl s' → (zCt [(tB, tP, a)] [] s'.1 → Z F 4 cX3_close RX3 "close" none [] s'.1 39 [(0, .ref a), (1, .int s'.2)] [])) ∧ ∀ r : zH, y = .inr r → (zCt [(tB, tP, a)] [] r → Z F 4 cX3_close RX3 "close" none [] r 141 [(0, .ref a)] []))) : Z F 4 cX3_close RX3 "close" none [] h 113 [(0, .ref a), (1, .int x1), (2, .int x2), (3, .int x3)] [] := by
  unfold fX3_close_J113 at hf
  refine z_aload_n 0 dX3_close_113 rfl rfl ?_
  refine z_getr fdX3_42_2 (Or.inr ⟨_, rfl⟩) ((hL.b 0 rfl).t 0 rfl) ((hL.b 0 rfl).p 13 rfl) dX3_close_114 ?_
  refine z_iload_n 2 dX3_close_117 rfl rfl ?_
  obtain ⟨hi_23, hf⟩ := zck_some hf
  obtain ⟨b_24, hb_24, hf⟩ := zb1_some hf
  refine z_aldr (t := 6) rfl (Or.inr ⟨_, rfl⟩) ((hL.b 0 rfl).t 10 rfl) hi_23 hb_24 dX3_close_118 ?_
  refine z_iload_n 3 dX3_close_119 rfl rfl ?_
  refine z_iload_n 1 dX3_close_120 rfl rfl ?_
  obtain ⟨hi_25, hf⟩ := zck_some hf
  obtain ⟨h_26, he, hf⟩ := zlet_some hf
  refine z_iast (zAr_t hi_25.2) hi_25.1 hi_25.2.2 he dX3_close_121 ?_
  have hL := hL.I he
  refine z_aload_n 0 dX3_close_122 rfl rfl ?_
  refine z_getr fdX3_45_2 (Or.inr ⟨_, rfl⟩) ((hL.b 0 rfl).t 0 rfl) ((hL.b 0 rfl).p 14 rfl) dX3_close_123 ?_
  refine z_iload_n 2 dX3_close_126 rfl rfl ?_
  refine z_dup2 dX3_close_127 rfl rfl ?_
  obtain ⟨hi_27, hf⟩ := zck_some hf
  refine z_iald ((hL.b 0 rfl).t 15 rfl) hi_27 dX3_close_128 ?_
  refine z_iconst 1 dX3_close_129 rfl ?_
  refine z_iadd dX3_close_130 ?_
  obtain ⟨hi_28, hf⟩ := zck_some hf
  obtain ⟨h_29, he, hf⟩ := zlet_some hf
  refine z_iast ((hL.b 0 rfl).t 15 rfl) ((hL.b 0 rfl).nz 15) hi_28 he dX3_close_131 ?_
  have hL := hL.I he
  refine z_aload_n 0 dX3_close_132 rfl rfl ?_
  refine z_iload_n 1 dX3_close_133 rfl rfl ?_
  obtain ⟨v_31, hc_30, hf⟩ := zb1_some hf
  refine z_invVi svX3_111_2 (ctX3_next hL hc_30) ((hL.b 0 rfl).t 0 rfl) ⟨Nat.le_trans (by decide) hD, by decide⟩ rfl rfl (Nat.le_of_ble_eq_true rfl) dX3_close_134 ?_
  refine z_istore_n dX3_close_137 rfl (by decide) (lc' := [(0, .ref a), (1, .int v_31), (2, .int x2), (3, .int x3)]) rfl ?_
  refine z_goto 39 dX3_close_138 rfl ?_
  cases hf
  refine z_sub [0, 1] rfl ?_
  exact (hM.1 _ rfl) hL
noncomputable def fX3_close_L39 (h : zH) (a : Nat) (x1 : Int32) : Option ((zH × Int32) ⊕ (zH)) := if ((100 : Int32) + (zI h a 10)) ≤ x1 then (some (.inr h)) else (zb1 (fX3_stateOf h a x1) (fun v_6 => zck (vp_in v_6 4) (zb1 (zlp (fun s => fX3_close_L63 s.1 a x1 v_6 s.2) (h, zI h (a + 15) v_6.toNatClampNeg)) (fun t_22 => fX3_close_J113 t_22.1 a x1 v_6 t_22.2))))
theorem zX3_close_L39 {F : zF} {h : zH} {a : Nat} {x1 : Int32} {y : (zH × Int32) ⊕ (zH)} (hD : 2 ≤ F.2.1) (hL : zCt [(tB, tP, a)] [] h) (hf : fX3_close_L39 h a x1 = some y) (hM : ((∀ s' : zH × Int32, y = .inl s' → (zCt [(tB, tP, a)] [] s'.1 → Z F 4 cX3_close RX3 "close" none [] s'.1 39 [(0, .ref a), (1, .int s'.2)] [])) ∧ ∀ r : zH, y = .inr r → (zCt [(tB, tP, a)] [] r → Z F 4 cX3_close RX3 "close" none [] r 141 [(0, .ref a)] []))) : Z F 4 cX3_close RX3 "close" none [] h 39 [(0, .ref a), (1, .int x1)] [] := by
  unfold fX3_close_L39 at hf
  refine z_iload_n 1 dX3_close_39 rfl rfl ?_
  refine z_bipush 100 dX3_close_40 rfl ?_
  refine z_aload_n 0 dX3_close_42 rfl rfl ?_
  refine z_geti fdX3_75_2 ((hL.b 0 rfl).t 0 rfl) dX3_close_43 ?_
  refine z_iadd dX3_close_46 ?_
  refine z_icmp_ge 141 dX3_close_47 rfl hf (fun _ hf => ?_) (fun _ hf => ?_)
  · cases hf
    refine z_sub [0] rfl ?_
    exact (hM.2 _ rfl) hL
  · refine z_aload_n 0 dX3_close_50 rfl rfl ?_
    refine z_iload_n 1 dX3_close_51 rfl rfl ?_
    obtain ⟨v_6, hc_5, hf⟩ := zb1_some hf
    refine z_invVi svX3_96_2 (ctX3_stateOf hL hc_5) ((hL.b 0 rfl).t 0 rfl) ⟨Nat.le_trans (by decide) hD, by decide⟩ rfl rfl (Nat.le_of_ble_eq_true rfl) dX3_close_52 ?_
    refine z_istore_n dX3_close_55 rfl (by decide) (lc' := [(0, .ref a), (1, .int x1), (2, .int v_6)]) rfl ?_
    refine z_aload_n 0 dX3_close_56 rfl rfl ?_
    refine z_getr fdX3_45_2 (Or.inr ⟨_, rfl⟩) ((hL.b 0 rfl).t 0 rfl) ((hL.b 0 rfl).p 14 rfl) dX3_close_57 ?_
    refine z_iload_n 2 dX3_close_60 rfl rfl ?_
    obtain ⟨hi_7, hf⟩ := zck_some hf
    refine z_iald ((hL.b 0 rfl).t 15 rfl) hi_7 dX3_close_61 ?_
    refine z_istore_n dX3_close_62 rfl (by decide) (lc' := [(0, .ref a), (1, .int x1), (2, .int v_6), (3, .int (zI h (a + 15) v_6.toNatClampNeg))]) rfl ?_
    obtain ⟨t_22, hl, hf⟩ := zb1_some hf
    refine z_loop (fun (s : zH × Int32) => (zCt [(tB, tP, a)] [] s.1 → Z F 4 cX3_close RX3 "close" none [] s.1 63 [(0, .ref a), (1, .int x1), (2, .int v_6), (3, .int s.2)] [])) (fun (r : zH × Int32) => (zCt [(tB, tP, a)] [] r.1 → Z F 4 cX3_close RX3 "close" none [] r.1 113 [(0, .ref a), (1, .int x1), (2, .int v_6), (3, .int r.2)] [])) (fun s y hb hs hr hL => zX3_close_L63 hD hL hb ⟨hs, hr⟩) hl ?_ hL
    intro hL
    show Z F 4 cX3_close RX3 "close" none [] t_22.1 113 [(0, .ref a), (1, .int x1), (2, .int v_6), (3, .int t_22.2)] []
    exact zX3_close_J113 hD hL hf hM
theorem fdX3_150_2 : zFd RX3 150 2 18 .int false := ⟨_, _, _, rfl, rfl, by decide, rfl, rfl, Or.inl q252, Or.inl rfl⟩
theorem fdX3_48_2 : zFd RX3 48 2 17 (.array .int) true := ⟨_, _, _, rfl, rfl, by decide, rfl, rfl, Or.inl q251, Or.inl rfl⟩
noncomputable def fX3_close_L173 (h : zH) (a : Nat) (x1 : Int32) (x2 : Int32) : Option ((zH × Int32) ⊕ (zH × Int32)) := if x2 ≤ 0 then (some (.inr ((h, x2)))) else (zck (vp_in (x2 - 1) 100) (zck (vp_in (zI h (a + 16) (x2 - 1).toNatClampNeg) 100) (zck (vp_in x1 100) (if (zI h (a + 4) (zI h (a + 16) (x2 - 1).toNatClampNeg).toNatClampNeg) ≤ (zI h (a + 4) x1.toNatClampNeg) then (some (.inr ((h, x2)))) else (zck (vp_in (x2 - 1) 100) (zck (vp_in x2 100) (zlet (zsI h (a + 16) x2.toNatClampNeg (zI h (a + 16) (x2 - 1).toNatClampNeg)) (fun h_40 => some (.inl ((h_40, x2 + (-1))))))))))))
theorem zX3_close_L173 {F : zF} {h : zH} {a : Nat} {x1 : Int32} {x2 : Int32} {y : (zH × Int32) ⊕ (zH × Int32)} (hD : 2 ≤ F.2.1) (hL : zCt [(tB, tP, a)] [] h) (hf : fX3_close_L173 h a x1 x2 = some y) (hM : ((∀ s' : zH × Int32, y = .inl s' → (zCt [(tB, tP, a)] [] s'.1 → Z F 4 cX3_close RX3 "close" none [] s'.1 173 [(0, .ref a), (1, .int x1), (2, .int s'.2)] [])) ∧ ∀ r : zH × Int32, y = .inr r → (zCt [(tB, tP, a)] [] r.1 → Z F 4 cX3_close RX3 "close" none [] r.1 219 [(0, .ref a), (1, .int x1), (2, .int r.2)] []))) : Z F 4 cX3_close RX3 "close" none [] h 173 [(0, .ref a), (1, .int x1), (2, .int x2)] [] := by
  unfold fX3_close_L173 at hf
  refine z_iload_n 2 dX3_close_173 rfl rfl ?_
  refine z_if_le 219 dX3_close_174 rfl hf (fun _ hf => ?_) (fun _ hf => ?_)
  · cases hf
    exact (hM.2 _ rfl) hL
  · refine z_aload_n 0 dX3_close_177 rfl rfl ?_
    refine z_getr fdX3_21_2 (Or.inr ⟨_, rfl⟩) ((hL.b 0 rfl).t 0 rfl) ((hL.b 0 rfl).p 3 rfl) dX3_close_178 ?_
    refine z_aload_n 0 dX3_close_181 rfl rfl ?_
    refine z_getr fdX3_48_2 (Or.inr ⟨_, rfl⟩) ((hL.b 0 rfl).t 0 rfl) ((hL.b 0 rfl).p 15 rfl) dX3_close_182 ?_
    refine z_iload_n 2 dX3_close_185 rfl rfl ?_
    refine z_iconst 1 dX3_close_186 rfl ?_
    refine z_isub dX3_close_187 ?_
    obtain ⟨hi_35, hf⟩ := zck_some hf
    refine z_iald ((hL.b 0 rfl).t 16 rfl) hi_35 dX3_close_188 ?_
    obtain ⟨hi_36, hf⟩ := zck_some hf
    refine z_iald ((hL.b 0 rfl).t 4 rfl) hi_36 dX3_close_189 ?_
    refine z_aload_n 0 dX3_close_190 rfl rfl ?_
    refine z_getr fdX3_21_2 (Or.inr ⟨_, rfl⟩) ((hL.b 0 rfl).t 0 rfl) ((hL.b 0 rfl).p 3 rfl) dX3_close_191 ?_
    refine z_iload_n 1 dX3_close_194 rfl rfl ?_
    obtain ⟨hi_37, hf⟩ := zck_some hf
    refine z_iald ((hL.b 0 rfl).t 4 rfl) hi_37 dX3_close_195 ?_
    refine z_icmp_le 219 dX3_close_196 rfl hf (fun _ hf => ?_) (fun _ hf => ?_)
    · cases hf
      exact (hM.2 _ rfl) hL
    · refine z_aload_n 0 dX3_close_199 rfl rfl ?_
      refine z_getr fdX3_48_2 (Or.inr ⟨_, rfl⟩) ((hL.b 0 rfl).t 0 rfl) ((hL.b 0 rfl).p 15 rfl) dX3_close_200 ?_
      refine z_iload_n 2 dX3_close_203 rfl rfl ?_
      refine z_aload_n 0 dX3_close_204 rfl rfl ?_
      refine z_getr fdX3_48_2 (Or.inr ⟨_, rfl⟩) ((hL.b 0 rfl).t 0 rfl) ((hL.b 0 rfl).p 15 rfl) dX3_close_205 ?_
      refine z_iload_n 2 dX3_close_208 rfl rfl ?_
      refine z_iconst 1 dX3_close_209 rfl ?_
      refine z_isub dX3_close_210 ?_
      obtain ⟨hi_38, hf⟩ := zck_some hf
      refine z_iald ((hL.b 0 rfl).t 16 rfl) hi_38 dX3_close_211 ?_
      obtain ⟨hi_39, hf⟩ := zck_some hf
      obtain ⟨h_40, he, hf⟩ := zlet_some hf
      refine z_iast ((hL.b 0 rfl).t 16 rfl) ((hL.b 0 rfl).nz 16) hi_39 he dX3_close_212 ?_
      have hL := hL.I he
      refine z_iinc 2 (x2 + (-1)) dX3_close_213 rfl rfl (by decide) (lc' := [(0, .ref a), (1, .int x1), (2, .int (x2 + (-1)))]) rfl ?_
      refine z_goto 173 dX3_close_216 rfl ?_
      cases hf
      exact (hM.1 _ rfl) hL
noncomputable def fX3_close_L148 (h : zH) (a : Nat) (x1 : Int32) : Option ((zH × Int32) ⊕ (zH)) := if (zI h a 4) ≤ x1 then (some (.inr h)) else (zck (vp_in x1 100) (if (zI h (a + 5) x1.toNatClampNeg) = 0 then (some (.inl ((h, x1 + 1)))) else (zb1 (zlp (fun s => fX3_close_L173 s.1 a x1 s.2) (h, zI h a 18)) (fun t_41 => zck (vp_in t_41.2 100) (zlet (zsI t_41.1 (a + 16) t_41.2.toNatClampNeg x1) (fun h_43 => zlet (zsI h_43 a 18 ((zI h_43 a 18) + 1)) (fun h_44 => some (.inl ((h_44, x1 + 1))))))))))
theorem zX3_close_L148 {F : zF} {h : zH} {a : Nat} {x1 : Int32} {y : (zH × Int32) ⊕ (zH)} (hD : 2 ≤ F.2.1) (hL : zCt [(tB, tP, a)] [] h) (hf : fX3_close_L148 h a x1 = some y) (hM : ((∀ s' : zH × Int32, y = .inl s' → (zCt [(tB, tP, a)] [] s'.1 → Z F 4 cX3_close RX3 "close" none [] s'.1 148 [(0, .ref a), (1, .int s'.2)] [])) ∧ ∀ r : zH, y = .inr r → ((.inl none, r) : zX) = zEnd F)) : Z F 4 cX3_close RX3 "close" none [] h 148 [(0, .ref a), (1, .int x1)] [] := by
  unfold fX3_close_L148 at hf
  refine z_iload_n 1 dX3_close_148 rfl rfl ?_
  refine z_aload_n 0 dX3_close_149 rfl rfl ?_
  refine z_geti fdX3_71_2 ((hL.b 0 rfl).t 0 rfl) dX3_close_150 ?_
  refine z_icmp_ge 242 dX3_close_153 rfl hf (fun _ hf => ?_) (fun _ hf => ?_)
  · cases hf
    exact z_vret dX3_close_242 rfl (hM.2 _ rfl)
  · refine z_aload_n 0 dX3_close_156 rfl rfl ?_
    refine z_getr fdX3_24_2 (Or.inr ⟨_, rfl⟩) ((hL.b 0 rfl).t 0 rfl) ((hL.b 0 rfl).p 4 rfl) dX3_close_157 ?_
    refine z_iload_n 1 dX3_close_160 rfl rfl ?_
    obtain ⟨hi_34, hf⟩ := zck_some hf
    refine z_zald ((hL.b 0 rfl).t 5 rfl) hi_34 dX3_close_161 ?_
    refine z_if_ne 168 dX3_close_162 rfl hf (fun _ hf => ?_) (fun _ hf => ?_)
    · refine z_aload_n 0 dX3_close_168 rfl rfl ?_
      refine z_geti fdX3_150_2 ((hL.b 0 rfl).t 0 rfl) dX3_close_169 ?_
      refine z_istore_n dX3_close_172 rfl (by decide) (lc' := [(0, .ref a), (1, .int x1), (2, .int (zI h a 18))]) rfl ?_
      obtain ⟨t_41, hl, hf⟩ := zb1_some hf
      refine z_loop (fun (s : zH × Int32) => (zCt [(tB, tP, a)] [] s.1 → Z F 4 cX3_close RX3 "close" none [] s.1 173 [(0, .ref a), (1, .int x1), (2, .int s.2)] [])) (fun (r : zH × Int32) => (zCt [(tB, tP, a)] [] r.1 → Z F 4 cX3_close RX3 "close" none [] r.1 219 [(0, .ref a), (1, .int x1), (2, .int r.2)] [])) (fun s y hb hs hr hL => zX3_close_L173 hD hL hb ⟨hs, hr⟩) hl ?_ hL
      intro hL
      show Z F 4 cX3_close RX3 "close" none [] t_41.1 219 [(0, .ref a), (1, .int x1), (2, .int t_41.2)] []
      refine z_aload_n 0 dX3_close_219 rfl rfl ?_
      refine z_getr fdX3_48_2 (Or.inr ⟨_, rfl⟩) ((hL.b 0 rfl).t 0 rfl) ((hL.b 0 rfl).p 15 rfl) dX3_close_220 ?_
      refine z_iload_n 2 dX3_close_223 rfl rfl ?_
      refine z_iload_n 1 dX3_close_224 rfl rfl ?_
      obtain ⟨hi_42, hf⟩ := zck_some hf
      obtain ⟨h_43, he, hf⟩ := zlet_some hf
      refine z_iast ((hL.b 0 rfl).t 16 rfl) ((hL.b 0 rfl).nz 16) hi_42 he dX3_close_225 ?_
      have hL := hL.I he
      refine z_aload_n 0 dX3_close_226 rfl rfl ?_
      refine z_dup dX3_close_227 rfl ?_
      refine z_geti fdX3_150_2 ((hL.b 0 rfl).t 0 rfl) dX3_close_228 ?_
      refine z_iconst 1 dX3_close_231 rfl ?_
      refine z_iadd dX3_close_232 ?_
      obtain ⟨h_44, he, hf⟩ := zlet_some hf
      refine z_puti fdX3_150_2 ((hL.b 0 rfl).t 0 rfl) ((hL.b 0 rfl).nz 0) he dX3_close_233 ?_
      have hL := hL.I he
      refine z_iinc 1 (x1 + 1) dX3_close_236 rfl rfl (by decide) (lc' := [(0, .ref a), (1, .int (x1 + 1)), (2, .int t_41.2)]) rfl ?_
      refine z_goto 148 dX3_close_239 rfl ?_
      cases hf
      refine z_sub [0, 1] rfl ?_
      exact (hM.1 _ rfl) hL
    · refine z_goto 236 dX3_close_165 rfl ?_
      refine z_iinc 1 (x1 + 1) dX3_close_236 rfl rfl (by decide) (lc' := [(0, .ref a), (1, .int (x1 + 1))]) rfl ?_
      refine z_goto 148 dX3_close_239 rfl ?_
      cases hf
      exact (hM.1 _ rfl) hL
noncomputable def fX3_close_J38 (h : zH) (a : Nat) (k0 : Int32) : Option (zH) := zb1 (zlp (fun s => fX3_close_L39 s.1 a s.2) (h, k0)) (fun t_32 => zlet (zsI t_32 a 18 0) (fun h_33 => zlp (fun s => fX3_close_L148 s.1 a s.2) (h_33, 0)))
theorem zX3_close_J38 {F : zF} {h : zH} {a : Nat} {k0 : Int32} {y : zH} (hD : 2 ≤ F.2.1) (hL : zCt [(tB, tP, a)] [] h) (hf : fX3_close_J38 h a k0 = some y) (hM : ((.inl none, y) : zX) = zEnd F) : Z F 4 cX3_close RX3 "close" none [] h 38 [(0, .ref a)] [.int k0] := by
  unfold fX3_close_J38 at hf
  refine z_istore_n dX3_close_38 rfl (by decide) (lc' := [(0, .ref a), (1, .int k0)]) rfl ?_
  obtain ⟨t_32, hl, hf⟩ := zb1_some hf
  refine z_loop (fun (s : zH × Int32) => (zCt [(tB, tP, a)] [] s.1 → Z F 4 cX3_close RX3 "close" none [] s.1 39 [(0, .ref a), (1, .int s.2)] [])) (fun (r : zH) => (zCt [(tB, tP, a)] [] r → Z F 4 cX3_close RX3 "close" none [] r 141 [(0, .ref a)] [])) (fun s y hb hs hr hL => zX3_close_L39 hD hL hb ⟨hs, hr⟩) hl ?_ hL
  intro hL
  show Z F 4 cX3_close RX3 "close" none [] t_32 141 [(0, .ref a)] []
  refine z_aload_n 0 dX3_close_141 rfl rfl ?_
  refine z_iconst 0 dX3_close_142 rfl ?_
  obtain ⟨h_33, he, hf⟩ := zlet_some hf
  refine z_puti fdX3_150_2 ((hL.b 0 rfl).t 0 rfl) ((hL.b 0 rfl).nz 0) he dX3_close_143 ?_
  have hL := hL.I he
  refine z_iconst 0 dX3_close_146 rfl ?_
  refine z_istore_n dX3_close_147 rfl (by decide) (lc' := [(0, .ref a), (1, .int 0)]) rfl ?_
  exact z_loop (fun (s : zH × Int32) => (zCt [(tB, tP, a)] [] s.1 → Z F 4 cX3_close RX3 "close" none [] s.1 148 [(0, .ref a), (1, .int s.2)] [])) (fun (r : zH) => ((.inl none, r) : zX) = zEnd F) (fun s y hb hs hr hL => zX3_close_L148 hD hL hb ⟨hs, hr⟩) hf hM hL
noncomputable def fX3_close (h : zH) (a : Nat) : Option (zH) := zlet (zsI h a 3 1) (fun h_1 => zb1 (zlp (fun s => fX3_close_L7 s.1 a s.2) (h_1, 0)) (fun t_4 => if (zI t_4 a 4) ≤ 0 then (fX3_close_J38 t_4 a 100) else (fX3_close_J38 t_4 a 0)))
theorem zX3_close {F : zF} {h : zH} {a : Nat} {y : zH} (hD : 2 ≤ F.2.1) (hL : zCt [(tB, tP, a)] [] h) (hf : fX3_close h a = some y) (hM : ((.inl none, y) : zX) = zEnd F) : Z F 4 cX3_close RX3 "close" none [] h 0 [(0, .ref a)] [] := by
  unfold fX3_close at hf
  refine z_aload_n 0 dX3_close_0 rfl rfl ?_
  refine z_iconst 1 dX3_close_1 rfl ?_
  obtain ⟨h_1, he, hf⟩ := zlet_some hf
  refine z_putz fdX3_67_2 (Or.inr rfl) ((hL.b 0 rfl).t 0 rfl) ((hL.b 0 rfl).nz 0) he dX3_close_2 ?_
  have hL := hL.I he
  refine z_iconst 0 dX3_close_5 rfl ?_
  refine z_istore_n dX3_close_6 rfl (by decide) (lc' := [(0, .ref a), (1, .int 0)]) rfl ?_
  obtain ⟨t_4, hl, hf⟩ := zb1_some hf
  refine z_loop (fun (s : zH × Int32) => (zCt [(tB, tP, a)] [] s.1 → Z F 4 cX3_close RX3 "close" none [] s.1 7 [(0, .ref a), (1, .int s.2)] [])) (fun (r : zH) => (zCt [(tB, tP, a)] [] r → Z F 4 cX3_close RX3 "close" none [] r 25 [(0, .ref a)] [])) (fun s y hb hs hr hL => zX3_close_L7 hD hL hb ⟨hs, hr⟩) hl ?_ hL
  intro hL
  show Z F 4 cX3_close RX3 "close" none [] t_4 25 [(0, .ref a)] []
  refine z_aload_n 0 dX3_close_25 rfl rfl ?_
  refine z_geti fdX3_71_2 ((hL.b 0 rfl).t 0 rfl) dX3_close_26 ?_
  refine z_if_le 36 dX3_close_29 rfl hf (fun _ hf => ?_) (fun _ hf => ?_)
  · refine z_bipush 100 dX3_close_36 rfl ?_
    exact zX3_close_J38 hD hL hf hM
  · refine z_iconst 0 dX3_close_32 rfl ?_
    refine z_goto 38 dX3_close_33 rfl ?_
    exact zX3_close_J38 hD hL hf hM
theorem ctX3_close {l : Launch} {h : zH} {a : Nat} {h' : zH} (hL : zCt [(tB, tP, a)] [] h) (hf : fX3_close h a = some h') : zC l yX3_close (ws_ yX3_close cX3_close 4 none) 2 [.ref a] h (.inl none, h') :=
  z_start (by decide) (Nat.le_of_ble_eq_true rfl) (zX3_close (F := (l, 2, h, (.inl none, h'))) (Nat.le_refl _) hL hf rfl)
noncomputable def fX3_kind (a : Nat) : Option (Int32) := some 0
theorem zX3_kind {F : zF} {h : zH} {a : Nat} {y : Int32} (hD : 1 ≤ F.2.1) (hL : zCt [(tB, tP, a)] [] h) (hf : fX3_kind a = some y) (hM : ((.inl (some (.int y)), h) : zX) = zEnd F) : Z F 1 cX3_kind RX3 "kind" (some .int) [] h 0 [(0, .ref a)] [] := by
  unfold fX3_kind at hf
  refine z_iconst 0 dX3_kind_0 rfl ?_
  cases hf
  exact z_iret dX3_kind_1 rfl hM
theorem ctX3_kind {l : Launch} {h : zH} {a : Nat} {v : Int32} (hL : zCt [(tB, tP, a)] [] h) (hf : fX3_kind a = some v) : zC l yX3_kind (ws_ yX3_kind cX3_kind 1 (some .int)) 1 [.ref a] h (.inl (some (.int v)), h) :=
  z_start (by decide) (Nat.le_of_ble_eq_true rfl) (zX3_kind (F := (l, 1, h, (.inl (some (.int v)), h))) (Nat.le_refl _) hL hf rfl)
noncomputable def fX3_isClosed (h : zH) (a : Nat) : Option (Int32) := zck (zB (zI h a 3)) (some (zI h a 3))
theorem zX3_isClosed {F : zF} {h : zH} {a : Nat} {y : Int32} (hD : 1 ≤ F.2.1) (hL : zCt [(tB, tP, a)] [] h) (hf : fX3_isClosed h a = some y) (hM : ((.inl (some (.int y)), h) : zX) = zEnd F) : Z F 1 cX3_isClosed RX3 "isClosed" (some .boolean) [] h 0 [(0, .ref a)] [] := by
  unfold fX3_isClosed at hf
  refine z_aload_n 0 dX3_isClosed_0 rfl rfl ?_
  refine z_getz fdX3_67_2 ((hL.b 0 rfl).t 0 rfl) dX3_isClosed_1 ?_
  obtain ⟨hz_1, hf⟩ := zck_some hf
  cases hf
  exact z_zret dX3_isClosed_4 rfl hz_1 hM
theorem ctX3_isClosed {l : Launch} {h : zH} {a : Nat} {v : Int32} (hL : zCt [(tB, tP, a)] [] h) (hf : fX3_isClosed h a = some v) : zC l yX3_isClosed (ws_ yX3_isClosed cX3_isClosed 1 (some .boolean)) 1 [.ref a] h (.inl (some (.int v)), h) :=
  z_start (by decide) (Nat.le_of_ble_eq_true rfl) (zX3_isClosed (F := (l, 1, h, (.inl (some (.int v)), h))) (Nat.le_refl _) hL hf rfl)
noncomputable def fX3_below_L7 (h : zH) (a : Nat) (x1 : Int32) (x2 : Int32) (x3 : Int32) : Option ((Int32 × Int32) ⊕ (Int32)) := if x3 ≤ x2 then (some (.inr x2)) else (zck (vp_in (((x2 + x3).toUInt32 >>> ((1 : Int32).toUInt32 &&& Int32.toUInt32 31)).toInt32) 100) (zck (vp_in (zI h (a + 16) (((x2 + x3).toUInt32 >>> ((1 : Int32).toUInt32 &&& Int32.toUInt32 31)).toInt32).toNatClampNeg) 100) (if x1 ≤ (zI h (a + 4) (zI h (a + 16) (((x2 + x3).toUInt32 >>> ((1 : Int32).toUInt32 &&& Int32.toUInt32 31)).toInt32).toNatClampNeg).toNatClampNeg) then (some (.inl ((x2, ((x2 + x3).toUInt32 >>> ((1 : Int32).toUInt32 &&& Int32.toUInt32 31)).toInt32)))) else (some (.inl (((((x2 + x3).toUInt32 >>> ((1 : Int32).toUInt32 &&& Int32.toUInt32 31)).toInt32) + 1, x3)))))))
theorem zX3_below_L7 {F : zF} {h : zH} {a : Nat} {x1 : Int32} {x2 : Int32} {x3 : Int32} {y : (Int32 × Int32) ⊕ (Int32)} (hD : 1 ≤ F.2.1) (hL : zCt [(tB, tP, a)] [] h) (hf : fX3_below_L7 h a x1 x2 x3 = some y) (hM : ((∀ s' : Int32 × Int32, y = .inl s' → Z F 5 cX3_below RX3 "below" (some .int) [] h 7 [(0, .ref a), (1, .int x1), (2, .int s'.1), (3, .int s'.2)] []) ∧ ∀ r : Int32, y = .inr r → ((.inl (some (.int r)), h) : zX) = zEnd F)) : Z F 5 cX3_below RX3 "below" (some .int) [] h 7 [(0, .ref a), (1, .int x1), (2, .int x2), (3, .int x3)] [] := by
  unfold fX3_below_L7 at hf
  refine z_iload_n 2 dX3_below_7 rfl rfl ?_
  refine z_iload_n 3 dX3_below_8 rfl rfl ?_
  refine z_icmp_ge 49 dX3_below_9 rfl hf (fun _ hf => ?_) (fun _ hf => ?_)
  · refine z_iload_n 2 dX3_below_49 rfl rfl ?_
    cases hf
    exact z_iret dX3_below_50 rfl (hM.2 _ rfl)
  · refine z_iload_n 2 dX3_below_12 rfl rfl ?_
    refine z_iload_n 3 dX3_below_13 rfl rfl ?_
    refine z_iadd dX3_below_14 ?_
    refine z_iconst 1 dX3_below_15 rfl ?_
    refine z_iushr dX3_below_16 ?_
    refine z_istore dX3_below_17 (by decide) (lc' := [(0, .ref a), (1, .int x1), (2, .int x2), (3, .int x3), (4, .int (((x2 + x3).toUInt32 >>> ((1 : Int32).toUInt32 &&& Int32.toUInt32 31)).toInt32))]) rfl ?_
    refine z_aload_n 0 dX3_below_19 rfl rfl ?_
    refine z_getr fdX3_21_2 (Or.inr ⟨_, rfl⟩) ((hL.b 0 rfl).t 0 rfl) ((hL.b 0 rfl).p 3 rfl) dX3_below_20 ?_
    refine z_aload_n 0 dX3_below_23 rfl rfl ?_
    refine z_getr fdX3_48_2 (Or.inr ⟨_, rfl⟩) ((hL.b 0 rfl).t 0 rfl) ((hL.b 0 rfl).p 15 rfl) dX3_below_24 ?_
    refine z_iload 4 dX3_below_27 rfl ?_
    obtain ⟨hi_1, hf⟩ := zck_some hf
    refine z_iald ((hL.b 0 rfl).t 16 rfl) hi_1 dX3_below_29 ?_
    obtain ⟨hi_2, hf⟩ := zck_some hf
    refine z_iald ((hL.b 0 rfl).t 4 rfl) hi_2 dX3_below_30 ?_
    refine z_iload_n 1 dX3_below_31 rfl rfl ?_
    refine z_icmp_ge 43 dX3_below_32 rfl hf (fun _ hf => ?_) (fun _ hf => ?_)
    · refine z_iload 4 dX3_below_43 rfl ?_
      refine z_istore_n dX3_below_45 rfl (by decide) (lc' := [(0, .ref a), (1, .int x1), (2, .int x2), (3, .int (((x2 + x3).toUInt32 >>> ((1 : Int32).toUInt32 &&& Int32.toUInt32 31)).toInt32)), (4, .int (((x2 + x3).toUInt32 >>> ((1 : Int32).toUInt32 &&& Int32.toUInt32 31)).toInt32))]) rfl ?_
      refine z_goto 7 dX3_below_46 rfl ?_
      cases hf
      refine z_sub [0, 1, 2, 3] rfl ?_
      exact (hM.1 _ rfl)
    · refine z_iload 4 dX3_below_35 rfl ?_
      refine z_iconst 1 dX3_below_37 rfl ?_
      refine z_iadd dX3_below_38 ?_
      refine z_istore_n dX3_below_39 rfl (by decide) (lc' := [(0, .ref a), (1, .int x1), (2, .int ((((x2 + x3).toUInt32 >>> ((1 : Int32).toUInt32 &&& Int32.toUInt32 31)).toInt32) + 1)), (3, .int x3), (4, .int (((x2 + x3).toUInt32 >>> ((1 : Int32).toUInt32 &&& Int32.toUInt32 31)).toInt32))]) rfl ?_
      refine z_goto 46 dX3_below_40 rfl ?_
      refine z_goto 7 dX3_below_46 rfl ?_
      cases hf
      refine z_sub [0, 1, 2, 3] rfl ?_
      exact (hM.1 _ rfl)
noncomputable def fX3_below (h : zH) (a : Nat) (x1 : Int32) : Option (Int32) := zlp (fun s => fX3_below_L7 h a x1 s.1 s.2) (0, zI h a 18)
theorem zX3_below {F : zF} {h : zH} {a : Nat} {x1 : Int32} {y : Int32} (hD : 1 ≤ F.2.1) (hL : zCt [(tB, tP, a)] [] h) (hf : fX3_below h a x1 = some y) (hM : ((.inl (some (.int y)), h) : zX) = zEnd F) : Z F 5 cX3_below RX3 "below" (some .int) [] h 0 [(0, .ref a), (1, .int x1)] [] := by
  unfold fX3_below at hf
  refine z_iconst 0 dX3_below_0 rfl ?_
  refine z_istore_n dX3_below_1 rfl (by decide) (lc' := [(0, .ref a), (1, .int x1), (2, .int 0)]) rfl ?_
  refine z_aload_n 0 dX3_below_2 rfl rfl ?_
  refine z_geti fdX3_150_2 ((hL.b 0 rfl).t 0 rfl) dX3_below_3 ?_
  refine z_istore_n dX3_below_6 rfl (by decide) (lc' := [(0, .ref a), (1, .int x1), (2, .int 0), (3, .int (zI h a 18))]) rfl ?_
  exact z_loop (fun (s : Int32 × Int32) => Z F 5 cX3_below RX3 "below" (some .int) [] h 7 [(0, .ref a), (1, .int x1), (2, .int s.1), (3, .int s.2)] []) (fun (r : Int32) => ((.inl (some (.int r)), h) : zX) = zEnd F) (fun s y hb hs hr => zX3_below_L7 hD hL hb ⟨hs, hr⟩) hf hM
theorem ctX3_below {l : Launch} {h : zH} {a : Nat} {x1 : Int32} {v : Int32} (hL : zCt [(tB, tP, a)] [] h) (hf : fX3_below h a x1 = some v) : zC l yX3_below (ws_ yX3_below cX3_below 5 (some .int)) 1 [.ref a, .int x1] h (.inl (some (.int v)), h) :=
  z_start (by decide) (Nat.le_of_ble_eq_true rfl) (zX3_below (F := (l, 1, h, (.inl (some (.int v)), h))) (Nat.le_refl _) hL hf rfl)
theorem svX3_162_2 : zIv RX3 162 yX3_below (ws_ yX3_below cX3_below 5 (some .int)) 5 2 1 := ⟨zGood_c q916 q103, ⟨_, _, rfl, rfl, qs24⟩, Or.inl q913, q915, ⟨by decide, by decide⟩, by decide +kernel⟩
noncomputable def fX3_entryOf (h : zH) (a : Nat) (x1 : Int32) : Option (Int32) := zb1 (fX3_below h a x1) (fun v_2 => if (zI h a 18) ≤ v_2 then (some ((-1))) else (zck (vp_in v_2 100) (zck (vp_in (zI h (a + 16) v_2.toNatClampNeg) 100) (if (zI h (a + 4) (zI h (a + 16) v_2.toNatClampNeg).toNatClampNeg) = x1 then (zck (vp_in v_2 100) (some (zI h (a + 16) v_2.toNatClampNeg))) else (some ((-1)))))))
theorem zX3_entryOf {F : zF} {h : zH} {a : Nat} {x1 : Int32} {y : Int32} (hD : 2 ≤ F.2.1) (hL : zCt [(tB, tP, a)] [] h) (hf : fX3_entryOf h a x1 = some y) (hM : ((.inl (some (.int y)), h) : zX) = zEnd F) : Z F 3 cX3_entryOf RX3 "entryOf" (some .int) [] h 0 [(0, .ref a), (1, .int x1)] [] := by
  unfold fX3_entryOf at hf
  refine z_aload_n 0 dX3_entryOf_0 rfl rfl ?_
  refine z_iload_n 1 dX3_entryOf_1 rfl rfl ?_
  obtain ⟨v_2, hc_1, hf⟩ := zb1_some hf
  refine z_invVi svX3_162_2 (ctX3_below hL hc_1) ((hL.b 0 rfl).t 0 rfl) ⟨Nat.le_trans (by decide) hD, by decide⟩ rfl rfl (Nat.le_of_ble_eq_true rfl) dX3_entryOf_2 ?_
  refine z_istore_n dX3_entryOf_5 rfl (by decide) (lc' := [(0, .ref a), (1, .int x1), (2, .int v_2)]) rfl ?_
  refine z_iload_n 2 dX3_entryOf_6 rfl rfl ?_
  refine z_aload_n 0 dX3_entryOf_7 rfl rfl ?_
  refine z_geti fdX3_150_2 ((hL.b 0 rfl).t 0 rfl) dX3_entryOf_8 ?_
  refine z_icmp_ge 38 dX3_entryOf_11 rfl hf (fun _ hf => ?_) (fun _ hf => ?_)
  · refine z_iconst (-1) dX3_entryOf_38 rfl ?_
    cases hf
    exact z_iret dX3_entryOf_39 rfl hM
  · refine z_aload_n 0 dX3_entryOf_14 rfl rfl ?_
    refine z_getr fdX3_21_2 (Or.inr ⟨_, rfl⟩) ((hL.b 0 rfl).t 0 rfl) ((hL.b 0 rfl).p 3 rfl) dX3_entryOf_15 ?_
    refine z_aload_n 0 dX3_entryOf_18 rfl rfl ?_
    refine z_getr fdX3_48_2 (Or.inr ⟨_, rfl⟩) ((hL.b 0 rfl).t 0 rfl) ((hL.b 0 rfl).p 15 rfl) dX3_entryOf_19 ?_
    refine z_iload_n 2 dX3_entryOf_22 rfl rfl ?_
    obtain ⟨hi_3, hf⟩ := zck_some hf
    refine z_iald ((hL.b 0 rfl).t 16 rfl) hi_3 dX3_entryOf_23 ?_
    obtain ⟨hi_4, hf⟩ := zck_some hf
    refine z_iald ((hL.b 0 rfl).t 4 rfl) hi_4 dX3_entryOf_24 ?_
    refine z_iload_n 1 dX3_entryOf_25 rfl rfl ?_
    refine z_icmp_ne 38 dX3_entryOf_26 rfl hf (fun _ hf => ?_) (fun _ hf => ?_)
    · refine z_iconst (-1) dX3_entryOf_38 rfl ?_
      cases hf
      exact z_iret dX3_entryOf_39 rfl hM
    · refine z_aload_n 0 dX3_entryOf_29 rfl rfl ?_
      refine z_getr fdX3_48_2 (Or.inr ⟨_, rfl⟩) ((hL.b 0 rfl).t 0 rfl) ((hL.b 0 rfl).p 15 rfl) dX3_entryOf_30 ?_
      refine z_iload_n 2 dX3_entryOf_33 rfl rfl ?_
      obtain ⟨hi_5, hf⟩ := zck_some hf
      refine z_iald ((hL.b 0 rfl).t 16 rfl) hi_5 dX3_entryOf_34 ?_
      refine z_goto 39 dX3_entryOf_35 rfl ?_
      cases hf
      exact z_iret dX3_entryOf_39 rfl hM
theorem ctX3_entryOf {l : Launch} {h : zH} {a : Nat} {x1 : Int32} {v : Int32} (hL : zCt [(tB, tP, a)] [] h) (hf : fX3_entryOf h a x1 = some v) : zC l yX3_entryOf (ws_ yX3_entryOf cX3_entryOf 3 (some .int)) 2 [.ref a, .int x1] h (.inl (some (.int v)), h) :=
  z_start (by decide) (Nat.le_of_ble_eq_true rfl) (zX3_entryOf (F := (l, 2, h, (.inl (some (.int v)), h))) (Nat.le_refl _) hL hf rfl)
theorem svX3_165_2 : zIv RX3 165 yX3_entryOf (ws_ yX3_entryOf cX3_entryOf 3 (some .int)) 3 2 1 := ⟨zGood_c q912 q103, ⟨_, _, rfl, rfl, qs23⟩, Or.inl q909, q911, ⟨by decide, by decide⟩, by decide +kernel⟩
noncomputable def fX3_code (h : zH) (a : Nat) (x1 : Int32) : Option (Int64) := zb1 (fX3_entryOf h a x1) (fun v_2 => if 0 ≤ v_2 then (zck (vp_in v_2 100) (zck (vp_in v_2 100) (some ((((zI h (a + 3) v_2.toNatClampNeg).toInt64) <<< ((32 : Int32).toInt64 &&& 63)) ||| ((zI h (a + 2) v_2.toNatClampNeg).toInt64))))) else (some ((-1))))
theorem zX3_code {F : zF} {h : zH} {a : Nat} {x1 : Int32} {y : Int64} (hD : 3 ≤ F.2.1) (hL : zCt [(tB, tP, a)] [] h) (hf : fX3_code h a x1 = some y) (hM : ((.inl (some (.long y)), h) : zX) = zEnd F) : Z F 3 cX3_code RX3 "code" (some .long) [] h 0 [(0, .ref a), (1, .int x1)] [] := by
  unfold fX3_code at hf
  refine z_aload_n 0 dX3_code_0 rfl rfl ?_
  refine z_iload_n 1 dX3_code_1 rfl rfl ?_
  obtain ⟨v_2, hc_1, hf⟩ := zb1_some hf
  refine z_invVi svX3_165_2 (ctX3_entryOf hL hc_1) ((hL.b 0 rfl).t 0 rfl) ⟨Nat.le_trans (by decide) hD, by decide⟩ rfl rfl (Nat.le_of_ble_eq_true rfl) dX3_code_2 ?_
  refine z_istore_n dX3_code_5 rfl (by decide) (lc' := [(0, .ref a), (1, .int x1), (2, .int v_2)]) rfl ?_
  refine z_iload_n 2 dX3_code_6 rfl rfl ?_
  refine z_if_ge 16 dX3_code_7 rfl hf (fun _ hf => ?_) (fun _ hf => ?_)
  · refine z_aload_n 0 dX3_code_16 rfl rfl ?_
    refine z_getr fdX3_18_2 (Or.inr ⟨_, rfl⟩) ((hL.b 0 rfl).t 0 rfl) ((hL.b 0 rfl).p 2 rfl) dX3_code_17 ?_
    refine z_iload_n 2 dX3_code_20 rfl rfl ?_
    obtain ⟨hi_3, hf⟩ := zck_some hf
    refine z_iald ((hL.b 0 rfl).t 3 rfl) hi_3 dX3_code_21 ?_
    refine z_i2l dX3_code_22 ?_
    refine z_bipush 32 dX3_code_23 rfl ?_
    refine z_lshl dX3_code_25 ?_
    refine z_aload_n 0 dX3_code_26 rfl rfl ?_
    refine z_getr fdX3_15_2 (Or.inr ⟨_, rfl⟩) ((hL.b 0 rfl).t 0 rfl) ((hL.b 0 rfl).p 1 rfl) dX3_code_27 ?_
    refine z_iload_n 2 dX3_code_30 rfl rfl ?_
    obtain ⟨hi_4, hf⟩ := zck_some hf
    refine z_iald ((hL.b 0 rfl).t 2 rfl) hi_4 dX3_code_31 ?_
    refine z_i2l dX3_code_32 ?_
    refine z_lor dX3_code_33 ?_
    cases hf
    exact z_lret dX3_code_34 rfl hM
  · refine z_ldc2 q917 dX3_code_10 ?_
    refine z_goto 34 dX3_code_13 rfl ?_
    cases hf
    exact z_lret dX3_code_34 rfl hM
theorem ctX3_code {l : Launch} {h : zH} {a : Nat} {x1 : Int32} {v : Int64} (hL : zCt [(tB, tP, a)] [] h) (hf : fX3_code h a x1 = some v) : zC l yX3_code (ws_ yX3_code cX3_code 3 (some .long)) 3 [.ref a, .int x1] h (.inl (some (.long v)), h) :=
  z_start (by decide) (Nat.le_of_ble_eq_true rfl) (zX3_code (F := (l, 3, h, (.inl (some (.long v)), h))) (Nat.le_refl _) hL hf rfl)
noncomputable def fX3_match_L18 (h : zH) (a : Nat) (x2 : Int32) (x3 : Nat) (x4 : Int32) (x5 : Int32) (x6 : Int32) (x7 : Int32) : Option ((Int32 × Int32) ⊕ (Int32)) := if 3 ≤ x7 then (some (.inr x6)) else (if x4 ≤ x7 then (some (.inl (((x6 <<< (8 &&& 31)) ||| 255, x7 + 1)))) else (zck (zAr h x3 x7) (some (.inl (((x6 <<< (8 &&& 31)) ||| (zI h x3 x7.toNatClampNeg), x7 + 1))))))
theorem zX3_match_L18 {F : zF} {h : zH} {a : Nat} {x2 : Int32} {x3 : Nat} {x4 : Int32} {x5 : Int32} {x6 : Int32} {x7 : Int32} {y : (Int32 × Int32) ⊕ (Int32)} (hD : 2 ≤ F.2.1) (hL : zCt [(tB, tP, a)] [] h) (hf : fX3_match_L18 h a x2 x3 x4 x5 x6 x7 = some y) (hM : ((∀ s' : Int32 × Int32, y = .inl s' → Z F 12 cX3_match RX3 "match" (some .int) [] h 18 [(0, .ref a), (2, .int x2), (3, .ref x3), (4, .int x4), (5, .int x5), (6, .int s'.1), (7, .int s'.2)] []) ∧ ∀ r : Int32, y = .inr r → Z F 12 cX3_match RX3 "match" (some .int) [] h 55 [(0, .ref a), (2, .int x2), (4, .int x4), (5, .int x5), (6, .int r)] [])) : Z F 12 cX3_match RX3 "match" (some .int) [] h 18 [(0, .ref a), (2, .int x2), (3, .ref x3), (4, .int x4), (5, .int x5), (6, .int x6), (7, .int x7)] [] := by
  unfold fX3_match_L18 at hf
  refine z_iload 6 dX3_match_18 rfl ?_
  refine z_iconst 3 dX3_match_20 rfl ?_
  refine z_icmp_ge 55 dX3_match_21 rfl hf (fun _ hf => ?_) (fun _ hf => ?_)
  · cases hf
    refine z_sub [0, 1, 3, 4, 5] rfl ?_
    exact (hM.2 _ rfl)
  · refine z_iload 5 dX3_match_24 rfl ?_
    refine z_bipush 8 dX3_match_26 rfl ?_
    refine z_ishl dX3_match_28 ?_
    refine z_iload 6 dX3_match_29 rfl ?_
    refine z_iload 3 dX3_match_31 rfl ?_
    refine z_icmp_ge 43 dX3_match_33 rfl hf (fun _ hf => ?_) (fun _ hf => ?_)
    · refine z_sipush 255 dX3_match_43 rfl ?_
      refine z_ior dX3_match_46 ?_
      refine z_istore dX3_match_47 (by decide) (lc' := [(0, .ref a), (2, .int x2), (3, .ref x3), (4, .int x4), (5, .int x5), (6, .int ((x6 <<< (8 &&& 31)) ||| 255)), (7, .int x7)]) rfl ?_
      refine z_iinc 6 (x7 + 1) dX3_match_49 rfl rfl (by decide) (lc' := [(0, .ref a), (2, .int x2), (3, .ref x3), (4, .int x4), (5, .int x5), (6, .int ((x6 <<< (8 &&& 31)) ||| 255)), (7, .int (x7 + 1))]) rfl ?_
      refine z_goto 18 dX3_match_52 rfl ?_
      cases hf
      exact (hM.1 _ rfl)
    · refine z_aload_n 2 dX3_match_36 rfl rfl ?_
      refine z_iload 6 dX3_match_37 rfl ?_
      obtain ⟨hi_1, hf⟩ := zck_some hf
      refine z_iald (zAr_t hi_1) hi_1.2 dX3_match_39 ?_
      refine z_goto 46 dX3_match_40 rfl ?_
      refine z_ior dX3_match_46 ?_
      refine z_istore dX3_match_47 (by decide) (lc' := [(0, .ref a), (2, .int x2), (3, .ref x3), (4, .int x4), (5, .int x5), (6, .int ((x6 <<< (8 &&& 31)) ||| (zI h x3 x7.toNatClampNeg))), (7, .int x7)]) rfl ?_
      refine z_iinc 6 (x7 + 1) dX3_match_49 rfl rfl (by decide) (lc' := [(0, .ref a), (2, .int x2), (3, .ref x3), (4, .int x4), (5, .int x5), (6, .int ((x6 <<< (8 &&& 31)) ||| (zI h x3 x7.toNatClampNeg))), (7, .int (x7 + 1))]) rfl ?_
      refine z_goto 18 dX3_match_52 rfl ?_
      cases hf
      exact (hM.1 _ rfl)
noncomputable def fX3_match_L67 (h : zH) (a : Nat) (x2 : Int32) (x4 : Int32) (x5 : Int32) (x6 : Int32) (x7 : Int32) (x8 : Int32) : Option ((Int32 × Int32) ⊕ (Int32)) := if x8 ≤ x7 then (some (.inr x7)) else (zck (vp_in x5 4) (zb1 (zP h (a + 10) x5.toNatClampNeg) (fun b_5 => zck (zAr h b_5 (((x7 + x8).toUInt32 >>> ((1 : Int32).toUInt32 &&& Int32.toUInt32 31)).toInt32)) (zb1 (fX3_keyOf h a (zI h b_5 (((x7 + x8).toUInt32 >>> ((1 : Int32).toUInt32 &&& Int32.toUInt32 31)).toInt32).toNatClampNeg)) (fun v_8 => if x6 < v_8 then (some (.inl ((x7, ((x7 + x8).toUInt32 >>> ((1 : Int32).toUInt32 &&& Int32.toUInt32 31)).toInt32)))) else (some (.inl (((((x7 + x8).toUInt32 >>> ((1 : Int32).toUInt32 &&& Int32.toUInt32 31)).toInt32) + 1, x8)))))))))
theorem zX3_match_L67 {F : zF} {h : zH} {a : Nat} {x2 : Int32} {x4 : Int32} {x5 : Int32} {x6 : Int32} {x7 : Int32} {x8 : Int32} {y : (Int32 × Int32) ⊕ (Int32)} (hD : 2 ≤ F.2.1) (hL : zCt [(tB, tP, a)] [] h) (hf : fX3_match_L67 h a x2 x4 x5 x6 x7 x8 = some y) (hM : ((∀ s' : Int32 × Int32, y = .inl s' → Z F 12 cX3_match RX3 "match" (some .int) [] h 67 [(0, .ref a), (2, .int x2), (4, .int x4), (5, .int x5), (6, .int x6), (7, .int s'.1), (8, .int s'.2)] []) ∧ ∀ r : Int32, y = .inr r → Z F 12 cX3_match RX3 "match" (some .int) [] h 118 [(0, .ref a), (2, .int x2), (4, .int x4), (5, .int x5), (6, .int x6), (7, .int r)] [])) : Z F 12 cX3_match RX3 "match" (some .int) [] h 67 [(0, .ref a), (2, .int x2), (4, .int x4), (5, .int x5), (6, .int x6), (7, .int x7), (8, .int x8)] [] := by
  unfold fX3_match_L67 at hf
  refine z_iload 5 dX3_match_67 rfl ?_
  refine z_iload 6 dX3_match_69 rfl ?_
  refine z_icmp_ge 118 dX3_match_71 rfl hf (fun _ hf => ?_) (fun _ hf => ?_)
  · cases hf
    refine z_sub [0, 1, 2, 3, 4, 5] rfl ?_
    exact (hM.2 _ rfl)
  · refine z_iload 5 dX3_match_74 rfl ?_
    refine z_iload 6 dX3_match_76 rfl ?_
    refine z_iadd dX3_match_78 ?_
    refine z_iconst 1 dX3_match_79 rfl ?_
    refine z_iushr dX3_match_80 ?_
    refine z_istore dX3_match_81 (by decide) (lc' := [(0, .ref a), (2, .int x2), (4, .int x4), (5, .int x5), (6, .int x6), (7, .int x7), (8, .int x8), (9, .int (((x7 + x8).toUInt32 >>> ((1 : Int32).toUInt32 &&& Int32.toUInt32 31)).toInt32))]) rfl ?_
    refine z_aload_n 0 dX3_match_83 rfl rfl ?_
    refine z_aload_n 0 dX3_match_84 rfl rfl ?_
    refine z_getr fdX3_42_2 (Or.inr ⟨_, rfl⟩) ((hL.b 0 rfl).t 0 rfl) ((hL.b 0 rfl).p 13 rfl) dX3_match_85 ?_
    refine z_iload 3 dX3_match_88 rfl ?_
    obtain ⟨hi_4, hf⟩ := zck_some hf
    obtain ⟨b_5, hb_5, hf⟩ := zb1_some hf
    refine z_aldr (t := 6) rfl (Or.inr ⟨_, rfl⟩) ((hL.b 0 rfl).t 10 rfl) hi_4 hb_5 dX3_match_90 ?_
    refine z_iload 7 dX3_match_91 rfl ?_
    obtain ⟨hi_6, hf⟩ := zck_some hf
    refine z_iald (zAr_t hi_6) hi_6.2 dX3_match_93 ?_
    obtain ⟨v_8, hc_7, hf⟩ := zb1_some hf
    refine z_invVi svX3_99_2 (ctX3_keyOf hL hc_7) ((hL.b 0 rfl).t 0 rfl) ⟨Nat.le_trans (by decide) hD, by decide⟩ rfl rfl (Nat.le_of_ble_eq_true rfl) dX3_match_94 ?_
    refine z_iload 4 dX3_match_97 rfl ?_
    refine z_icmp_gt 111 dX3_match_99 rfl hf (fun _ hf => ?_) (fun _ hf => ?_)
    · refine z_iload 7 dX3_match_111 rfl ?_
      refine z_istore dX3_match_113 (by decide) (lc' := [(0, .ref a), (2, .int x2), (4, .int x4), (5, .int x5), (6, .int x6), (7, .int x7), (8, .int (((x7 + x8).toUInt32 >>> ((1 : Int32).toUInt32 &&& Int32.toUInt32 31)).toInt32)), (9, .int (((x7 + x8).toUInt32 >>> ((1 : Int32).toUInt32 &&& Int32.toUInt32 31)).toInt32))]) rfl ?_
      refine z_goto 67 dX3_match_115 rfl ?_
      cases hf
      refine z_sub [0, 1, 2, 3, 4, 5, 6] rfl ?_
      exact (hM.1 _ rfl)
    · refine z_iload 7 dX3_match_102 rfl ?_
      refine z_iconst 1 dX3_match_104 rfl ?_
      refine z_iadd dX3_match_105 ?_
      refine z_istore dX3_match_106 (by decide) (lc' := [(0, .ref a), (2, .int x2), (4, .int x4), (5, .int x5), (6, .int x6), (7, .int ((((x7 + x8).toUInt32 >>> ((1 : Int32).toUInt32 &&& Int32.toUInt32 31)).toInt32) + 1)), (8, .int x8), (9, .int (((x7 + x8).toUInt32 >>> ((1 : Int32).toUInt32 &&& Int32.toUInt32 31)).toInt32))]) rfl ?_
      refine z_goto 115 dX3_match_108 rfl ?_
      refine z_goto 67 dX3_match_115 rfl ?_
      cases hf
      refine z_sub [0, 1, 2, 3, 4, 5, 6] rfl ?_
      exact (hM.1 _ rfl)
theorem fdX3_153_2 : zFd RX3 153 2 0 .int false := ⟨_, _, _, rfl, rfl, by decide, rfl, rfl, Or.inl q267, Or.inr q268⟩
theorem fdX3_156_2 : zFd RX3 156 2 1 .int false := ⟨_, _, _, rfl, rfl, by decide, rfl, rfl, Or.inl q270, Or.inr q271⟩
theorem fdX3_159_2 : zFd RX3 159 2 2 .boolean false := ⟨_, _, _, rfl, rfl, by decide, rfl, rfl, Or.inl q273, Or.inr q274⟩
noncomputable def fX3_match_J220 (h : zH) (a : Nat) (x9 : Int32) (x10 : Int32) (k0 : Int32) : Option (Int32 × zH) := zlet (zsI h a 0 k0) (fun h_17 => if x9 < 100 then (some ((x10, h_17))) else (zck (vp_in (x9 - 100) 10) (zlet (zsI h_17 a 1 (zI h_17 (a + 8) (x9 - 100).toNatClampNeg)) (fun h_19 => zck (vp_in (x9 - 100) 10) (zck (zB (zI h_19 (a + 9) (x9 - 100).toNatClampNeg)) (zlet (zsI h_19 a 2 (zI h_19 (a + 9) (x9 - 100).toNatClampNeg)) (fun h_21 => some ((x10, h_21)))))))))
theorem zX3_match_J220 {F : zF} {h : zH} {a : Nat} {x9 : Int32} {x10 : Int32} {k0 : Int32} {y : Int32 × zH} (hD : 2 ≤ F.2.1) (hL : zCt [(tB, tP, a)] [] h) (hf : fX3_match_J220 h a x9 x10 k0 = some y) (hM : ((.inl (some (.int y.1)), y.2) : zX) = zEnd F) : Z F 12 cX3_match RX3 "match" (some .int) [] h 220 [(0, .ref a), (9, .int x9), (10, .int x10)] [.int k0, .ref a] := by
  unfold fX3_match_J220 at hf
  obtain ⟨h_17, he, hf⟩ := zlet_some hf
  refine z_puti fdX3_153_2 ((hL.b 0 rfl).t 0 rfl) ((hL.b 0 rfl).nz 0) he dX3_match_220 ?_
  have hL := hL.I he
  refine z_iload 1 dX3_match_223 rfl ?_
  refine z_bipush 100 dX3_match_225 rfl ?_
  refine z_icmp_lt 258 dX3_match_227 rfl hf (fun _ hf => ?_) (fun _ hf => ?_)
  · refine z_iload 2 dX3_match_258 rfl ?_
    cases hf
    exact z_iret dX3_match_260 rfl hM
  · refine z_aload_n 0 dX3_match_230 rfl rfl ?_
    refine z_aload_n 0 dX3_match_231 rfl rfl ?_
    refine z_getr fdX3_34_2 (Or.inr ⟨_, rfl⟩) ((hL.b 0 rfl).t 0 rfl) ((hL.b 0 rfl).p 7 rfl) dX3_match_232 ?_
    refine z_iload 1 dX3_match_235 rfl ?_
    refine z_bipush 100 dX3_match_237 rfl ?_
    refine z_isub dX3_match_239 ?_
    obtain ⟨hi_18, hf⟩ := zck_some hf
    refine z_iald ((hL.b 0 rfl).t 8 rfl) hi_18 dX3_match_240 ?_
    obtain ⟨h_19, he, hf⟩ := zlet_some hf
    refine z_puti fdX3_156_2 ((hL.b 0 rfl).t 0 rfl) ((hL.b 0 rfl).nz 0) he dX3_match_241 ?_
    have hL := hL.I he
    refine z_aload_n 0 dX3_match_244 rfl rfl ?_
    refine z_aload_n 0 dX3_match_245 rfl rfl ?_
    refine z_getr fdX3_37_2 (Or.inr ⟨_, rfl⟩) ((hL.b 0 rfl).t 0 rfl) ((hL.b 0 rfl).p 8 rfl) dX3_match_246 ?_
    refine z_iload 1 dX3_match_249 rfl ?_
    refine z_bipush 100 dX3_match_251 rfl ?_
    refine z_isub dX3_match_253 ?_
    obtain ⟨hi_20, hf⟩ := zck_some hf
    refine z_zald ((hL.b 0 rfl).t 9 rfl) hi_20 dX3_match_254 ?_
    obtain ⟨hz_22, hf⟩ := zck_some hf
    obtain ⟨h_21, he, hf⟩ := zlet_some hf
    refine z_putz fdX3_159_2 hz_22 ((hL.b 0 rfl).t 0 rfl) ((hL.b 0 rfl).nz 0) he dX3_match_255 ?_
    have hL := hL.I he
    refine z_iload 2 dX3_match_258 rfl ?_
    cases hf
    exact z_iret dX3_match_260 rfl hM
noncomputable def fX3_match_J192 (h : zH) (a : Nat) (x4 : Int32) (x9 : Int32) (x10 : Int32) : Option (Int32 × zH) := if x10 ≤ x4 then (if 100 ≤ x9 then (fX3_match_J220 h a x9 x10 ((-1))) else (zck (vp_in x9 100) (fX3_match_J220 h a x9 x10 (zI h (a + 4) x9.toNatClampNeg)))) else (some (((-1), h)))
theorem zX3_match_J192 {F : zF} {h : zH} {a : Nat} {x4 : Int32} {x9 : Int32} {x10 : Int32} {y : Int32 × zH} (hD : 2 ≤ F.2.1) (hL : zCt [(tB, tP, a)] [] h) (hf : fX3_match_J192 h a x4 x9 x10 = some y) (hM : ((.inl (some (.int y.1)), y.2) : zX) = zEnd F) : Z F 12 cX3_match RX3 "match" (some .int) [] h 192 [(0, .ref a), (4, .int x4), (9, .int x9), (10, .int x10)] [] := by
  unfold fX3_match_J192 at hf
  refine z_iload 3 dX3_match_192 rfl ?_
  refine z_iload 1 dX3_match_194 rfl ?_
  refine z_icmp_le 201 dX3_match_196 rfl hf (fun _ hf => ?_) (fun _ hf => ?_)
  · refine z_aload_n 0 dX3_match_201 rfl rfl ?_
    refine z_iload 2 dX3_match_202 rfl ?_
    refine z_bipush 100 dX3_match_204 rfl ?_
    refine z_icmp_ge 219 dX3_match_206 rfl hf (fun _ hf => ?_) (fun _ hf => ?_)
    · refine z_iconst (-1) dX3_match_219 rfl ?_
      refine z_sub [0, 2, 3] rfl ?_
      exact zX3_match_J220 hD hL hf hM
    · refine z_aload_n 0 dX3_match_209 rfl rfl ?_
      refine z_getr fdX3_21_2 (Or.inr ⟨_, rfl⟩) ((hL.b 0 rfl).t 0 rfl) ((hL.b 0 rfl).p 3 rfl) dX3_match_210 ?_
      refine z_iload 2 dX3_match_213 rfl ?_
      obtain ⟨hi_23, hf⟩ := zck_some hf
      refine z_iald ((hL.b 0 rfl).t 4 rfl) hi_23 dX3_match_215 ?_
      refine z_goto 220 dX3_match_216 rfl ?_
      refine z_sub [0, 2, 3] rfl ?_
      exact zX3_match_J220 hD hL hf hM
  · refine z_iconst (-1) dX3_match_199 rfl ?_
    cases hf
    exact z_iret dX3_match_200 rfl hM
noncomputable def fX3_match_J10 (h : zH) (a : Nat) (x2 : Int32) (x3 : Nat) (x4 : Int32) (k0 : Int32) : Option (Int32 × zH) := zb1 (zlp (fun s => fX3_match_L18 h a x2 x3 x4 k0 s.1 s.2) (0, 0)) (fun t_2 => zck (vp_in k0 4) (zb1 (zlp (fun s => fX3_match_L67 h a x2 x4 k0 t_2 s.1 s.2) (0, zI h (a + 15) k0.toNatClampNeg)) (fun t_9 => if t_9 = 0 then (some ((0, h))) else (zck (vp_in k0 4) (zb1 (zP h (a + 10) k0.toNatClampNeg) (fun b_11 => zck (zAr h b_11 (t_9 - 1)) (zb1 (fX3_lengthOf h a (zI h b_11 (t_9 - 1).toNatClampNeg)) (fun v_14 => zb1 (fX3_keyOf h a (zI h b_11 (t_9 - 1).toNatClampNeg)) (fun v_16 => if (v_16 >>> (((8 : Int32) * ((3 : Int32) - (if x4 < v_14 then x4 else v_14))) &&& 31)) = (t_2 >>> (((8 : Int32) * ((3 : Int32) - (if x4 < v_14 then x4 else v_14))) &&& 31)) then (if x2 = 4 then (fX3_match_J192 h a x4 (zI h b_11 (t_9 - 1).toNatClampNeg) v_14) else (if (zI h b_11 (t_9 - 1).toNatClampNeg) < 100 then (fX3_match_J192 h a x4 (zI h b_11 (t_9 - 1).toNatClampNeg) v_14) else (some ((0, h))))) else (some ((0, h))))))))))))
theorem zX3_match_J10 {F : zF} {h : zH} {a : Nat} {x2 : Int32} {x3 : Nat} {x4 : Int32} {k0 : Int32} {y : Int32 × zH} (hD : 2 ≤ F.2.1) (hL : zCt [(tB, tP, a)] [] h) (hf : fX3_match_J10 h a x2 x3 x4 k0 = some y) (hM : ((.inl (some (.int y.1)), y.2) : zX) = zEnd F) : Z F 12 cX3_match RX3 "match" (some .int) [] h 10 [(0, .ref a), (2, .int x2), (3, .ref x3), (4, .int x4)] [.int k0] := by
  unfold fX3_match_J10 at hf
  refine z_istore dX3_match_10 (by decide) (lc' := [(0, .ref a), (2, .int x2), (3, .ref x3), (4, .int x4), (5, .int k0)]) rfl ?_
  refine z_iconst 0 dX3_match_12 rfl ?_
  refine z_istore dX3_match_13 (by decide) (lc' := [(0, .ref a), (2, .int x2), (3, .ref x3), (4, .int x4), (5, .int k0), (6, .int 0)]) rfl ?_
  refine z_iconst 0 dX3_match_15 rfl ?_
  refine z_istore dX3_match_16 (by decide) (lc' := [(0, .ref a), (2, .int x2), (3, .ref x3), (4, .int x4), (5, .int k0), (6, .int 0), (7, .int 0)]) rfl ?_
  obtain ⟨t_2, hl, hf⟩ := zb1_some hf
  refine z_loop (fun (s : Int32 × Int32) => Z F 12 cX3_match RX3 "match" (some .int) [] h 18 [(0, .ref a), (2, .int x2), (3, .ref x3), (4, .int x4), (5, .int k0), (6, .int s.1), (7, .int s.2)] []) (fun (r : Int32) => Z F 12 cX3_match RX3 "match" (some .int) [] h 55 [(0, .ref a), (2, .int x2), (4, .int x4), (5, .int k0), (6, .int r)] []) (fun s y hb hs hr => zX3_match_L18 hD hL hb ⟨hs, hr⟩) hl ?_
  show Z F 12 cX3_match RX3 "match" (some .int) [] h 55 [(0, .ref a), (2, .int x2), (4, .int x4), (5, .int k0), (6, .int t_2)] []
  refine z_iconst 0 dX3_match_55 rfl ?_
  refine z_istore dX3_match_56 (by decide) (lc' := [(0, .ref a), (2, .int x2), (4, .int x4), (5, .int k0), (6, .int t_2), (7, .int 0)]) rfl ?_
  refine z_aload_n 0 dX3_match_58 rfl rfl ?_
  refine z_getr fdX3_45_2 (Or.inr ⟨_, rfl⟩) ((hL.b 0 rfl).t 0 rfl) ((hL.b 0 rfl).p 14 rfl) dX3_match_59 ?_
  refine z_iload 3 dX3_match_62 rfl ?_
  obtain ⟨hi_3, hf⟩ := zck_some hf
  refine z_iald ((hL.b 0 rfl).t 15 rfl) hi_3 dX3_match_64 ?_
  refine z_istore dX3_match_65 (by decide) (lc' := [(0, .ref a), (2, .int x2), (4, .int x4), (5, .int k0), (6, .int t_2), (7, .int 0), (8, .int (zI h (a + 15) k0.toNatClampNeg))]) rfl ?_
  obtain ⟨t_9, hl, hf⟩ := zb1_some hf
  refine z_loop (fun (s : Int32 × Int32) => Z F 12 cX3_match RX3 "match" (some .int) [] h 67 [(0, .ref a), (2, .int x2), (4, .int x4), (5, .int k0), (6, .int t_2), (7, .int s.1), (8, .int s.2)] []) (fun (r : Int32) => Z F 12 cX3_match RX3 "match" (some .int) [] h 118 [(0, .ref a), (2, .int x2), (4, .int x4), (5, .int k0), (6, .int t_2), (7, .int r)] []) (fun s y hb hs hr => zX3_match_L67 hD hL hb ⟨hs, hr⟩) hl ?_
  show Z F 12 cX3_match RX3 "match" (some .int) [] h 118 [(0, .ref a), (2, .int x2), (4, .int x4), (5, .int k0), (6, .int t_2), (7, .int t_9)] []
  refine z_iload 5 dX3_match_118 rfl ?_
  refine z_if_ne 125 dX3_match_120 rfl hf (fun _ hf => ?_) (fun _ hf => ?_)
  · refine z_aload_n 0 dX3_match_125 rfl rfl ?_
    refine z_getr fdX3_42_2 (Or.inr ⟨_, rfl⟩) ((hL.b 0 rfl).t 0 rfl) ((hL.b 0 rfl).p 13 rfl) dX3_match_126 ?_
    refine z_iload 3 dX3_match_129 rfl ?_
    obtain ⟨hi_10, hf⟩ := zck_some hf
    obtain ⟨b_11, hb_11, hf⟩ := zb1_some hf
    refine z_aldr (t := 6) rfl (Or.inr ⟨_, rfl⟩) ((hL.b 0 rfl).t 10 rfl) hi_10 hb_11 dX3_match_131 ?_
    refine z_iload 5 dX3_match_132 rfl ?_
    refine z_iconst 1 dX3_match_134 rfl ?_
    refine z_isub dX3_match_135 ?_
    obtain ⟨hi_12, hf⟩ := zck_some hf
    refine z_iald (zAr_t hi_12) hi_12.2 dX3_match_136 ?_
    refine z_istore dX3_match_137 (by decide) (lc' := [(0, .ref a), (2, .int x2), (4, .int x4), (5, .int k0), (6, .int t_2), (7, .int t_9), (9, .int (zI h b_11 (t_9 - 1).toNatClampNeg))]) rfl ?_
    refine z_aload_n 0 dX3_match_139 rfl rfl ?_
    refine z_iload 6 dX3_match_140 rfl ?_
    obtain ⟨v_14, hc_13, hf⟩ := zb1_some hf
    refine z_invVi svX3_86_2 (ctX3_lengthOf hL hc_13) ((hL.b 0 rfl).t 0 rfl) ⟨Nat.le_trans (by decide) hD, by decide⟩ rfl rfl (Nat.le_of_ble_eq_true rfl) dX3_match_142 ?_
    refine z_istore dX3_match_145 (by decide) (lc' := [(0, .ref a), (2, .int x2), (4, .int x4), (5, .int k0), (6, .int t_2), (7, .int t_9), (9, .int (zI h b_11 (t_9 - 1).toNatClampNeg)), (10, .int v_14)]) rfl ?_
    refine z_bipush 8 dX3_match_147 rfl ?_
    refine z_iconst 3 dX3_match_149 rfl ?_
    refine z_iload 7 dX3_match_150 rfl ?_
    refine z_iload 2 dX3_match_152 rfl ?_
    refine z_mmin q813 q814 q119 q815 (Nat.le_trans (by decide) hD) (Nat.le_of_ble_eq_true rfl) dX3_match_154 ?_
    refine z_isub dX3_match_157 ?_
    refine z_imul dX3_match_158 ?_
    refine z_istore dX3_match_159 (by decide) (lc' := [(0, .ref a), (2, .int x2), (4, .int x4), (5, .int k0), (6, .int t_2), (7, .int t_9), (9, .int (zI h b_11 (t_9 - 1).toNatClampNeg)), (10, .int v_14), (11, .int ((8 : Int32) * ((3 : Int32) - (if x4 < v_14 then x4 else v_14))))]) rfl ?_
    refine z_aload_n 0 dX3_match_161 rfl rfl ?_
    refine z_iload 6 dX3_match_162 rfl ?_
    obtain ⟨v_16, hc_15, hf⟩ := zb1_some hf
    refine z_invVi svX3_99_2 (ctX3_keyOf hL hc_15) ((hL.b 0 rfl).t 0 rfl) ⟨Nat.le_trans (by decide) hD, by decide⟩ rfl rfl (Nat.le_of_ble_eq_true rfl) dX3_match_164 ?_
    refine z_iload 8 dX3_match_167 rfl ?_
    refine z_ishr dX3_match_169 ?_
    refine z_iload 4 dX3_match_170 rfl ?_
    refine z_iload 8 dX3_match_172 rfl ?_
    refine z_ishr dX3_match_174 ?_
    refine z_icmp_ne 190 dX3_match_175 rfl hf (fun _ hf => ?_) (fun _ hf => ?_)
    · refine z_iconst 0 dX3_match_190 rfl ?_
      cases hf
      exact z_iret dX3_match_191 rfl hM
    · refine z_iload_n 1 dX3_match_178 rfl rfl ?_
      refine z_iconst 4 dX3_match_179 rfl ?_
      refine z_icmp_eq 192 dX3_match_180 rfl hf (fun _ hf => ?_) (fun _ hf => ?_)
      · refine z_sub [0, 2, 6, 7] rfl ?_
        exact zX3_match_J192 hD hL hf hM
      · refine z_iload 6 dX3_match_183 rfl ?_
        refine z_bipush 100 dX3_match_185 rfl ?_
        refine z_icmp_lt 192 dX3_match_187 rfl hf (fun _ hf => ?_) (fun _ hf => ?_)
        · refine z_sub [0, 2, 6, 7] rfl ?_
          exact zX3_match_J192 hD hL hf hM
        · refine z_iconst 0 dX3_match_190 rfl ?_
          cases hf
          exact z_iret dX3_match_191 rfl hM
  · refine z_iconst 0 dX3_match_123 rfl ?_
    cases hf
    exact z_iret dX3_match_124 rfl hM
noncomputable def fX3_match (h : zH) (a : Nat) (x1 : Int32) (x2 : Int32) (x3 : Nat) (x4 : Int32) : Option (Int32 × zH) := if x2 = 4 then (fX3_match_J10 h a x2 x3 x4 x1) else (fX3_match_J10 h a x2 x3 x4 x2)
theorem zX3_match {F : zF} {h : zH} {a : Nat} {x1 : Int32} {x2 : Int32} {x3 : Nat} {x4 : Int32} {y : Int32 × zH} (hD : 2 ≤ F.2.1) (hL : zCt [(tB, tP, a)] [] h) (hf : fX3_match h a x1 x2 x3 x4 = some y) (hM : ((.inl (some (.int y.1)), y.2) : zX) = zEnd F) : Z F 12 cX3_match RX3 "match" (some .int) [] h 0 [(0, .ref a), (1, .int x1), (2, .int x2), (3, .ref x3), (4, .int x4)] [] := by
  unfold fX3_match at hf
  refine z_iload_n 2 dX3_match_0 rfl rfl ?_
  refine z_iconst 4 dX3_match_1 rfl ?_
  refine z_icmp_ne 9 dX3_match_2 rfl hf (fun _ hf => ?_) (fun _ hf => ?_)
  · refine z_iload_n 2 dX3_match_9 rfl rfl ?_
    refine z_sub [0, 2, 3, 4] rfl ?_
    exact zX3_match_J10 hD hL hf hM
  · refine z_iload_n 1 dX3_match_5 rfl rfl ?_
    refine z_goto 10 dX3_match_6 rfl ?_
    refine z_sub [0, 2, 3, 4] rfl ?_
    exact zX3_match_J10 hD hL hf hM
theorem ctX3_match {l : Launch} {h : zH} {a : Nat} {x1 : Int32} {x2 : Int32} {x3 : Nat} {x4 : Int32} {v : Int32} {h' : zH} (hL : zCt [(tB, tP, a)] [] h) (hf : fX3_match h a x1 x2 x3 x4 = some (v, h')) : zC l yX3_match (ws_ yX3_match cX3_match 12 (some .int)) 2 [.ref a, .int x1, .int x2, .ref x3, .int x4] h (.inl (some (.int v)), h') :=
  z_start (by decide) (Nat.le_of_ble_eq_true rfl) (zX3_match (F := (l, 2, h, (.inl (some (.int v)), h'))) (Nat.le_refl _) hL hf rfl)
noncomputable def fX3_way (h : zH) (a : Nat) (x1 : Int32) (x2 : Int32) : Option (Int64) := zb1 (fX3_entryOf h a x2) (fun v_2 => zck (vp_in v_2 100) (zck (vp_in (((4 : Int32) * x1) + (zI h (a + 1) v_2.toNatClampNeg)) 16) (zck (vp_in (((4 : Int32) * x1) + (zI h (a + 1) v_2.toNatClampNeg)) 16) (some ((((zI h (a + 19) (((4 : Int32) * x1) + (zI h (a + 1) v_2.toNatClampNeg)).toNatClampNeg).toInt64) <<< ((32 : Int32).toInt64 &&& 63)) ||| (zL h (a + 20) (((4 : Int32) * x1) + (zI h (a + 1) v_2.toNatClampNeg)).toNatClampNeg))))))
theorem zX3_way {F : zF} {h : zH} {a : Nat} {x1 : Int32} {x2 : Int32} {y : Int64} (hD : 3 ≤ F.2.1) (hL : zCt [(tB, tP, a)] [] h) (hf : fX3_way h a x1 x2 = some y) (hM : ((.inl (some (.long y)), h) : zX) = zEnd F) : Z F 4 cX3_way RX3 "way" (some .long) [] h 0 [(0, .ref a), (1, .int x1), (2, .int x2)] [] := by
  unfold fX3_way at hf
  refine z_iconst 4 dX3_way_0 rfl ?_
  refine z_iload_n 1 dX3_way_1 rfl rfl ?_
  refine z_imul dX3_way_2 ?_
  refine z_aload_n 0 dX3_way_3 rfl rfl ?_
  refine z_getr fdX3_9_2 (Or.inr ⟨_, rfl⟩) ((hL.b 0 rfl).t 0 rfl) ((hL.b 0 rfl).p 0 rfl) dX3_way_4 ?_
  refine z_aload_n 0 dX3_way_7 rfl rfl ?_
  refine z_iload_n 2 dX3_way_8 rfl rfl ?_
  obtain ⟨v_2, hc_1, hf⟩ := zb1_some hf
  refine z_invVi svX3_165_2 (ctX3_entryOf hL hc_1) ((hL.b 0 rfl).t 0 rfl) ⟨Nat.le_trans (by decide) hD, by decide⟩ rfl rfl (Nat.le_of_ble_eq_true rfl) dX3_way_9 ?_
  obtain ⟨hi_3, hf⟩ := zck_some hf
  refine z_iald ((hL.b 0 rfl).t 1 rfl) hi_3 dX3_way_12 ?_
  refine z_iadd dX3_way_13 ?_
  refine z_istore_n dX3_way_14 rfl (by decide) (lc' := [(0, .ref a), (1, .int x1), (2, .int x2), (3, .int (((4 : Int32) * x1) + (zI h (a + 1) v_2.toNatClampNeg)))]) rfl ?_
  refine z_aload_n 0 dX3_way_15 rfl rfl ?_
  refine z_getr fdX3_58_2 (Or.inr ⟨_, rfl⟩) ((hL.b 0 rfl).t 0 rfl) ((hL.b 0 rfl).p 18 rfl) dX3_way_16 ?_
  refine z_iload_n 3 dX3_way_19 rfl rfl ?_
  obtain ⟨hi_4, hf⟩ := zck_some hf
  refine z_iald ((hL.b 0 rfl).t 19 rfl) hi_4 dX3_way_20 ?_
  refine z_i2l dX3_way_21 ?_
  refine z_bipush 32 dX3_way_22 rfl ?_
  refine z_lshl dX3_way_24 ?_
  refine z_aload_n 0 dX3_way_25 rfl rfl ?_
  refine z_getr fdX3_61_2 (Or.inr ⟨_, rfl⟩) ((hL.b 0 rfl).t 0 rfl) ((hL.b 0 rfl).p 19 rfl) dX3_way_26 ?_
  refine z_iload_n 3 dX3_way_29 rfl rfl ?_
  obtain ⟨hi_5, hf⟩ := zck_some hf
  refine z_lald ((hL.b 0 rfl).t 20 rfl) hi_5 dX3_way_30 ?_
  refine z_lor dX3_way_31 ?_
  cases hf
  exact z_lret dX3_way_32 rfl hM
theorem ctX3_way {l : Launch} {h : zH} {a : Nat} {x1 : Int32} {x2 : Int32} {v : Int64} (hL : zCt [(tB, tP, a)] [] h) (hf : fX3_way h a x1 x2 = some v) : zC l yX3_way (ws_ yX3_way cX3_way 4 (some .long)) 3 [.ref a, .int x1, .int x2] h (.inl (some (.long v)), h) :=
  z_start (by decide) (Nat.le_of_ble_eq_true rfl) (zX3_way (F := (l, 3, h, (.inl (some (.long v)), h))) (Nat.le_refl _) hL hf rfl)
noncomputable def fX3_behind (h : zH) (a : Nat) (x1 : Int32) (x2 : Int32) : Option (Int32) := zb1 (fX3_entryOf h a x2) (fun v_2 => zck (vp_in v_2 100) (zck (vp_in (((4 : Int32) * x1) + (zI h (a + 1) v_2.toNatClampNeg)) 16) (some (zI h (a + 21) (((4 : Int32) * x1) + (zI h (a + 1) v_2.toNatClampNeg)).toNatClampNeg))))
theorem zX3_behind {F : zF} {h : zH} {a : Nat} {x1 : Int32} {x2 : Int32} {y : Int32} (hD : 3 ≤ F.2.1) (hL : zCt [(tB, tP, a)] [] h) (hf : fX3_behind h a x1 x2 = some y) (hM : ((.inl (some (.int y)), h) : zX) = zEnd F) : Z F 3 cX3_behind RX3 "behind" (some .int) [] h 0 [(0, .ref a), (1, .int x1), (2, .int x2)] [] := by
  unfold fX3_behind at hf
  refine z_aload_n 0 dX3_behind_0 rfl rfl ?_
  refine z_getr fdX3_64_2 (Or.inr ⟨_, rfl⟩) ((hL.b 0 rfl).t 0 rfl) ((hL.b 0 rfl).p 20 rfl) dX3_behind_1 ?_
  refine z_iconst 4 dX3_behind_4 rfl ?_
  refine z_iload_n 1 dX3_behind_5 rfl rfl ?_
  refine z_imul dX3_behind_6 ?_
  refine z_aload_n 0 dX3_behind_7 rfl rfl ?_
  refine z_getr fdX3_9_2 (Or.inr ⟨_, rfl⟩) ((hL.b 0 rfl).t 0 rfl) ((hL.b 0 rfl).p 0 rfl) dX3_behind_8 ?_
  refine z_aload_n 0 dX3_behind_11 rfl rfl ?_
  refine z_iload_n 2 dX3_behind_12 rfl rfl ?_
  obtain ⟨v_2, hc_1, hf⟩ := zb1_some hf
  refine z_invVi svX3_165_2 (ctX3_entryOf hL hc_1) ((hL.b 0 rfl).t 0 rfl) ⟨Nat.le_trans (by decide) hD, by decide⟩ rfl rfl (Nat.le_of_ble_eq_true rfl) dX3_behind_13 ?_
  obtain ⟨hi_3, hf⟩ := zck_some hf
  refine z_iald ((hL.b 0 rfl).t 1 rfl) hi_3 dX3_behind_16 ?_
  refine z_iadd dX3_behind_17 ?_
  obtain ⟨hi_4, hf⟩ := zck_some hf
  refine z_iald ((hL.b 0 rfl).t 21 rfl) hi_4 dX3_behind_18 ?_
  cases hf
  exact z_iret dX3_behind_19 rfl hM
theorem ctX3_behind {l : Launch} {h : zH} {a : Nat} {x1 : Int32} {x2 : Int32} {v : Int32} (hL : zCt [(tB, tP, a)] [] h) (hf : fX3_behind h a x1 x2 = some v) : zC l yX3_behind (ws_ yX3_behind cX3_behind 3 (some .int)) 3 [.ref a, .int x1, .int x2] h (.inl (some (.int v)), h) :=
  z_start (by decide) (Nat.le_of_ble_eq_true rfl) (zX3_behind (F := (l, 3, h, (.inl (some (.int v)), h))) (Nat.le_refl _) hL hf rfl)
noncomputable def fX3_end (h : zH) (a : Nat) (x1 : Int32) : Option (Int64) := zck (vp_in ((4 : Int32) * x1) 16) (zck (vp_in ((4 : Int32) * x1) 16) (some ((((zI h (a + 17) ((4 : Int32) * x1).toNatClampNeg).toInt64) <<< ((32 : Int32).toInt64 &&& 63)) ||| (zL h (a + 18) ((4 : Int32) * x1).toNatClampNeg))))
theorem zX3_end {F : zF} {h : zH} {a : Nat} {x1 : Int32} {y : Int64} (hD : 1 ≤ F.2.1) (hL : zCt [(tB, tP, a)] [] h) (hf : fX3_end h a x1 = some y) (hM : ((.inl (some (.long y)), h) : zX) = zEnd F) : Z F 2 cX3_end RX3 "end" (some .long) [] h 0 [(0, .ref a), (1, .int x1)] [] := by
  unfold fX3_end at hf
  refine z_aload_n 0 dX3_end_0 rfl rfl ?_
  refine z_getr fdX3_51_2 (Or.inr ⟨_, rfl⟩) ((hL.b 0 rfl).t 0 rfl) ((hL.b 0 rfl).p 16 rfl) dX3_end_1 ?_
  refine z_iconst 4 dX3_end_4 rfl ?_
  refine z_iload_n 1 dX3_end_5 rfl rfl ?_
  refine z_imul dX3_end_6 ?_
  obtain ⟨hi_1, hf⟩ := zck_some hf
  refine z_iald ((hL.b 0 rfl).t 17 rfl) hi_1 dX3_end_7 ?_
  refine z_i2l dX3_end_8 ?_
  refine z_bipush 32 dX3_end_9 rfl ?_
  refine z_lshl dX3_end_11 ?_
  refine z_aload_n 0 dX3_end_12 rfl rfl ?_
  refine z_getr fdX3_54_2 (Or.inr ⟨_, rfl⟩) ((hL.b 0 rfl).t 0 rfl) ((hL.b 0 rfl).p 17 rfl) dX3_end_13 ?_
  refine z_iconst 4 dX3_end_16 rfl ?_
  refine z_iload_n 1 dX3_end_17 rfl rfl ?_
  refine z_imul dX3_end_18 ?_
  obtain ⟨hi_2, hf⟩ := zck_some hf
  refine z_lald ((hL.b 0 rfl).t 18 rfl) hi_2 dX3_end_19 ?_
  refine z_lor dX3_end_20 ?_
  cases hf
  exact z_lret dX3_end_21 rfl hM
theorem ctX3_end {l : Launch} {h : zH} {a : Nat} {x1 : Int32} {v : Int64} (hL : zCt [(tB, tP, a)] [] h) (hf : fX3_end h a x1 = some v) : zC l yX3_end (ws_ yX3_end cX3_end 2 (some .long)) 1 [.ref a, .int x1] h (.inl (some (.long v)), h) :=
  z_start (by decide) (Nat.le_of_ble_eq_true rfl) (zX3_end (F := (l, 1, h, (.inl (some (.long v)), h))) (Nat.le_refl _) hL hf rfl)
noncomputable def fX3_coverage (h : zH) (a : Nat) (x1 : Int32) (x2 : Int32) : Option (Int32) := zb1 (fX3_below h a (x2 + 1)) (fun v_2 => zb1 (fX3_below h a x1) (fun v_4 => some (v_2 - v_4)))
theorem zX3_coverage {F : zF} {h : zH} {a : Nat} {x1 : Int32} {x2 : Int32} {y : Int32} (hD : 2 ≤ F.2.1) (hL : zCt [(tB, tP, a)] [] h) (hf : fX3_coverage h a x1 x2 = some y) (hM : ((.inl (some (.int y)), h) : zX) = zEnd F) : Z F 3 cX3_coverage RX3 "coverage" (some .int) [] h 0 [(0, .ref a), (1, .int x1), (2, .int x2)] [] := by
  unfold fX3_coverage at hf
  refine z_aload_n 0 dX3_coverage_0 rfl rfl ?_
  refine z_iload_n 2 dX3_coverage_1 rfl rfl ?_
  refine z_iconst 1 dX3_coverage_2 rfl ?_
  refine z_iadd dX3_coverage_3 ?_
  obtain ⟨v_2, hc_1, hf⟩ := zb1_some hf
  refine z_invVi svX3_162_2 (ctX3_below hL hc_1) ((hL.b 0 rfl).t 0 rfl) ⟨Nat.le_trans (by decide) hD, by decide⟩ rfl rfl (Nat.le_of_ble_eq_true rfl) dX3_coverage_4 ?_
  refine z_aload_n 0 dX3_coverage_7 rfl rfl ?_
  refine z_iload_n 1 dX3_coverage_8 rfl rfl ?_
  obtain ⟨v_4, hc_3, hf⟩ := zb1_some hf
  refine z_invVi svX3_162_2 (ctX3_below hL hc_3) ((hL.b 0 rfl).t 0 rfl) ⟨Nat.le_trans (by decide) hD, by decide⟩ rfl rfl (Nat.le_of_ble_eq_true rfl) dX3_coverage_9 ?_
  refine z_isub dX3_coverage_12 ?_
  cases hf
  exact z_iret dX3_coverage_13 rfl hM
theorem ctX3_coverage {l : Launch} {h : zH} {a : Nat} {x1 : Int32} {x2 : Int32} {v : Int32} (hL : zCt [(tB, tP, a)] [] h) (hf : fX3_coverage h a x1 x2 = some v) : zC l yX3_coverage (ws_ yX3_coverage cX3_coverage 3 (some .int)) 2 [.ref a, .int x1, .int x2] h (.inl (some (.int v)), h) :=
  z_start (by decide) (Nat.le_of_ble_eq_true rfl) (zX3_coverage (F := (l, 2, h, (.inl (some (.int v)), h))) (Nat.le_refl _) hL hf rfl)
