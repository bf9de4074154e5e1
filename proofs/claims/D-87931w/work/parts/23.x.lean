/-! the exchange: each method as a function over the heap (written by genX.py) -/
set_option maxRecDepth 100000
noncomputable def fX2_init_2 (h : zH) (a : Nat) : Option (zH) := some h
theorem zX2_init_2 {F : zF} {h : zH} {a : Nat} {y : zH} (hD : 2 ≤ F.2.1) (hL : zOb 2 h a) (hf : fX2_init_2 h a = some y) (hM : ((.inl none, y) : zX) = zEnd F) : Z F 1 cX2_init RX2 "<init>" none [] h 0 [(0, .ref a)] [] := by
  unfold fX2_init_2 at hf
  refine z_aload_n 0 dX2_init_0 rfl rfl ?_
  refine z_obj q222 q127 q128 (Nat.le_trans (by decide) hD) (Nat.le_of_ble_eq_true rfl) dX2_init_1 ?_
  cases hf
  exact z_vret dX2_init_4 rfl hM
theorem ctX2_init_2 {l : Launch} {h : zH} {a : Nat} {h' : zH} (hL : zOb 2 h a) (hf : fX2_init_2 h a = some h') : zC l yX2_init (ws_ yX2_init cX2_init 1 none) 2 [.ref a] h (.inl none, h') :=
  z_start (by decide) (Nat.le_of_ble_eq_true rfl) (zX2_init_2 (F := (l, 2, h, (.inl none, h'))) (Nat.le_refl _) hL hf rfl)
theorem siX3_3_2 : zIi RX3 3 yX2_init cX2_init 1 0 := ⟨(zGood_c q221 q102), rfl, (Or.inr ⟨_, q219⟩), q220, q221, ⟨by decide, by decide⟩, by decide +kernel⟩
theorem ffX3_9_2 : zFdF RX3 9 2 5 (.array .int) := ⟨_, _, rfl, rfl, by decide, rfl, rfl, rfl, q229⟩
theorem ffX3_15_2 : zFdF RX3 15 2 6 (.array .int) := ⟨_, _, rfl, rfl, by decide, rfl, rfl, rfl, q231⟩
theorem ffX3_18_2 : zFdF RX3 18 2 7 (.array .int) := ⟨_, _, rfl, rfl, by decide, rfl, rfl, rfl, q233⟩
theorem ffX3_21_2 : zFdF RX3 21 2 8 (.array .int) := ⟨_, _, rfl, rfl, by decide, rfl, rfl, rfl, q235⟩
theorem ffX3_24_2 : zFdF RX3 24 2 9 (.array .boolean) := ⟨_, _, rfl, rfl, by decide, rfl, rfl, rfl, q237⟩
theorem ffX3_28_2 : zFdF RX3 28 2 11 (.array .int) := ⟨_, _, rfl, rfl, by decide, rfl, rfl, rfl, q241⟩
theorem ffX3_31_2 : zFdF RX3 31 2 12 (.array .int) := ⟨_, _, rfl, rfl, by decide, rfl, rfl, rfl, q243⟩
theorem ffX3_34_2 : zFdF RX3 34 2 13 (.array .int) := ⟨_, _, rfl, rfl, by decide, rfl, rfl, rfl, q245⟩
theorem ffX3_37_2 : zFdF RX3 37 2 14 (.array .boolean) := ⟨_, _, rfl, rfl, by decide, rfl, rfl, rfl, q247⟩
theorem ffX3_42_2 : zFdF RX3 42 2 15 (.array (.array .int)) := ⟨_, _, rfl, rfl, by decide, rfl, rfl, rfl, q249⟩
theorem ffX3_45_2 : zFdF RX3 45 2 16 (.array .int) := ⟨_, _, rfl, rfl, by decide, rfl, rfl, rfl, q250⟩
theorem ffX3_48_2 : zFdF RX3 48 2 17 (.array .int) := ⟨_, _, rfl, rfl, by decide, rfl, rfl, rfl, q251⟩
theorem ffX3_51_2 : zFdF RX3 51 2 19 (.array .int) := ⟨_, _, rfl, rfl, by decide, rfl, rfl, rfl, q253⟩
theorem ffX3_54_2 : zFdF RX3 54 2 20 (.array .long) := ⟨_, _, rfl, rfl, by decide, rfl, rfl, rfl, q254⟩
theorem ffX3_58_2 : zFdF RX3 58 2 21 (.array .int) := ⟨_, _, rfl, rfl, by decide, rfl, rfl, rfl, q255⟩
theorem ffX3_61_2 : zFdF RX3 61 2 22 (.array .long) := ⟨_, _, rfl, rfl, by decide, rfl, rfl, rfl, q256⟩
theorem ffX3_64_2 : zFdF RX3 64 2 23 (.array .int) := ⟨_, _, rfl, rfl, by decide, rfl, rfl, rfl, q257⟩
noncomputable def fX3_init (h : zH) (a : Nat) : Option (zH) := zb1 (fX2_init_2 h a) (fun h_3 => zlet (zmk h_3 (100, 100) 100) (fun h_4 => zck (zP h_4 a 5 = none) (zlet (zsP h_4 a 5 (some (zn h_3))) (fun h_5 => zlet (zmk h_5 (100, 100) 100) (fun h_7 => zck (zP h_7 a 6 = none) (zlet (zsP h_7 a 6 (some (zn h_5))) (fun h_8 => zlet (zmk h_8 (100, 100) 100) (fun h_10 => zck (zP h_10 a 7 = none) (zlet (zsP h_10 a 7 (some (zn h_8))) (fun h_11 => zlet (zmk h_11 (100, 100) 100) (fun h_13 => zck (zP h_13 a 8 = none) (zlet (zsP h_13 a 8 (some (zn h_11))) (fun h_14 => zlet (zmk h_14 (101, 100) 100) (fun h_16 => zck (zP h_16 a 9 = none) (zlet (zsP h_16 a 9 (some (zn h_14))) (fun h_17 => zlet (zmk h_17 (100, 10) 10) (fun h_19 => zck (zP h_19 a 11 = none) (zlet (zsP h_19 a 11 (some (zn h_17))) (fun h_20 => zlet (zmk h_20 (100, 10) 10) (fun h_22 => zck (zP h_22 a 12 = none) (zlet (zsP h_22 a 12 (some (zn h_20))) (fun h_23 => zlet (zmk h_23 (100, 10) 10) (fun h_25 => zck (zP h_25 a 13 = none) (zlet (zsP h_25 a 13 (some (zn h_23))) (fun h_26 => zlet (zmk h_26 (101, 10) 10) (fun h_28 => zck (zP h_28 a 14 = none) (zlet (zsP h_28 a 14 (some (zn h_26))) (fun h_29 => zlet (zmm h_29) (fun h_31 => zck (zP h_31 a 15 = none) (zlet (zsP h_31 a 15 (some (zn h_29))) (fun h_32 => zlet (zmk h_32 (100, 4) 4) (fun h_34 => zck (zP h_34 a 16 = none) (zlet (zsP h_34 a 16 (some (zn h_32))) (fun h_35 => zlet (zmk h_35 (100, 100) 100) (fun h_37 => zck (zP h_37 a 17 = none) (zlet (zsP h_37 a 17 (some (zn h_35))) (fun h_38 => zlet (zmk h_38 (100, 16) 16) (fun h_40 => zck (zP h_40 a 19 = none) (zlet (zsP h_40 a 19 (some (zn h_38))) (fun h_41 => zlet (zmk h_41 (102, 16) 16) (fun h_43 => zck (zP h_43 a 20 = none) (zlet (zsP h_43 a 20 (some (zn h_41))) (fun h_44 => zlet (zmk h_44 (100, 16) 16) (fun h_46 => zck (zP h_46 a 21 = none) (zlet (zsP h_46 a 21 (some (zn h_44))) (fun h_47 => zlet (zmk h_47 (102, 16) 16) (fun h_49 => zck (zP h_49 a 22 = none) (zlet (zsP h_49 a 22 (some (zn h_47))) (fun h_50 => zlet (zmk h_50 (100, 16) 16) (fun h_52 => zck (zP h_52 a 23 = none) (zlet (zsP h_52 a 23 (some (zn h_50))) (fun h_53 => some h_53))))))))))))))))))))))))))))))))))))))))))))))))))))
theorem zX3_init {F : zF} {h : zH} {a : Nat} {y : zH} (hD : 3 ≤ F.2.1) (hL : zOb 2 h a) (hf : fX3_init h a = some y) (hM : ((.inl none, y) : zX) = zEnd F) : Z F 1 cX3_init RX3 "<init>" none [] h 0 [(0, .ref a)] [] := by
  unfold fX3_init at hf
  refine z_aload_n 0 dX3_init_0 rfl rfl ?_
  obtain ⟨h_3, hc_1, hf⟩ := zb1_some hf
  have hct := ctX2_init_2 (l := F.1) hL hc_1
  refine z_invIv siX3_3_2 hct ⟨Nat.le_trans (by decide) hD, by decide⟩ rfl rfl (Nat.le_of_ble_eq_true rfl) dX3_init_1 ?_
  have hL := hL.ext hct.1
  refine z_aload_n 0 dX3_init_4 rfl rfl ?_
  refine z_bipush 100 dX3_init_5 rfl ?_
  obtain ⟨h_4, he, hf⟩ := zlet_some hf
  refine z_newa (atype := .int) 100 q330 rfl rfl (by decide) (by decide) rfl (by decide) he dX3_init_7 ?_
  have hL := hL.mk he
  obtain ⟨hn_6, hf⟩ := zck_some hf
  obtain ⟨h_5, he, hf⟩ := zlet_some hf
  refine z_putFr ffX3_9_2 rfl (Or.inr ⟨_, rfl⟩) ((hL.b 0 rfl).t 0 rfl) ((hL.b 0 rfl).nz 0) hn_6 he dX3_init_9 ?_
  have hfx := zLx_F hn_6 he
  have hL := hL.ext hfx
  refine z_aload_n 0 dX3_init_12 rfl rfl ?_
  refine z_bipush 100 dX3_init_13 rfl ?_
  obtain ⟨h_7, he, hf⟩ := zlet_some hf
  refine z_newa (atype := .int) 100 q330 rfl rfl (by decide) (by decide) rfl (by decide) he dX3_init_15 ?_
  have hL := hL.mk he
  obtain ⟨hn_9, hf⟩ := zck_some hf
  obtain ⟨h_8, he, hf⟩ := zlet_some hf
  refine z_putFr ffX3_15_2 rfl (Or.inr ⟨_, rfl⟩) ((hL.b 0 rfl).t 0 rfl) ((hL.b 0 rfl).nz 0) hn_9 he dX3_init_17 ?_
  have hfx := zLx_F hn_9 he
  have hL := hL.ext hfx
  refine z_aload_n 0 dX3_init_20 rfl rfl ?_
  refine z_bipush 100 dX3_init_21 rfl ?_
  obtain ⟨h_10, he, hf⟩ := zlet_some hf
  refine z_newa (atype := .int) 100 q330 rfl rfl (by decide) (by decide) rfl (by decide) he dX3_init_23 ?_
  have hL := hL.mk he
  obtain ⟨hn_12, hf⟩ := zck_some hf
  obtain ⟨h_11, he, hf⟩ := zlet_some hf
  refine z_putFr ffX3_18_2 rfl (Or.inr ⟨_, rfl⟩) ((hL.b 0 rfl).t 0 rfl) ((hL.b 0 rfl).nz 0) hn_12 he dX3_init_25 ?_
  have hfx := zLx_F hn_12 he
  have hL := hL.ext hfx
  refine z_aload_n 0 dX3_init_28 rfl rfl ?_
  refine z_bipush 100 dX3_init_29 rfl ?_
  obtain ⟨h_13, he, hf⟩ := zlet_some hf
  refine z_newa (atype := .int) 100 q330 rfl rfl (by decide) (by decide) rfl (by decide) he dX3_init_31 ?_
  have hL := hL.mk he
  obtain ⟨hn_15, hf⟩ := zck_some hf
  obtain ⟨h_14, he, hf⟩ := zlet_some hf
  refine z_putFr ffX3_21_2 rfl (Or.inr ⟨_, rfl⟩) ((hL.b 0 rfl).t 0 rfl) ((hL.b 0 rfl).nz 0) hn_15 he dX3_init_33 ?_
  have hfx := zLx_F hn_15 he
  have hL := hL.ext hfx
  refine z_aload_n 0 dX3_init_36 rfl rfl ?_
  refine z_bipush 100 dX3_init_37 rfl ?_
  obtain ⟨h_16, he, hf⟩ := zlet_some hf
  refine z_newa (atype := .boolean) 100 q331 rfl rfl (by decide) (by decide) rfl (by decide) he dX3_init_39 ?_
  have hL := hL.mk he
  obtain ⟨hn_18, hf⟩ := zck_some hf
  obtain ⟨h_17, he, hf⟩ := zlet_some hf
  refine z_putFr ffX3_24_2 rfl (Or.inr ⟨_, rfl⟩) ((hL.b 0 rfl).t 0 rfl) ((hL.b 0 rfl).nz 0) hn_18 he dX3_init_41 ?_
  have hfx := zLx_F hn_18 he
  have hL := hL.ext hfx
  refine z_aload_n 0 dX3_init_44 rfl rfl ?_
  refine z_bipush 10 dX3_init_45 rfl ?_
  obtain ⟨h_19, he, hf⟩ := zlet_some hf
  refine z_newa (atype := .int) 10 q330 rfl rfl (by decide) (by decide) rfl (by decide) he dX3_init_47 ?_
  have hL := hL.mk he
  obtain ⟨hn_21, hf⟩ := zck_some hf
  obtain ⟨h_20, he, hf⟩ := zlet_some hf
  refine z_putFr ffX3_28_2 rfl (Or.inr ⟨_, rfl⟩) ((hL.b 0 rfl).t 0 rfl) ((hL.b 0 rfl).nz 0) hn_21 he dX3_init_49 ?_
  have hfx := zLx_F hn_21 he
  have hL := hL.ext hfx
  refine z_aload_n 0 dX3_init_52 rfl rfl ?_
  refine z_bipush 10 dX3_init_53 rfl ?_
  obtain ⟨h_22, he, hf⟩ := zlet_some hf
  refine z_newa (atype := .int) 10 q330 rfl rfl (by decide) (by decide) rfl (by decide) he dX3_init_55 ?_
  have hL := hL.mk he
  obtain ⟨hn_24, hf⟩ := zck_some hf
  obtain ⟨h_23, he, hf⟩ := zlet_some hf
  refine z_putFr ffX3_31_2 rfl (Or.inr ⟨_, rfl⟩) ((hL.b 0 rfl).t 0 rfl) ((hL.b 0 rfl).nz 0) hn_24 he dX3_init_57 ?_
  have hfx := zLx_F hn_24 he
  have hL := hL.ext hfx
  refine z_aload_n 0 dX3_init_60 rfl rfl ?_
  refine z_bipush 10 dX3_init_61 rfl ?_
  obtain ⟨h_25, he, hf⟩ := zlet_some hf
  refine z_newa (atype := .int) 10 q330 rfl rfl (by decide) (by decide) rfl (by decide) he dX3_init_63 ?_
  have hL := hL.mk he
  obtain ⟨hn_27, hf⟩ := zck_some hf
  obtain ⟨h_26, he, hf⟩ := zlet_some hf
  refine z_putFr ffX3_34_2 rfl (Or.inr ⟨_, rfl⟩) ((hL.b 0 rfl).t 0 rfl) ((hL.b 0 rfl).nz 0) hn_27 he dX3_init_65 ?_
  have hfx := zLx_F hn_27 he
  have hL := hL.ext hfx
  refine z_aload_n 0 dX3_init_68 rfl rfl ?_
  refine z_bipush 10 dX3_init_69 rfl ?_
  obtain ⟨h_28, he, hf⟩ := zlet_some hf
  refine z_newa (atype := .boolean) 10 q331 rfl rfl (by decide) (by decide) rfl (by decide) he dX3_init_71 ?_
  have hL := hL.mk he
  obtain ⟨hn_30, hf⟩ := zck_some hf
  obtain ⟨h_29, he, hf⟩ := zlet_some hf
  refine z_putFr ffX3_37_2 rfl (Or.inr ⟨_, rfl⟩) ((hL.b 0 rfl).t 0 rfl) ((hL.b 0 rfl).nz 0) hn_30 he dX3_init_73 ?_
  have hfx := zLx_F hn_30 he
  have hL := hL.ext hfx
  refine z_aload_n 0 dX3_init_76 rfl rfl ?_
  refine z_iconst 4 dX3_init_77 rfl ?_
  refine z_bipush 110 dX3_init_78 rfl ?_
  obtain ⟨h_31, he, hf⟩ := zlet_some hf
  refine z_mnew q223 he dX3_init_80 ?_
  have hfx := zLx_mm he
  have hL := hL.ext hfx
  obtain ⟨hn_33, hf⟩ := zck_some hf
  obtain ⟨h_32, he, hf⟩ := zlet_some hf
  refine z_putFr ffX3_42_2 rfl (Or.inr ⟨_, rfl⟩) ((hL.b 0 rfl).t 0 rfl) ((hL.b 0 rfl).nz 0) hn_33 he dX3_init_84 ?_
  have hfx := zLx_F hn_33 he
  have hL := hL.ext hfx
  refine z_aload_n 0 dX3_init_87 rfl rfl ?_
  refine z_iconst 4 dX3_init_88 rfl ?_
  obtain ⟨h_34, he, hf⟩ := zlet_some hf
  refine z_newa (atype := .int) 4 q330 rfl rfl (by decide) (by decide) rfl (by decide) he dX3_init_89 ?_
  have hL := hL.mk he
  obtain ⟨hn_36, hf⟩ := zck_some hf
  obtain ⟨h_35, he, hf⟩ := zlet_some hf
  refine z_putFr ffX3_45_2 rfl (Or.inr ⟨_, rfl⟩) ((hL.b 0 rfl).t 0 rfl) ((hL.b 0 rfl).nz 0) hn_36 he dX3_init_91 ?_
  have hfx := zLx_F hn_36 he
  have hL := hL.ext hfx
  refine z_aload_n 0 dX3_init_94 rfl rfl ?_
  refine z_bipush 100 dX3_init_95 rfl ?_
  obtain ⟨h_37, he, hf⟩ := zlet_some hf
  refine z_newa (atype := .int) 100 q330 rfl rfl (by decide) (by decide) rfl (by decide) he dX3_init_97 ?_
  have hL := hL.mk he
  obtain ⟨hn_39, hf⟩ := zck_some hf
  obtain ⟨h_38, he, hf⟩ := zlet_some hf
  refine z_putFr ffX3_48_2 rfl (Or.inr ⟨_, rfl⟩) ((hL.b 0 rfl).t 0 rfl) ((hL.b 0 rfl).nz 0) hn_39 he dX3_init_99 ?_
  have hfx := zLx_F hn_39 he
  have hL := hL.ext hfx
  refine z_aload_n 0 dX3_init_102 rfl rfl ?_
  refine z_bipush 16 dX3_init_103 rfl ?_
  obtain ⟨h_40, he, hf⟩ := zlet_some hf
  refine z_newa (atype := .int) 16 q330 rfl rfl (by decide) (by decide) rfl (by decide) he dX3_init_105 ?_
  have hL := hL.mk he
  obtain ⟨hn_42, hf⟩ := zck_some hf
  obtain ⟨h_41, he, hf⟩ := zlet_some hf
  refine z_putFr ffX3_51_2 rfl (Or.inr ⟨_, rfl⟩) ((hL.b 0 rfl).t 0 rfl) ((hL.b 0 rfl).nz 0) hn_42 he dX3_init_107 ?_
  have hfx := zLx_F hn_42 he
  have hL := hL.ext hfx
  refine z_aload_n 0 dX3_init_110 rfl rfl ?_
  refine z_bipush 16 dX3_init_111 rfl ?_
  obtain ⟨h_43, he, hf⟩ := zlet_some hf
  refine z_newa (atype := .long) 16 q332 rfl rfl (by decide) (by decide) rfl (by decide) he dX3_init_113 ?_
  have hL := hL.mk he
  obtain ⟨hn_45, hf⟩ := zck_some hf
  obtain ⟨h_44, he, hf⟩ := zlet_some hf
  refine z_putFr ffX3_54_2 rfl (Or.inr ⟨_, rfl⟩) ((hL.b 0 rfl).t 0 rfl) ((hL.b 0 rfl).nz 0) hn_45 he dX3_init_115 ?_
  have hfx := zLx_F hn_45 he
  have hL := hL.ext hfx
  refine z_aload_n 0 dX3_init_118 rfl rfl ?_
  refine z_bipush 16 dX3_init_119 rfl ?_
  obtain ⟨h_46, he, hf⟩ := zlet_some hf
  refine z_newa (atype := .int) 16 q330 rfl rfl (by decide) (by decide) rfl (by decide) he dX3_init_121 ?_
  have hL := hL.mk he
  obtain ⟨hn_48, hf⟩ := zck_some hf
  obtain ⟨h_47, he, hf⟩ := zlet_some hf
  refine z_putFr ffX3_58_2 rfl (Or.inr ⟨_, rfl⟩) ((hL.b 0 rfl).t 0 rfl) ((hL.b 0 rfl).nz 0) hn_48 he dX3_init_123 ?_
  have hfx := zLx_F hn_48 he
  have hL := hL.ext hfx
  refine z_aload_n 0 dX3_init_126 rfl rfl ?_
  refine z_bipush 16 dX3_init_127 rfl ?_
  obtain ⟨h_49, he, hf⟩ := zlet_some hf
  refine z_newa (atype := .long) 16 q332 rfl rfl (by decide) (by decide) rfl (by decide) he dX3_init_129 ?_
  have hL := hL.mk he
  obtain ⟨hn_51, hf⟩ := zck_some hf
  obtain ⟨h_50, he, hf⟩ := zlet_some hf
  refine z_putFr ffX3_61_2 rfl (Or.inr ⟨_, rfl⟩) ((hL.b 0 rfl).t 0 rfl) ((hL.b 0 rfl).nz 0) hn_51 he dX3_init_131 ?_
  have hfx := zLx_F hn_51 he
  have hL := hL.ext hfx
  refine z_aload_n 0 dX3_init_134 rfl rfl ?_
  refine z_bipush 16 dX3_init_135 rfl ?_
  obtain ⟨h_52, he, hf⟩ := zlet_some hf
  refine z_newa (atype := .int) 16 q330 rfl rfl (by decide) (by decide) rfl (by decide) he dX3_init_137 ?_
  have hL := hL.mk he
  obtain ⟨hn_54, hf⟩ := zck_some hf
  obtain ⟨h_53, he, hf⟩ := zlet_some hf
  refine z_putFr ffX3_64_2 rfl (Or.inr ⟨_, rfl⟩) ((hL.b 0 rfl).t 0 rfl) ((hL.b 0 rfl).nz 0) hn_54 he dX3_init_139 ?_
  have hfx := zLx_F hn_54 he
  have hL := hL.ext hfx
  cases hf
  exact z_vret dX3_init_142 rfl hM
theorem ctX3_init {l : Launch} {h : zH} {a : Nat} {h' : zH} (hL : zOb 2 h a) (hf : fX3_init h a = some h') : zC l yX3_init (ws_ yX3_init cX3_init 1 none) 3 [.ref a] h (.inl none, h') :=
  z_start (by decide) (Nat.le_of_ble_eq_true rfl) (zX3_init (F := (l, 3, h, (.inl none, h'))) (Nat.le_refl _) hL hf rfl)
theorem ffX4_3_3 : zFdF RX4 3 3 11 (.object "CodeExchange") := ⟨_, _, rfl, rfl, by decide, rfl, rfl, rfl, q389⟩
theorem ffX4_15_3 : zFdF RX4 15 3 0 (.array .int) := ⟨_, _, rfl, rfl, by decide, rfl, rfl, rfl, q350⟩
noncomputable def fX4_init_3 (h : zH) (a : Nat) (x1 : Nat) : Option (zH) := zck (zP h a 11 = none) (zlet (zsP h a 11 (some x1)) (fun h_1 => zlet (zmk h_1 (100, 700) 700) (fun h_3 => zck (zP h_3 a 0 = none) (zlet (zsP h_3 a 0 (some (zn h_1))) (fun h_4 => some h_4)))))
theorem zX4_init_3 {F : zF} {h : zH} {a : Nat} {x1 : Nat} {y : zH} (hD : 2 ≤ F.2.1) (hL : zOb 3 h a) (hf : fX4_init_3 h a x1 = some y) (hM : ((.inl none, y) : zX) = zEnd F) : Z F 2 cX4_init RX4 "<init>" none [] h 0 [(0, .ref a), (1, .ref x1)] [] := by
  unfold fX4_init_3 at hf
  refine z_aload_n 0 dX4_init_0 rfl rfl ?_
  refine z_aload_n 1 dX4_init_1 rfl rfl ?_
  obtain ⟨hn_2, hf⟩ := zck_some hf
  obtain ⟨h_1, he, hf⟩ := zlet_some hf
  refine z_putFr ffX4_3_3 rfl (Or.inl ⟨_, rfl⟩) ((hL.b 0 rfl).t 0 rfl) ((hL.b 0 rfl).nz 0) hn_2 he dX4_init_2 ?_
  have hfx := zLx_F hn_2 he
  have hL := hL.ext hfx
  refine z_aload_n 0 dX4_init_5 rfl rfl ?_
  refine z_obj q345 q127 q128 (Nat.le_trans (by decide) hD) (Nat.le_of_ble_eq_true rfl) dX4_init_6 ?_
  refine z_aload_n 0 dX4_init_9 rfl rfl ?_
  refine z_sipush 700 dX4_init_10 rfl ?_
  obtain ⟨h_3, he, hf⟩ := zlet_some hf
  refine z_newa (atype := .int) 700 q330 rfl rfl (by decide) (by decide) rfl (by decide) he dX4_init_13 ?_
  have hL := hL.mk he
  obtain ⟨hn_5, hf⟩ := zck_some hf
  obtain ⟨h_4, he, hf⟩ := zlet_some hf
  refine z_putFr ffX4_15_3 rfl (Or.inr ⟨_, rfl⟩) ((hL.b 0 rfl).t 0 rfl) ((hL.b 0 rfl).nz 0) hn_5 he dX4_init_15 ?_
  have hfx := zLx_F hn_5 he
  have hL := hL.ext hfx
  cases hf
  exact z_vret dX4_init_18 rfl hM
theorem ctX4_init_3 {l : Launch} {h : zH} {a : Nat} {x1 : Nat} {h' : zH} (hL : zOb 3 h a) (hf : fX4_init_3 h a x1 = some h') : zC l yX4_init (ws_ yX4_init cX4_init 2 none) 2 [.ref a, .ref x1] h (.inl none, h') :=
  z_start (by decide) (Nat.le_of_ble_eq_true rfl) (zX4_init_3 (F := (l, 2, h, (.inl none, h'))) (Nat.le_refl _) hL hf rfl)
theorem ffX5_3_3 : zFdF RX5 3 3 14 (.object "CodeExchange") := ⟨_, _, rfl, rfl, by decide, rfl, rfl, rfl, q349⟩
theorem siX5_9_3 : zIi RX5 9 yX4_init cX4_init 2 1 := ⟨(zGood_c q344 q104), rfl, (Or.inr ⟨_, q342⟩), q343, q344, ⟨by decide, by decide⟩, by decide +kernel⟩
theorem ffX5_15_3 : zFdF RX5 15 3 12 (.array .int) := ⟨_, _, rfl, rfl, by decide, rfl, rfl, rfl, q346⟩
noncomputable def fX5_init (h : zH) (a : Nat) (x1 : Nat) : Option (zH) := zck (zP h a 14 = none) (zlet (zsP h a 14 (some x1)) (fun h_1 => zb1 (fX4_init_3 h_1 a x1) (fun h_5 => zlet (zmk h_5 (100, 4) 4) (fun h_6 => zck (zP h_6 a 12 = none) (zlet (zsP h_6 a 12 (some (zn h_5))) (fun h_7 => some h_7))))))
theorem zX5_init {F : zF} {h : zH} {a : Nat} {x1 : Nat} {y : zH} (hD : 3 ≤ F.2.1) (hL : zOb 3 h a) (hf : fX5_init h a x1 = some y) (hM : ((.inl none, y) : zX) = zEnd F) : Z F 2 cX5_init RX5 "<init>" none [] h 0 [(0, .ref a), (1, .ref x1)] [] := by
  unfold fX5_init at hf
  refine z_aload_n 0 dX5_init_0 rfl rfl ?_
  refine z_aload_n 1 dX5_init_1 rfl rfl ?_
  obtain ⟨hn_2, hf⟩ := zck_some hf
  obtain ⟨h_1, he, hf⟩ := zlet_some hf
  refine z_putFr ffX5_3_3 rfl (Or.inl ⟨_, rfl⟩) ((hL.b 0 rfl).t 0 rfl) ((hL.b 0 rfl).nz 0) hn_2 he dX5_init_2 ?_
  have hfx := zLx_F hn_2 he
  have hL := hL.ext hfx
  refine z_aload_n 0 dX5_init_5 rfl rfl ?_
  refine z_aload_n 1 dX5_init_6 rfl rfl ?_
  obtain ⟨h_5, hc_3, hf⟩ := zb1_some hf
  have hct := ctX4_init_3 (l := F.1) hL hc_3
  refine z_invIv siX5_9_3 hct ⟨Nat.le_trans (by decide) hD, by decide⟩ rfl rfl (Nat.le_of_ble_eq_true rfl) dX5_init_7 ?_
  have hL := hL.ext hct.1
  refine z_aload_n 0 dX5_init_10 rfl rfl ?_
  refine z_iconst 4 dX5_init_11 rfl ?_
  obtain ⟨h_6, he, hf⟩ := zlet_some hf
  refine z_newa (atype := .int) 4 q330 rfl rfl (by decide) (by decide) rfl (by decide) he dX5_init_12 ?_
  have hL := hL.mk he
  obtain ⟨hn_8, hf⟩ := zck_some hf
  obtain ⟨h_7, he, hf⟩ := zlet_some hf
  refine z_putFr ffX5_15_3 rfl (Or.inr ⟨_, rfl⟩) ((hL.b 0 rfl).t 0 rfl) ((hL.b 0 rfl).nz 0) hn_8 he dX5_init_14 ?_
  have hfx := zLx_F hn_8 he
  have hL := hL.ext hfx
  cases hf
  exact z_vret dX5_init_17 rfl hM
theorem ctX5_init {l : Launch} {h : zH} {a : Nat} {x1 : Nat} {h' : zH} (hL : zOb 3 h a) (hf : fX5_init h a x1 = some h') : zC l yX5_init (ws_ yX5_init cX5_init 2 none) 3 [.ref a, .ref x1] h (.inl none, h') :=
  z_start (by decide) (Nat.le_of_ble_eq_true rfl) (zX5_init (F := (l, 3, h, (.inl none, h'))) (Nat.le_refl _) hL hf rfl)
theorem ffX4_3_4 : zFdF RX4 3 4 11 (.object "CodeExchange") := ⟨_, _, rfl, rfl, by decide, rfl, rfl, rfl, q389⟩
theorem ffX4_15_4 : zFdF RX4 15 4 0 (.array .int) := ⟨_, _, rfl, rfl, by decide, rfl, rfl, rfl, q350⟩
noncomputable def fX4_init_4 (h : zH) (a : Nat) (x1 : Nat) : Option (zH) := zck (zP h a 11 = none) (zlet (zsP h a 11 (some x1)) (fun h_1 => zlet (zmk h_1 (100, 700) 700) (fun h_3 => zck (zP h_3 a 0 = none) (zlet (zsP h_3 a 0 (some (zn h_1))) (fun h_4 => some h_4)))))
theorem zX4_init_4 {F : zF} {h : zH} {a : Nat} {x1 : Nat} {y : zH} (hD : 2 ≤ F.2.1) (hL : zOb 4 h a) (hf : fX4_init_4 h a x1 = some y) (hM : ((.inl none, y) : zX) = zEnd F) : Z F 2 cX4_init RX4 "<init>" none [] h 0 [(0, .ref a), (1, .ref x1)] [] := by
  unfold fX4_init_4 at hf
  refine z_aload_n 0 dX4_init_0 rfl rfl ?_
  refine z_aload_n 1 dX4_init_1 rfl rfl ?_
  obtain ⟨hn_2, hf⟩ := zck_some hf
  obtain ⟨h_1, he, hf⟩ := zlet_some hf
  refine z_putFr ffX4_3_4 rfl (Or.inl ⟨_, rfl⟩) ((hL.b 0 rfl).t 0 rfl) ((hL.b 0 rfl).nz 0) hn_2 he dX4_init_2 ?_
  have hfx := zLx_F hn_2 he
  have hL := hL.ext hfx
  refine z_aload_n 0 dX4_init_5 rfl rfl ?_
  refine z_obj q345 q127 q128 (Nat.le_trans (by decide) hD) (Nat.le_of_ble_eq_true rfl) dX4_init_6 ?_
  refine z_aload_n 0 dX4_init_9 rfl rfl ?_
  refine z_sipush 700 dX4_init_10 rfl ?_
  obtain ⟨h_3, he, hf⟩ := zlet_some hf
  refine z_newa (atype := .int) 700 q330 rfl rfl (by decide) (by decide) rfl (by decide) he dX4_init_13 ?_
  have hL := hL.mk he
  obtain ⟨hn_5, hf⟩ := zck_some hf
  obtain ⟨h_4, he, hf⟩ := zlet_some hf
  refine z_putFr ffX4_15_4 rfl (Or.inr ⟨_, rfl⟩) ((hL.b 0 rfl).t 0 rfl) ((hL.b 0 rfl).nz 0) hn_5 he dX4_init_15 ?_
  have hfx := zLx_F hn_5 he
  have hL := hL.ext hfx
  cases hf
  exact z_vret dX4_init_18 rfl hM
theorem ctX4_init_4 {l : Launch} {h : zH} {a : Nat} {x1 : Nat} {h' : zH} (hL : zOb 4 h a) (hf : fX4_init_4 h a x1 = some h') : zC l yX4_init (ws_ yX4_init cX4_init 2 none) 2 [.ref a, .ref x1] h (.inl none, h') :=
  z_start (by decide) (Nat.le_of_ble_eq_true rfl) (zX4_init_4 (F := (l, 2, h, (.inl none, h'))) (Nat.le_refl _) hL hf rfl)
theorem ffX6_3_4 : zFdF RX6 3 4 15 (.object "CodeExchange") := ⟨_, _, rfl, rfl, by decide, rfl, rfl, rfl, q429⟩
theorem siX6_9_4 : zIi RX6 9 yX4_init cX4_init 2 1 := ⟨(zGood_c q344 q104), rfl, (Or.inr ⟨_, q425⟩), q343, q344, ⟨by decide, by decide⟩, by decide +kernel⟩
theorem ffX6_15_4 : zFdF RX6 15 4 13 (.array .int) := ⟨_, _, rfl, rfl, by decide, rfl, rfl, rfl, q427⟩
noncomputable def fX6_init (h : zH) (a : Nat) (x1 : Nat) : Option (zH) := zck (zP h a 15 = none) (zlet (zsP h a 15 (some x1)) (fun h_1 => zb1 (fX4_init_4 h_1 a x1) (fun h_5 => zlet (zmk h_5 (100, 16) 16) (fun h_6 => zck (zP h_6 a 13 = none) (zlet (zsP h_6 a 13 (some (zn h_5))) (fun h_7 => some h_7))))))
theorem zX6_init {F : zF} {h : zH} {a : Nat} {x1 : Nat} {y : zH} (hD : 3 ≤ F.2.1) (hL : zOb 4 h a) (hf : fX6_init h a x1 = some y) (hM : ((.inl none, y) : zX) = zEnd F) : Z F 2 cX6_init RX6 "<init>" none [] h 0 [(0, .ref a), (1, .ref x1)] [] := by
  unfold fX6_init at hf
  refine z_aload_n 0 dX6_init_0 rfl rfl ?_
  refine z_aload_n 1 dX6_init_1 rfl rfl ?_
  obtain ⟨hn_2, hf⟩ := zck_some hf
  obtain ⟨h_1, he, hf⟩ := zlet_some hf
  refine z_putFr ffX6_3_4 rfl (Or.inl ⟨_, rfl⟩) ((hL.b 0 rfl).t 0 rfl) ((hL.b 0 rfl).nz 0) hn_2 he dX6_init_2 ?_
  have hfx := zLx_F hn_2 he
  have hL := hL.ext hfx
  refine z_aload_n 0 dX6_init_5 rfl rfl ?_
  refine z_aload_n 1 dX6_init_6 rfl rfl ?_
  obtain ⟨h_5, hc_3, hf⟩ := zb1_some hf
  have hct := ctX4_init_4 (l := F.1) hL hc_3
  refine z_invIv siX6_9_4 hct ⟨Nat.le_trans (by decide) hD, by decide⟩ rfl rfl (Nat.le_of_ble_eq_true rfl) dX6_init_7 ?_
  have hL := hL.ext hct.1
  refine z_aload_n 0 dX6_init_10 rfl rfl ?_
  refine z_bipush 16 dX6_init_11 rfl ?_
  obtain ⟨h_6, he, hf⟩ := zlet_some hf
  refine z_newa (atype := .int) 16 q330 rfl rfl (by decide) (by decide) rfl (by decide) he dX6_init_13 ?_
  have hL := hL.mk he
  obtain ⟨hn_8, hf⟩ := zck_some hf
  obtain ⟨h_7, he, hf⟩ := zlet_some hf
  refine z_putFr ffX6_15_4 rfl (Or.inr ⟨_, rfl⟩) ((hL.b 0 rfl).t 0 rfl) ((hL.b 0 rfl).nz 0) hn_8 he dX6_init_15 ?_
  have hfx := zLx_F hn_8 he
  have hL := hL.ext hfx
  cases hf
  exact z_vret dX6_init_18 rfl hM
theorem ctX6_init {l : Launch} {h : zH} {a : Nat} {x1 : Nat} {h' : zH} (hL : zOb 4 h a) (hf : fX6_init h a x1 = some h') : zC l yX6_init (ws_ yX6_init cX6_init 2 none) 3 [.ref a, .ref x1] h (.inl none, h') :=
  z_start (by decide) (Nat.le_of_ble_eq_true rfl) (zX6_init (F := (l, 3, h, (.inl none, h'))) (Nat.le_refl _) hL hf rfl)
theorem ffX7_3_5 : zFdF RX7 3 5 3 (.object "CodeExchange") := ⟨_, _, rfl, rfl, by decide, rfl, rfl, rfl, q462⟩
theorem ffX7_15_5 : zFdF RX7 15 5 0 (.array .int) := ⟨_, _, rfl, rfl, by decide, rfl, rfl, rfl, q457⟩
noncomputable def fX7_init (h : zH) (a : Nat) (x1 : Nat) : Option (zH) := zck (zP h a 3 = none) (zlet (zsP h a 3 (some x1)) (fun h_1 => zlet (zmk h_1 (100, 6000) 6000) (fun h_3 => zck (zP h_3 a 0 = none) (zlet (zsP h_3 a 0 (some (zn h_1))) (fun h_4 => some h_4)))))
theorem zX7_init {F : zF} {h : zH} {a : Nat} {x1 : Nat} {y : zH} (hD : 2 ≤ F.2.1) (hL : zOb 5 h a) (hf : fX7_init h a x1 = some y) (hM : ((.inl none, y) : zX) = zEnd F) : Z F 2 cX7_init RX7 "<init>" none [] h 0 [(0, .ref a), (1, .ref x1)] [] := by
  unfold fX7_init at hf
  refine z_aload_n 0 dX7_init_0 rfl rfl ?_
  refine z_aload_n 1 dX7_init_1 rfl rfl ?_
  obtain ⟨hn_2, hf⟩ := zck_some hf
  obtain ⟨h_1, he, hf⟩ := zlet_some hf
  refine z_putFr ffX7_3_5 rfl (Or.inl ⟨_, rfl⟩) ((hL.b 0 rfl).t 0 rfl) ((hL.b 0 rfl).nz 0) hn_2 he dX7_init_2 ?_
  have hfx := zLx_F hn_2 he
  have hL := hL.ext hfx
  refine z_aload_n 0 dX7_init_5 rfl rfl ?_
  refine z_obj q456 q127 q128 (Nat.le_trans (by decide) hD) (Nat.le_of_ble_eq_true rfl) dX7_init_6 ?_
  refine z_aload_n 0 dX7_init_9 rfl rfl ?_
  refine z_sipush 6000 dX7_init_10 rfl ?_
  obtain ⟨h_3, he, hf⟩ := zlet_some hf
  refine z_newa (atype := .int) 6000 q330 rfl rfl (by decide) (by decide) rfl (by decide) he dX7_init_13 ?_
  have hL := hL.mk he
  obtain ⟨hn_5, hf⟩ := zck_some hf
  obtain ⟨h_4, he, hf⟩ := zlet_some hf
  refine z_putFr ffX7_15_5 rfl (Or.inr ⟨_, rfl⟩) ((hL.b 0 rfl).t 0 rfl) ((hL.b 0 rfl).nz 0) hn_5 he dX7_init_15 ?_
  have hfx := zLx_F hn_5 he
  have hL := hL.ext hfx
  cases hf
  exact z_vret dX7_init_18 rfl hM
theorem ctX7_init {l : Launch} {h : zH} {a : Nat} {x1 : Nat} {h' : zH} (hL : zOb 5 h a) (hf : fX7_init h a x1 = some h') : zC l yX7_init (ws_ yX7_init cX7_init 2 none) 2 [.ref a, .ref x1] h (.inl none, h') :=
  z_start (by decide) (Nat.le_of_ble_eq_true rfl) (zX7_init (F := (l, 2, h, (.inl none, h'))) (Nat.le_refl _) hL hf rfl)
noncomputable def fX8_init (h : zH) (a : Nat) : Option (zH) := some h
theorem zX8_init {F : zF} {h : zH} {a : Nat} {y : zH} (hD : 2 ≤ F.2.1) (hL : zOb 6 h a) (hf : fX8_init h a = some y) (hM : ((.inl none, y) : zX) = zEnd F) : Z F 1 cX8_init RX8 "<init>" none [] h 0 [(0, .ref a)] [] := by
  unfold fX8_init at hf
  refine z_aload_n 0 dX8_init_0 rfl rfl ?_
  refine z_obj q476 q127 q128 (Nat.le_trans (by decide) hD) (Nat.le_of_ble_eq_true rfl) dX8_init_1 ?_
  cases hf
  exact z_vret dX8_init_4 rfl hM
theorem ctX8_init {l : Launch} {h : zH} {a : Nat} {h' : zH} (hL : zOb 6 h a) (hf : fX8_init h a = some h') : zC l yX8_init (ws_ yX8_init cX8_init 1 none) 2 [.ref a] h (.inl none, h') :=
  z_start (by decide) (Nat.le_of_ble_eq_true rfl) (zX8_init (F := (l, 2, h, (.inl none, h'))) (Nat.le_refl _) hL hf rfl)
theorem siX0_35_1 : zIi RX0 35 yX1_init cX1_init 1 0 := ⟨(zGood_c q186 q101), rfl, (Or.inl q184), q185, q186, ⟨by decide, by decide⟩, by decide +kernel⟩
theorem ffX0_13_0 : zFdF RX0 13 0 0 (.object "CodeExchange$Refusal") := ⟨_, _, rfl, rfl, by decide, rfl, rfl, rfl, q481⟩
theorem ffX0_38_0 : zFdF RX0 38 0 1 (.array (.object "CodeExchange$Slot")) := ⟨_, _, rfl, rfl, by decide, rfl, rfl, rfl, q482⟩
theorem siX0_44_2 : zIi RX0 44 yX3_init cX3_init 1 0 := ⟨(zGood_c q218 q103), rfl, (Or.inr ⟨_, q216⟩), q217, q218, ⟨by decide, by decide⟩, by decide +kernel⟩
theorem fdX0_45_0 : zFd RX0 45 0 3 (.object "CodeExchange$Table") false := ⟨_, _, _, rfl, rfl, by decide, rfl, rfl, Or.inl q484, Or.inl rfl⟩
theorem ffX0_49_0 : zFdF RX0 49 0 4 (.array .int) := ⟨_, _, rfl, rfl, by decide, rfl, rfl, rfl, q485⟩
theorem ffX0_53_0 : zFdF RX0 53 0 6 (.array .int) := ⟨_, _, rfl, rfl, by decide, rfl, rfl, rfl, q487⟩
theorem ffX0_57_0 : zFdF RX0 57 0 8 (.array .int) := ⟨_, _, rfl, rfl, by decide, rfl, rfl, rfl, q491⟩
theorem ffX0_60_0 : zFdF RX0 60 0 10 (.array .int) := ⟨_, _, rfl, rfl, by decide, rfl, rfl, rfl, q493⟩
theorem ffX0_63_0 : zFdF RX0 63 0 11 (.array .int) := ⟨_, _, rfl, rfl, by decide, rfl, rfl, rfl, q495⟩
theorem ffX0_66_0 : zFdF RX0 66 0 12 (.array .int) := ⟨_, _, rfl, rfl, by decide, rfl, rfl, rfl, q497⟩
theorem ffX0_69_0 : zFdF RX0 69 0 13 (.array .int) := ⟨_, _, rfl, rfl, by decide, rfl, rfl, rfl, q498⟩
theorem ffX0_72_0 : zFdF RX0 72 0 14 (.array (.object "CodeExchange$Slot")) := ⟨_, _, rfl, rfl, by decide, rfl, rfl, rfl, q499⟩
theorem ffX0_77_0 : zFdF RX0 77 0 15 (.array (.object "CodeExchange$Reader")) := ⟨_, _, rfl, rfl, by decide, rfl, rfl, rfl, q500⟩
theorem ffX0_83_0 : zFdF RX0 83 0 16 (.array (.object "CodeExchange$Writer")) := ⟨_, _, rfl, rfl, by decide, rfl, rfl, rfl, q501⟩
theorem siX0_87_3 : zIi RX0 87 yX5_init cX5_init 2 1 := ⟨(zGood_c q341 q105), rfl, (Or.inr ⟨_, q339⟩), q340, q341, ⟨by decide, by decide⟩, by decide +kernel⟩
theorem ffX0_90_0 : zFdF RX0 90 0 17 (.object "CodeExchange$Reader") := ⟨_, _, rfl, rfl, by decide, rfl, rfl, rfl, q502⟩
theorem siX0_94_4 : zIi RX0 94 yX6_init cX6_init 2 1 := ⟨(zGood_c q424 q106), rfl, (Or.inr ⟨_, q422⟩), q423, q424, ⟨by decide, by decide⟩, by decide +kernel⟩
theorem ffX0_95_0 : zFdF RX0 95 0 18 (.object "CodeExchange$Writer") := ⟨_, _, rfl, rfl, by decide, rfl, rfl, rfl, q503⟩
theorem siX0_101_5 : zIi RX0 101 yX7_init cX7_init 2 1 := ⟨(zGood_c q455 q107), rfl, (Or.inr ⟨_, q453⟩), q454, q455, ⟨by decide, by decide⟩, by decide +kernel⟩
theorem fdX0_102_0 : zFd RX0 102 0 24 (.object "CodeExchange$Row") false := ⟨_, _, _, rfl, rfl, by decide, rfl, rfl, Or.inl q510, Or.inl rfl⟩
theorem fdX0_106_0 : zFd RX0 106 0 25 (.object "CodeExchange$Row") false := ⟨_, _, _, rfl, rfl, by decide, rfl, rfl, Or.inl q511, Or.inl rfl⟩
theorem ffX0_109_0 : zFdF RX0 109 0 26 (.object "CodeExchange$Row") := ⟨_, _, rfl, rfl, by decide, rfl, rfl, rfl, q512⟩
theorem ffX0_112_0 : zFdF RX0 112 0 28 (.array .int) := ⟨_, _, rfl, rfl, by decide, rfl, rfl, rfl, q514⟩
theorem ffX0_115_0 : zFdF RX0 115 0 29 (.object "CodeExchange$Row") := ⟨_, _, rfl, rfl, by decide, rfl, rfl, rfl, q515⟩
theorem ffX0_118_0 : zFdF RX0 118 0 30 (.object "CodeExchange$Row") := ⟨_, _, rfl, rfl, by decide, rfl, rfl, rfl, q516⟩
theorem ffX0_121_0 : zFdF RX0 121 0 31 (.array .int) := ⟨_, _, rfl, rfl, by decide, rfl, rfl, rfl, q517⟩
theorem fdX0_38_0 : zFd RX0 38 0 1 (.array (.object "CodeExchange$Slot")) true := ⟨_, _, _, rfl, rfl, by decide, rfl, rfl, Or.inl q482, Or.inl rfl⟩
theorem siX0_124_6 : zIi RX0 124 yX8_init cX8_init 1 0 := ⟨(zGood_c q475 q108), rfl, (Or.inr ⟨_, q473⟩), q474, q475, ⟨by decide, by decide⟩, by decide +kernel⟩
noncomputable def fX0_init_L228 (h : zH) (a : Nat) (x1 : Int32) : Option ((zH × Int32) ⊕ (zH)) := if 10 ≤ x1 then (some (.inr h)) else (zb1 (zP h a 1) (fun b_104 => zlet (zmk h (7, 0) 1) (fun h_105 => zck (zOb 6 h_105 (zn h)) (zb1 (fX8_init h_105 (zn h)) (fun h_109 => zck (zT h_109 b_104 = (103, (zT h_109 b_104).2) ∧ b_104 ≠ 0) (zck (vp_in x1 (zT h_109 b_104).2) (zck (zP h_109 b_104 x1.toNatClampNeg = none) (zlet (zsP h_109 b_104 x1.toNatClampNeg (some (zn h))) (fun h_113 => some (.inl ((h_113, x1 + 1))))))))))))
theorem zX0_init_L228 {F : zF} {h : zH} {a : Nat} {x1 : Int32} {y : (zH × Int32) ⊕ (zH)} (hD : 6 ≤ F.2.1) (hL : zOb 0 h a) (hf : fX0_init_L228 h a x1 = some y) (hM : ((∀ s' : zH × Int32, y = .inl s' → (zOb 0 s'.1 a → Z F 2 cX0_init RX0 "<init>" none [] s'.1 228 [(0, .ref a), (1, .int s'.2)] [])) ∧ ∀ r : zH, y = .inr r → (zOb 0 r a → Z F 2 cX0_init RX0 "<init>" none [] r 253 [(0, .ref a)] []))) : Z F 2 cX0_init RX0 "<init>" none [] h 228 [(0, .ref a), (1, .int x1)] [] := by
  unfold fX0_init_L228 at hf
  refine z_iload_n 1 dX0_init_228 rfl rfl ?_
  refine z_bipush 10 dX0_init_229 rfl ?_
  refine z_icmp_ge 253 dX0_init_231 rfl hf (fun _ hf => ?_) (fun _ hf => ?_)
  · cases hf
    refine z_sub [0] rfl ?_
    exact (hM.2 _ rfl) hL
  · refine z_aload_n 0 dX0_init_234 rfl rfl ?_
    obtain ⟨b_104, hb_104, hf⟩ := zb1_some hf
    refine z_getr fdX0_38_0 (Or.inr ⟨_, rfl⟩) ((hL.b 0 rfl).t 0 rfl) hb_104 dX0_init_235 ?_
    refine z_iload_n 1 dX0_init_238 rfl rfl ?_
    obtain ⟨h_105, he, hf⟩ := zlet_some hf
    refine z_new (q := (RX8, TX8, 1)) q212 q472 q108 rfl rfl he dX0_init_239 ?_
    have hL := hL.mk he
    refine z_dup dX0_init_242 rfl ?_
    obtain ⟨hK_106, hf⟩ := zck_some hf
    obtain ⟨h_109, hc_107, hf⟩ := zb1_some hf
    have hct := ctX8_init (l := F.1) hK_106 hc_107
    refine z_invIv siX0_124_6 hct ⟨Nat.le_trans (by decide) hD, by decide⟩ rfl rfl (Nat.le_of_ble_eq_true rfl) dX0_init_243 ?_
    have hL := hL.ext hct.1
    have hK_106 := hK_106.ext hct.1
    obtain ⟨ht_110, hf⟩ := zck_some hf
    obtain ⟨hi_111, hf⟩ := zck_some hf
    obtain ⟨hn_112, hf⟩ := zck_some hf
    obtain ⟨h_113, he, hf⟩ := zlet_some hf
    refine z_astq (t := 3) (ci := 6) rfl rfl rfl ((hK_106.b 0 rfl).t 0 rfl) ht_110.1 ht_110.2 hi_111 hn_112 he dX0_init_246 ?_
    have hfx := zLx_F hn_112 he
    have hL := hL.ext hfx
    have hK_106 := hK_106.ext hfx
    refine z_iinc 1 (x1 + 1) dX0_init_247 rfl rfl (by decide) (lc' := [(0, .ref a), (1, .int (x1 + 1))]) rfl ?_
    refine z_goto 228 dX0_init_250 rfl ?_
    cases hf
    exact (hM.1 _ rfl) hL
theorem fdX0_72_0 : zFd RX0 72 0 14 (.array (.object "CodeExchange$Slot")) true := ⟨_, _, _, rfl, rfl, by decide, rfl, rfl, Or.inl q499, Or.inl rfl⟩
theorem fdX0_77_0 : zFd RX0 77 0 15 (.array (.object "CodeExchange$Reader")) true := ⟨_, _, _, rfl, rfl, by decide, rfl, rfl, Or.inl q500, Or.inl rfl⟩
theorem fdX0_83_0 : zFd RX0 83 0 16 (.array (.object "CodeExchange$Writer")) true := ⟨_, _, _, rfl, rfl, by decide, rfl, rfl, Or.inl q501, Or.inl rfl⟩
noncomputable def fX0_init_L255 (h : zH) (a : Nat) (x1 : Int32) : Option ((zH × Int32) ⊕ (zH)) := if 4 ≤ x1 then (some (.inr h)) else (zb1 (zP h a 14) (fun b_115 => zlet (zmk h (7, 0) 1) (fun h_116 => zck (zOb 6 h_116 (zn h)) (zb1 (fX8_init h_116 (zn h)) (fun h_120 => zck (zT h_120 b_115 = (103, (zT h_120 b_115).2) ∧ b_115 ≠ 0) (zck (vp_in x1 (zT h_120 b_115).2) (zck (zP h_120 b_115 x1.toNatClampNeg = none) (zlet (zsP h_120 b_115 x1.toNatClampNeg (some (zn h))) (fun h_124 => zb1 (zP h_124 a 15) (fun b_125 => zlet (zmk h_124 (4, 0) 15) (fun h_126 => zck (zOb 3 h_126 (zn h_124)) (zb1 (fX5_init h_126 (zn h_124) a) (fun h_130 => zck (zT h_130 b_125 = (104, (zT h_130 b_125).2) ∧ b_125 ≠ 0) (zck (vp_in x1 (zT h_130 b_125).2) (zck (zP h_130 b_125 x1.toNatClampNeg = none) (zlet (zsP h_130 b_125 x1.toNatClampNeg (some (zn h_124))) (fun h_134 => zb1 (zP h_134 a 16) (fun b_135 => zlet (zmk h_134 (5, 0) 16) (fun h_136 => zck (zOb 4 h_136 (zn h_134)) (zb1 (fX6_init h_136 (zn h_134) a) (fun h_140 => zck (zT h_140 b_135 = (105, (zT h_140 b_135).2) ∧ b_135 ≠ 0) (zck (vp_in x1 (zT h_140 b_135).2) (zck (zP h_140 b_135 x1.toNatClampNeg = none) (zlet (zsP h_140 b_135 x1.toNatClampNeg (some (zn h_134))) (fun h_144 => some (.inl ((h_144, x1 + 1))))))))))))))))))))))))))))
theorem zX0_init_L255 {F : zF} {h : zH} {a : Nat} {x1 : Int32} {y : (zH × Int32) ⊕ (zH)} (hD : 6 ≤ F.2.1) (hL : zOb 0 h a) (hf : fX0_init_L255 h a x1 = some y) (hM : ((∀ s' : zH × Int32, y = .inl s' → (zOb 0 s'.1 a → Z F 2 cX0_init RX0 "<init>" none [] s'.1 255 [(0, .ref a), (1, .int s'.2)] [])) ∧ ∀ r : zH, y = .inr r → ((.inl none, r) : zX) = zEnd F)) : Z F 2 cX0_init RX0 "<init>" none [] h 255 [(0, .ref a), (1, .int x1)] [] := by
  unfold fX0_init_L255 at hf
  refine z_iload_n 1 dX0_init_255 rfl rfl ?_
  refine z_iconst 4 dX0_init_256 rfl ?_
  refine z_icmp_ge 307 dX0_init_257 rfl hf (fun _ hf => ?_) (fun _ hf => ?_)
  · cases hf
    exact z_vret dX0_init_307 rfl (hM.2 _ rfl)
  · refine z_aload_n 0 dX0_init_260 rfl rfl ?_
    obtain ⟨b_115, hb_115, hf⟩ := zb1_some hf
    refine z_getr fdX0_72_0 (Or.inr ⟨_, rfl⟩) ((hL.b 0 rfl).t 0 rfl) hb_115 dX0_init_261 ?_
    refine z_iload_n 1 dX0_init_264 rfl rfl ?_
    obtain ⟨h_116, he, hf⟩ := zlet_some hf
    refine z_new (q := (RX8, TX8, 1)) q212 q472 q108 rfl rfl he dX0_init_265 ?_
    have hL := hL.mk he
    refine z_dup dX0_init_268 rfl ?_
    obtain ⟨hK_117, hf⟩ := zck_some hf
    obtain ⟨h_120, hc_118, hf⟩ := zb1_some hf
    have hct := ctX8_init (l := F.1) hK_117 hc_118
    refine z_invIv siX0_124_6 hct ⟨Nat.le_trans (by decide) hD, by decide⟩ rfl rfl (Nat.le_of_ble_eq_true rfl) dX0_init_269 ?_
    have hL := hL.ext hct.1
    have hK_117 := hK_117.ext hct.1
    obtain ⟨ht_121, hf⟩ := zck_some hf
    obtain ⟨hi_122, hf⟩ := zck_some hf
    obtain ⟨hn_123, hf⟩ := zck_some hf
    obtain ⟨h_124, he, hf⟩ := zlet_some hf
    refine z_astq (t := 3) (ci := 6) rfl rfl rfl ((hK_117.b 0 rfl).t 0 rfl) ht_121.1 ht_121.2 hi_122 hn_123 he dX0_init_272 ?_
    have hfx := zLx_F hn_123 he
    have hL := hL.ext hfx
    have hK_117 := hK_117.ext hfx
    refine z_aload_n 0 dX0_init_273 rfl rfl ?_
    obtain ⟨b_125, hb_125, hf⟩ := zb1_some hf
    refine z_getr fdX0_77_0 (Or.inr ⟨_, rfl⟩) ((hL.b 0 rfl).t 0 rfl) hb_125 dX0_init_274 ?_
    refine z_iload_n 1 dX0_init_277 rfl rfl ?_
    obtain ⟨h_126, he, hf⟩ := zlet_some hf
    refine z_new (q := (RX5, TX5, 15)) q334 q338 q105 rfl rfl he dX0_init_278 ?_
    have hL := hL.mk he
    have hK_117 := hK_117.mk he
    refine z_dup dX0_init_281 rfl ?_
    refine z_aload_n 0 dX0_init_282 rfl rfl ?_
    obtain ⟨hK_127, hf⟩ := zck_some hf
    obtain ⟨h_130, hc_128, hf⟩ := zb1_some hf
    have hct := ctX5_init (l := F.1) hK_127 hc_128
    refine z_invIv siX0_87_3 hct ⟨Nat.le_trans (by decide) hD, by decide⟩ rfl rfl (Nat.le_of_ble_eq_true rfl) dX0_init_283 ?_
    have hL := hL.ext hct.1
    have hK_117 := hK_117.ext hct.1
    have hK_127 := hK_127.ext hct.1
    obtain ⟨ht_131, hf⟩ := zck_some hf
    obtain ⟨hi_132, hf⟩ := zck_some hf
    obtain ⟨hn_133, hf⟩ := zck_some hf
    obtain ⟨h_134, he, hf⟩ := zlet_some hf
    refine z_astq (t := 4) (ci := 3) rfl rfl rfl ((hK_127.b 0 rfl).t 0 rfl) ht_131.1 ht_131.2 hi_132 hn_133 he dX0_init_286 ?_
    have hfx := zLx_F hn_133 he
    have hL := hL.ext hfx
    have hK_117 := hK_117.ext hfx
    have hK_127 := hK_127.ext hfx
    refine z_aload_n 0 dX0_init_287 rfl rfl ?_
    obtain ⟨b_135, hb_135, hf⟩ := zb1_some hf
    refine z_getr fdX0_83_0 (Or.inr ⟨_, rfl⟩) ((hL.b 0 rfl).t 0 rfl) hb_135 dX0_init_288 ?_
    refine z_iload_n 1 dX0_init_291 rfl rfl ?_
    obtain ⟨h_136, he, hf⟩ := zlet_some hf
    refine z_new (q := (RX6, TX6, 16)) q336 q421 q106 rfl rfl he dX0_init_292 ?_
    have hL := hL.mk he
    have hK_117 := hK_117.mk he
    have hK_127 := hK_127.mk he
    refine z_dup dX0_init_295 rfl ?_
    refine z_aload_n 0 dX0_init_296 rfl rfl ?_
    obtain ⟨hK_137, hf⟩ := zck_some hf
    obtain ⟨h_140, hc_138, hf⟩ := zb1_some hf
    have hct := ctX6_init (l := F.1) hK_137 hc_138
    refine z_invIv siX0_94_4 hct ⟨Nat.le_trans (by decide) hD, by decide⟩ rfl rfl (Nat.le_of_ble_eq_true rfl) dX0_init_297 ?_
    have hL := hL.ext hct.1
    have hK_117 := hK_117.ext hct.1
    have hK_127 := hK_127.ext hct.1
    have hK_137 := hK_137.ext hct.1
    obtain ⟨ht_141, hf⟩ := zck_some hf
    obtain ⟨hi_142, hf⟩ := zck_some hf
    obtain ⟨hn_143, hf⟩ := zck_some hf
    obtain ⟨h_144, he, hf⟩ := zlet_some hf
    refine z_astq (t := 5) (ci := 4) rfl rfl rfl ((hK_137.b 0 rfl).t 0 rfl) ht_141.1 ht_141.2 hi_142 hn_143 he dX0_init_300 ?_
    have hfx := zLx_F hn_143 he
    have hL := hL.ext hfx
    have hK_117 := hK_117.ext hfx
    have hK_127 := hK_127.ext hfx
    have hK_137 := hK_137.ext hfx
    refine z_iinc 1 (x1 + 1) dX0_init_301 rfl rfl (by decide) (lc' := [(0, .ref a), (1, .int (x1 + 1))]) rfl ?_
    refine z_goto 255 dX0_init_304 rfl ?_
    cases hf
    exact (hM.1 _ rfl) hL
noncomputable def fX0_init (h : zH) (a : Nat) : Option (zH) := zlet (zmk h (2, 0) 7) (fun h_1 => zck (zOb 1 h_1 (zn h)) (zb1 (fX1_init h_1 (zn h)) (fun h_5 => zck (zP h_5 a 0 = none) (zlet (zsP h_5 a 0 (some (zn h))) (fun h_6 => zlet (zmk h_6 (103, 10) 10) (fun h_8 => zck (zP h_8 a 1 = none) (zlet (zsP h_8 a 1 (some (zn h_6))) (fun h_9 => zlet (zmk h_9 (3, 0) 27) (fun h_11 => zck (zOb 2 h_11 (zn h_9)) (zb1 (fX3_init h_11 (zn h_9)) (fun h_15 => zlet (zsP h_15 a 3 (some (zn h_9))) (fun h_16 => zlet (zmk h_16 (100, 1000) 1000) (fun h_17 => zck (zP h_17 a 4 = none) (zlet (zsP h_17 a 4 (some (zn h_16))) (fun h_18 => zlet (zmk h_18 (100, 1000) 1000) (fun h_20 => zck (zP h_20 a 6 = none) (zlet (zsP h_20 a 6 (some (zn h_18))) (fun h_21 => zlet (zmk h_21 (100, 2) 2) (fun h_23 => zck ((zn h_21) ≠ 0 ∧ zAr h_23 (zn h_21) 0) (zlet (zsI h_23 (zn h_21) (0 : Int32).toNatClampNeg 65533) (fun h_25 => zck ((zn h_21) ≠ 0 ∧ zAr h_25 (zn h_21) 1) (zlet (zsI h_25 (zn h_21) (1 : Int32).toNatClampNeg 63) (fun h_27 => zck (zP h_27 a 8 = none) (zlet (zsP h_27 a 8 (some (zn h_21))) (fun h_28 => zlet (zmk h_28 (100, 41) 41) (fun h_30 => zck (zP h_30 a 10 = none) (zlet (zsP h_30 a 10 (some (zn h_28))) (fun h_31 => zlet (zmk h_31 (100, 41) 41) (fun h_33 => zck (zP h_33 a 11 = none) (zlet (zsP h_33 a 11 (some (zn h_31))) (fun h_34 => zlet (zmk h_34 (100, 164) 164) (fun h_36 => zck (zP h_36 a 12 = none) (zlet (zsP h_36 a 12 (some (zn h_34))) (fun h_37 => zlet (zmk h_37 (100, 41) 41) (fun h_39 => zck (zP h_39 a 13 = none) (zlet (zsP h_39 a 13 (some (zn h_37))) (fun h_40 => zlet (zmk h_40 (103, 4) 4) (fun h_42 => zck (zP h_42 a 14 = none) (zlet (zsP h_42 a 14 (some (zn h_40))) (fun h_43 => zlet (zmk h_43 (104, 4) 4) (fun h_45 => zck (zP h_45 a 15 = none) (zlet (zsP h_45 a 15 (some (zn h_43))) (fun h_46 => zlet (zmk h_46 (105, 4) 4) (fun h_48 => zck (zP h_48 a 16 = none) (zlet (zsP h_48 a 16 (some (zn h_46))) (fun h_49 => zlet (zmk h_49 (4, 0) 15) (fun h_51 => zck (zOb 3 h_51 (zn h_49)) (zb1 (fX5_init h_51 (zn h_49) a) (fun h_55 => zck (zP h_55 a 17 = none) (zlet (zsP h_55 a 17 (some (zn h_49))) (fun h_56 => zlet (zmk h_56 (5, 0) 16) (fun h_58 => zck (zOb 4 h_58 (zn h_56)) (zb1 (fX6_init h_58 (zn h_56) a) (fun h_62 => zck (zP h_62 a 18 = none) (zlet (zsP h_62 a 18 (some (zn h_56))) (fun h_63 => zlet (zmk h_63 (6, 0) 4) (fun h_65 => zck (zOb 5 h_65 (zn h_63)) (zb1 (fX7_init h_65 (zn h_63) a) (fun h_69 => zlet (zsP h_69 a 24 (some (zn h_63))) (fun h_70 => zlet (zmk h_70 (6, 0) 4) (fun h_71 => zck (zOb 5 h_71 (zn h_70)) (zb1 (fX7_init h_71 (zn h_70) a) (fun h_75 => zlet (zsP h_75 a 25 (some (zn h_70))) (fun h_76 => zlet (zmk h_76 (6, 0) 4) (fun h_77 => zck (zOb 5 h_77 (zn h_76)) (zb1 (fX7_init h_77 (zn h_76) a) (fun h_81 => zck (zP h_81 a 26 = none) (zlet (zsP h_81 a 26 (some (zn h_76))) (fun h_82 => zlet (zmk h_82 (100, 6) 6) (fun h_84 => zck (zP h_84 a 28 = none) (zlet (zsP h_84 a 28 (some (zn h_82))) (fun h_85 => zlet (zmk h_85 (6, 0) 4) (fun h_87 => zck (zOb 5 h_87 (zn h_85)) (zb1 (fX7_init h_87 (zn h_85) a) (fun h_91 => zck (zP h_91 a 29 = none) (zlet (zsP h_91 a 29 (some (zn h_85))) (fun h_92 => zlet (zmk h_92 (6, 0) 4) (fun h_94 => zck (zOb 5 h_94 (zn h_92)) (zb1 (fX7_init h_94 (zn h_92) a) (fun h_98 => zck (zP h_98 a 30 = none) (zlet (zsP h_98 a 30 (some (zn h_92))) (fun h_99 => zlet (zmk h_99 (100, 2) 2) (fun h_101 => zck (zP h_101 a 31 = none) (zlet (zsP h_101 a 31 (some (zn h_99))) (fun h_102 => zb1 (zlp (fun s => fX0_init_L228 s.1 a s.2) (h_102, 0)) (fun t_114 => zlp (fun s => fX0_init_L255 s.1 a s.2) (t_114, 0)))))))))))))))))))))))))))))))))))))))))))))))))))))))))))))))))))))))))))))))))))))))
theorem zX0_init {F : zF} {h : zH} {a : Nat} {y : zH} (hD : 6 ≤ F.2.1) (hL : zOb 0 h a) (hf : fX0_init h a = some y) (hM : ((.inl none, y) : zX) = zEnd F) : Z F 2 cX0_init RX0 "<init>" none [] h 0 [(0, .ref a)] [] := by
  unfold fX0_init at hf
  refine z_aload_n 0 dX0_init_0 rfl rfl ?_
  refine z_obj q126 q127 q128 (Nat.le_trans (by decide) hD) (Nat.le_of_ble_eq_true rfl) dX0_init_1 ?_
  refine z_aload_n 0 dX0_init_4 rfl rfl ?_
  obtain ⟨h_1, he, hf⟩ := zlet_some hf
  refine z_new (q := (RX1, TX1, 7)) q129 q130 q101 rfl rfl he dX0_init_5 ?_
  have hL := hL.mk he
  refine z_dup dX0_init_8 rfl ?_
  obtain ⟨hK_2, hf⟩ := zck_some hf
  obtain ⟨h_5, hc_3, hf⟩ := zb1_some hf
  have hct := ctX1_init (l := F.1) hK_2 hc_3
  refine z_invIv siX0_35_1 hct ⟨Nat.le_trans (by decide) hD, by decide⟩ rfl rfl (Nat.le_of_ble_eq_true rfl) dX0_init_9 ?_
  have hL := hL.ext hct.1
  have hK_2 := hK_2.ext hct.1
  obtain ⟨hn_7, hf⟩ := zck_some hf
  obtain ⟨h_6, he, hf⟩ := zlet_some hf
  refine z_putFr ffX0_13_0 rfl (Or.inl ⟨_, rfl⟩) ((hL.b 0 rfl).t 0 rfl) ((hL.b 0 rfl).nz 0) hn_7 he dX0_init_12 ?_
  have hfx := zLx_F hn_7 he
  have hL := hL.ext hfx
  have hK_2 := hK_2.ext hfx
  refine z_aload_n 0 dX0_init_15 rfl rfl ?_
  refine z_bipush 10 dX0_init_16 rfl ?_
  obtain ⟨h_8, he, hf⟩ := zlet_some hf
  refine z_anewa (t := 3) 10 q212 (by decide) rfl (by decide) rfl (by decide) he dX0_init_18 ?_
  have hL := hL.mk he
  have hK_2 := hK_2.mk he
  obtain ⟨hn_10, hf⟩ := zck_some hf
  obtain ⟨h_9, he, hf⟩ := zlet_some hf
  refine z_putFr ffX0_38_0 rfl (Or.inr ⟨_, rfl⟩) ((hL.b 0 rfl).t 0 rfl) ((hL.b 0 rfl).nz 0) hn_10 he dX0_init_21 ?_
  have hfx := zLx_F hn_10 he
  have hL := hL.ext hfx
  have hK_2 := hK_2.ext hfx
  refine z_aload_n 0 dX0_init_24 rfl rfl ?_
  obtain ⟨h_11, he, hf⟩ := zlet_some hf
  refine z_new (q := (RX3, TX3, 27)) q214 q215 q103 rfl rfl he dX0_init_25 ?_
  have hL := hL.mk he
  have hK_2 := hK_2.mk he
  refine z_dup dX0_init_28 rfl ?_
  obtain ⟨hK_12, hf⟩ := zck_some hf
  obtain ⟨h_15, hc_13, hf⟩ := zb1_some hf
  have hct := ctX3_init (l := F.1) hK_12 hc_13
  refine z_invIv siX0_44_2 hct ⟨Nat.le_trans (by decide) hD, by decide⟩ rfl rfl (Nat.le_of_ble_eq_true rfl) dX0_init_29 ?_
  have hL := hL.ext hct.1
  have hK_2 := hK_2.ext hct.1
  have hK_12 := hK_12.ext hct.1
  obtain ⟨h_16, he, hf⟩ := zlet_some hf
  have hfn := zFd_fn fdX0_45_0 ((hL.b 0 rfl).t 0 rfl)
  refine z_putr fdX0_45_0 (Or.inl ⟨_, rfl⟩) ((hL.b 0 rfl).t 0 rfl) ((hL.b 0 rfl).nz 0) he dX0_init_32 ?_
  have hL := hL.P hfn he
  have hK_2 := hK_2.P hfn he
  have hK_12 := hK_12.P hfn he
  refine z_aload_n 0 dX0_init_35 rfl rfl ?_
  refine z_sipush 1000 dX0_init_36 rfl ?_
  obtain ⟨h_17, he, hf⟩ := zlet_some hf
  refine z_newa (atype := .int) 1000 q330 rfl rfl (by decide) (by decide) rfl (by decide) he dX0_init_39 ?_
  have hL := hL.mk he
  have hK_2 := hK_2.mk he
  have hK_12 := hK_12.mk he
  obtain ⟨hn_19, hf⟩ := zck_some hf
  obtain ⟨h_18, he, hf⟩ := zlet_some hf
  refine z_putFr ffX0_49_0 rfl (Or.inr ⟨_, rfl⟩) ((hL.b 0 rfl).t 0 rfl) ((hL.b 0 rfl).nz 0) hn_19 he dX0_init_41 ?_
  have hfx := zLx_F hn_19 he
  have hL := hL.ext hfx
  have hK_2 := hK_2.ext hfx
  have hK_12 := hK_12.ext hfx
  refine z_aload_n 0 dX0_init_44 rfl rfl ?_
  refine z_sipush 1000 dX0_init_45 rfl ?_
  obtain ⟨h_20, he, hf⟩ := zlet_some hf
  refine z_newa (atype := .int) 1000 q330 rfl rfl (by decide) (by decide) rfl (by decide) he dX0_init_48 ?_
  have hL := hL.mk he
  have hK_2 := hK_2.mk he
  have hK_12 := hK_12.mk he
  obtain ⟨hn_22, hf⟩ := zck_some hf
  obtain ⟨h_21, he, hf⟩ := zlet_some hf
  refine z_putFr ffX0_53_0 rfl (Or.inr ⟨_, rfl⟩) ((hL.b 0 rfl).t 0 rfl) ((hL.b 0 rfl).nz 0) hn_22 he dX0_init_50 ?_
  have hfx := zLx_F hn_22 he
  have hL := hL.ext hfx
  have hK_2 := hK_2.ext hfx
  have hK_12 := hK_12.ext hfx
  refine z_aload_n 0 dX0_init_53 rfl rfl ?_
  refine z_iconst 2 dX0_init_54 rfl ?_
  obtain ⟨h_23, he, hf⟩ := zlet_some hf
  refine z_newa (atype := .int) 2 q330 rfl rfl (by decide) (by decide) rfl (by decide) he dX0_init_55 ?_
  have hL := hL.mk he
  have hK_2 := hK_2.mk he
  have hK_12 := hK_12.mk he
  refine z_dup dX0_init_57 rfl ?_
  refine z_iconst 0 dX0_init_58 rfl ?_
  refine z_ldc q333 dX0_init_59 ?_
  obtain ⟨hi_24, hf⟩ := zck_some hf
  obtain ⟨h_25, he, hf⟩ := zlet_some hf
  refine z_iast (zAr_t hi_24.2) hi_24.1 hi_24.2.2 he dX0_init_61 ?_
  have hL := hL.I he
  have hK_2 := hK_2.I he
  have hK_12 := hK_12.I he
  refine z_dup dX0_init_62 rfl ?_
  refine z_iconst 1 dX0_init_63 rfl ?_
  refine z_bipush 63 dX0_init_64 rfl ?_
  obtain ⟨hi_26, hf⟩ := zck_some hf
  obtain ⟨h_27, he, hf⟩ := zlet_some hf
  refine z_iast (zAr_t hi_26.2) hi_26.1 hi_26.2.2 he dX0_init_66 ?_
  have hL := hL.I he
  have hK_2 := hK_2.I he
  have hK_12 := hK_12.I he
  obtain ⟨hn_29, hf⟩ := zck_some hf
  obtain ⟨h_28, he, hf⟩ := zlet_some hf
  refine z_putFr ffX0_57_0 rfl (Or.inr ⟨_, rfl⟩) ((hL.b 0 rfl).t 0 rfl) ((hL.b 0 rfl).nz 0) hn_29 he dX0_init_67 ?_
  have hfx := zLx_F hn_29 he
  have hL := hL.ext hfx
  have hK_2 := hK_2.ext hfx
  have hK_12 := hK_12.ext hfx
  refine z_aload_n 0 dX0_init_70 rfl rfl ?_
  refine z_bipush 41 dX0_init_71 rfl ?_
  obtain ⟨h_30, he, hf⟩ := zlet_some hf
  refine z_newa (atype := .int) 41 q330 rfl rfl (by decide) (by decide) rfl (by decide) he dX0_init_73 ?_
  have hL := hL.mk he
  have hK_2 := hK_2.mk he
  have hK_12 := hK_12.mk he
  obtain ⟨hn_32, hf⟩ := zck_some hf
  obtain ⟨h_31, he, hf⟩ := zlet_some hf
  refine z_putFr ffX0_60_0 rfl (Or.inr ⟨_, rfl⟩) ((hL.b 0 rfl).t 0 rfl) ((hL.b 0 rfl).nz 0) hn_32 he dX0_init_75 ?_
  have hfx := zLx_F hn_32 he
  have hL := hL.ext hfx
  have hK_2 := hK_2.ext hfx
  have hK_12 := hK_12.ext hfx
  refine z_aload_n 0 dX0_init_78 rfl rfl ?_
  refine z_bipush 41 dX0_init_79 rfl ?_
  obtain ⟨h_33, he, hf⟩ := zlet_some hf
  refine z_newa (atype := .int) 41 q330 rfl rfl (by decide) (by decide) rfl (by decide) he dX0_init_81 ?_
  have hL := hL.mk he
  have hK_2 := hK_2.mk he
  have hK_12 := hK_12.mk he
  obtain ⟨hn_35, hf⟩ := zck_some hf
  obtain ⟨h_34, he, hf⟩ := zlet_some hf
  refine z_putFr ffX0_63_0 rfl (Or.inr ⟨_, rfl⟩) ((hL.b 0 rfl).t 0 rfl) ((hL.b 0 rfl).nz 0) hn_35 he dX0_init_83 ?_
  have hfx := zLx_F hn_35 he
  have hL := hL.ext hfx
  have hK_2 := hK_2.ext hfx
  have hK_12 := hK_12.ext hfx
  refine z_aload_n 0 dX0_init_86 rfl rfl ?_
  refine z_sipush 164 dX0_init_87 rfl ?_
  obtain ⟨h_36, he, hf⟩ := zlet_some hf
  refine z_newa (atype := .int) 164 q330 rfl rfl (by decide) (by decide) rfl (by decide) he dX0_init_90 ?_
  have hL := hL.mk he
  have hK_2 := hK_2.mk he
  have hK_12 := hK_12.mk he
  obtain ⟨hn_38, hf⟩ := zck_some hf
  obtain ⟨h_37, he, hf⟩ := zlet_some hf
  refine z_putFr ffX0_66_0 rfl (Or.inr ⟨_, rfl⟩) ((hL.b 0 rfl).t 0 rfl) ((hL.b 0 rfl).nz 0) hn_38 he dX0_init_92 ?_
  have hfx := zLx_F hn_38 he
  have hL := hL.ext hfx
  have hK_2 := hK_2.ext hfx
  have hK_12 := hK_12.ext hfx
  refine z_aload_n 0 dX0_init_95 rfl rfl ?_
  refine z_bipush 41 dX0_init_96 rfl ?_
  obtain ⟨h_39, he, hf⟩ := zlet_some hf
  refine z_newa (atype := .int) 41 q330 rfl rfl (by decide) (by decide) rfl (by decide) he dX0_init_98 ?_
  have hL := hL.mk he
  have hK_2 := hK_2.mk he
  have hK_12 := hK_12.mk he
  obtain ⟨hn_41, hf⟩ := zck_some hf
  obtain ⟨h_40, he, hf⟩ := zlet_some hf
  refine z_putFr ffX0_69_0 rfl (Or.inr ⟨_, rfl⟩) ((hL.b 0 rfl).t 0 rfl) ((hL.b 0 rfl).nz 0) hn_41 he dX0_init_100 ?_
  have hfx := zLx_F hn_41 he
  have hL := hL.ext hfx
  have hK_2 := hK_2.ext hfx
  have hK_12 := hK_12.ext hfx
  refine z_aload_n 0 dX0_init_103 rfl rfl ?_
  refine z_iconst 4 dX0_init_104 rfl ?_
  obtain ⟨h_42, he, hf⟩ := zlet_some hf
  refine z_anewa (t := 3) 4 q212 (by decide) rfl (by decide) rfl (by decide) he dX0_init_105 ?_
  have hL := hL.mk he
  have hK_2 := hK_2.mk he
  have hK_12 := hK_12.mk he
  obtain ⟨hn_44, hf⟩ := zck_some hf
  obtain ⟨h_43, he, hf⟩ := zlet_some hf
  refine z_putFr ffX0_72_0 rfl (Or.inr ⟨_, rfl⟩) ((hL.b 0 rfl).t 0 rfl) ((hL.b 0 rfl).nz 0) hn_44 he dX0_init_108 ?_
  have hfx := zLx_F hn_44 he
  have hL := hL.ext hfx
  have hK_2 := hK_2.ext hfx
  have hK_12 := hK_12.ext hfx
  refine z_aload_n 0 dX0_init_111 rfl rfl ?_
  refine z_iconst 4 dX0_init_112 rfl ?_
  obtain ⟨h_45, he, hf⟩ := zlet_some hf
  refine z_anewa (t := 4) 4 q334 (by decide) rfl (by decide) rfl (by decide) he dX0_init_113 ?_
  have hL := hL.mk he
  have hK_2 := hK_2.mk he
  have hK_12 := hK_12.mk he
  obtain ⟨hn_47, hf⟩ := zck_some hf
  obtain ⟨h_46, he, hf⟩ := zlet_some hf
  refine z_putFr ffX0_77_0 rfl (Or.inr ⟨_, rfl⟩) ((hL.b 0 rfl).t 0 rfl) ((hL.b 0 rfl).nz 0) hn_47 he dX0_init_116 ?_
  have hfx := zLx_F hn_47 he
  have hL := hL.ext hfx
  have hK_2 := hK_2.ext hfx
  have hK_12 := hK_12.ext hfx
  refine z_aload_n 0 dX0_init_119 rfl rfl ?_
  refine z_iconst 4 dX0_init_120 rfl ?_
  obtain ⟨h_48, he, hf⟩ := zlet_some hf
  refine z_anewa (t := 5) 4 q336 (by decide) rfl (by decide) rfl (by decide) he dX0_init_121 ?_
  have hL := hL.mk he
  have hK_2 := hK_2.mk he
  have hK_12 := hK_12.mk he
  obtain ⟨hn_50, hf⟩ := zck_some hf
  obtain ⟨h_49, he, hf⟩ := zlet_some hf
  refine z_putFr ffX0_83_0 rfl (Or.inr ⟨_, rfl⟩) ((hL.b 0 rfl).t 0 rfl) ((hL.b 0 rfl).nz 0) hn_50 he dX0_init_124 ?_
  have hfx := zLx_F hn_50 he
  have hL := hL.ext hfx
  have hK_2 := hK_2.ext hfx
  have hK_12 := hK_12.ext hfx
  refine z_aload_n 0 dX0_init_127 rfl rfl ?_
  obtain ⟨h_51, he, hf⟩ := zlet_some hf
  refine z_new (q := (RX5, TX5, 15)) q334 q338 q105 rfl rfl he dX0_init_128 ?_
  have hL := hL.mk he
  have hK_2 := hK_2.mk he
  have hK_12 := hK_12.mk he
  refine z_dup dX0_init_131 rfl ?_
  refine z_aload_n 0 dX0_init_132 rfl rfl ?_
  obtain ⟨hK_52, hf⟩ := zck_some hf
  obtain ⟨h_55, hc_53, hf⟩ := zb1_some hf
  have hct := ctX5_init (l := F.1) hK_52 hc_53
  refine z_invIv siX0_87_3 hct ⟨Nat.le_trans (by decide) hD, by decide⟩ rfl rfl (Nat.le_of_ble_eq_true rfl) dX0_init_133 ?_
  have hL := hL.ext hct.1
  have hK_2 := hK_2.ext hct.1
  have hK_12 := hK_12.ext hct.1
  have hK_52 := hK_52.ext hct.1
  obtain ⟨hn_57, hf⟩ := zck_some hf
  obtain ⟨h_56, he, hf⟩ := zlet_some hf
  refine z_putFr ffX0_90_0 rfl (Or.inl ⟨_, rfl⟩) ((hL.b 0 rfl).t 0 rfl) ((hL.b 0 rfl).nz 0) hn_57 he dX0_init_136 ?_
  have hfx := zLx_F hn_57 he
  have hL := hL.ext hfx
  have hK_2 := hK_2.ext hfx
  have hK_12 := hK_12.ext hfx
  have hK_52 := hK_52.ext hfx
  refine z_aload_n 0 dX0_init_139 rfl rfl ?_
  obtain ⟨h_58, he, hf⟩ := zlet_some hf
  refine z_new (q := (RX6, TX6, 16)) q336 q421 q106 rfl rfl he dX0_init_140 ?_
  have hL := hL.mk he
  have hK_2 := hK_2.mk he
  have hK_12 := hK_12.mk he
  have hK_52 := hK_52.mk he
  refine z_dup dX0_init_143 rfl ?_
  refine z_aload_n 0 dX0_init_144 rfl rfl ?_
  obtain ⟨hK_59, hf⟩ := zck_some hf
  obtain ⟨h_62, hc_60, hf⟩ := zb1_some hf
  have hct := ctX6_init (l := F.1) hK_59 hc_60
  refine z_invIv siX0_94_4 hct ⟨Nat.le_trans (by decide) hD, by decide⟩ rfl rfl (Nat.le_of_ble_eq_true rfl) dX0_init_145 ?_
  have hL := hL.ext hct.1
  have hK_2 := hK_2.ext hct.1
  have hK_12 := hK_12.ext hct.1
  have hK_52 := hK_52.ext hct.1
  have hK_59 := hK_59.ext hct.1
  obtain ⟨hn_64, hf⟩ := zck_some hf
  obtain ⟨h_63, he, hf⟩ := zlet_some hf
  refine z_putFr ffX0_95_0 rfl (Or.inl ⟨_, rfl⟩) ((hL.b 0 rfl).t 0 rfl) ((hL.b 0 rfl).nz 0) hn_64 he dX0_init_148 ?_
  have hfx := zLx_F hn_64 he
  have hL := hL.ext hfx
  have hK_2 := hK_2.ext hfx
  have hK_12 := hK_12.ext hfx
  have hK_52 := hK_52.ext hfx
  have hK_59 := hK_59.ext hfx
  refine z_aload_n 0 dX0_init_151 rfl rfl ?_
  obtain ⟨h_65, he, hf⟩ := zlet_some hf
  refine z_new (q := (RX7, TX7, 4)) q451 q452 q107 rfl rfl he dX0_init_152 ?_
  have hL := hL.mk he
  have hK_2 := hK_2.mk he
  have hK_12 := hK_12.mk he
  have hK_52 := hK_52.mk he
  have hK_59 := hK_59.mk he
  refine z_dup dX0_init_155 rfl ?_
  refine z_aload_n 0 dX0_init_156 rfl rfl ?_
  obtain ⟨hK_66, hf⟩ := zck_some hf
  obtain ⟨h_69, hc_67, hf⟩ := zb1_some hf
  have hct := ctX7_init (l := F.1) hK_66 hc_67
  refine z_invIv siX0_101_5 hct ⟨Nat.le_trans (by decide) hD, by decide⟩ rfl rfl (Nat.le_of_ble_eq_true rfl) dX0_init_157 ?_
  have hL := hL.ext hct.1
  have hK_2 := hK_2.ext hct.1
  have hK_12 := hK_12.ext hct.1
  have hK_52 := hK_52.ext hct.1
  have hK_59 := hK_59.ext hct.1
  have hK_66 := hK_66.ext hct.1
  obtain ⟨h_70, he, hf⟩ := zlet_some hf
  have hfn := zFd_fn fdX0_102_0 ((hL.b 0 rfl).t 0 rfl)
  refine z_putr fdX0_102_0 (Or.inl ⟨_, rfl⟩) ((hL.b 0 rfl).t 0 rfl) ((hL.b 0 rfl).nz 0) he dX0_init_160 ?_
  have hL := hL.P hfn he
  have hK_2 := hK_2.P hfn he
  have hK_12 := hK_12.P hfn he
  have hK_52 := hK_52.P hfn he
  have hK_59 := hK_59.P hfn he
  have hK_66 := hK_66.P hfn he
  refine z_aload_n 0 dX0_init_163 rfl rfl ?_
  obtain ⟨h_71, he, hf⟩ := zlet_some hf
  refine z_new (q := (RX7, TX7, 4)) q451 q452 q107 rfl rfl he dX0_init_164 ?_
  have hL := hL.mk he
  have hK_2 := hK_2.mk he
  have hK_12 := hK_12.mk he
  have hK_52 := hK_52.mk he
  have hK_59 := hK_59.mk he
  have hK_66 := hK_66.mk he
  refine z_dup dX0_init_167 rfl ?_
  refine z_aload_n 0 dX0_init_168 rfl rfl ?_
  obtain ⟨hK_72, hf⟩ := zck_some hf
  obtain ⟨h_75, hc_73, hf⟩ := zb1_some hf
  have hct := ctX7_init (l := F.1) hK_72 hc_73
  refine z_invIv siX0_101_5 hct ⟨Nat.le_trans (by decide) hD, by decide⟩ rfl rfl (Nat.le_of_ble_eq_true rfl) dX0_init_169 ?_
  have hL := hL.ext hct.1
  have hK_2 := hK_2.ext hct.1
  have hK_12 := hK_12.ext hct.1
  have hK_52 := hK_52.ext hct.1
  have hK_59 := hK_59.ext hct.1
  have hK_66 := hK_66.ext hct.1
  have hK_72 := hK_72.ext hct.1
  obtain ⟨h_76, he, hf⟩ := zlet_some hf
  have hfn := zFd_fn fdX0_106_0 ((hL.b 0 rfl).t 0 rfl)
  refine z_putr fdX0_106_0 (Or.inl ⟨_, rfl⟩) ((hL.b 0 rfl).t 0 rfl) ((hL.b 0 rfl).nz 0) he dX0_init_172 ?_
  have hL := hL.P hfn he
  have hK_2 := hK_2.P hfn he
  have hK_12 := hK_12.P hfn he
  have hK_52 := hK_52.P hfn he
  have hK_59 := hK_59.P hfn he
  have hK_66 := hK_66.P hfn he
  have hK_72 := hK_72.P hfn he
  refine z_aload_n 0 dX0_init_175 rfl rfl ?_
  obtain ⟨h_77, he, hf⟩ := zlet_some hf
  refine z_new (q := (RX7, TX7, 4)) q451 q452 q107 rfl rfl he dX0_init_176 ?_
  have hL := hL.mk he
  have hK_2 := hK_2.mk he
  have hK_12 := hK_12.mk he
  have hK_52 := hK_52.mk he
  have hK_59 := hK_59.mk he
  have hK_66 := hK_66.mk he
  have hK_72 := hK_72.mk he
  refine z_dup dX0_init_179 rfl ?_
  refine z_aload_n 0 dX0_init_180 rfl rfl ?_
  obtain ⟨hK_78, hf⟩ := zck_some hf
  obtain ⟨h_81, hc_79, hf⟩ := zb1_some hf
  have hct := ctX7_init (l := F.1) hK_78 hc_79
  refine z_invIv siX0_101_5 hct ⟨Nat.le_trans (by decide) hD, by decide⟩ rfl rfl (Nat.le_of_ble_eq_true rfl) dX0_init_181 ?_
  have hL := hL.ext hct.1
  have hK_2 := hK_2.ext hct.1
  have hK_12 := hK_12.ext hct.1
  have hK_52 := hK_52.ext hct.1
  have hK_59 := hK_59.ext hct.1
  have hK_66 := hK_66.ext hct.1
  have hK_72 := hK_72.ext hct.1
  have hK_78 := hK_78.ext hct.1
  obtain ⟨hn_83, hf⟩ := zck_some hf
  obtain ⟨h_82, he, hf⟩ := zlet_some hf
  refine z_putFr ffX0_109_0 rfl (Or.inl ⟨_, rfl⟩) ((hL.b 0 rfl).t 0 rfl) ((hL.b 0 rfl).nz 0) hn_83 he dX0_init_184 ?_
  have hfx := zLx_F hn_83 he
  have hL := hL.ext hfx
  have hK_2 := hK_2.ext hfx
  have hK_12 := hK_12.ext hfx
  have hK_52 := hK_52.ext hfx
  have hK_59 := hK_59.ext hfx
  have hK_66 := hK_66.ext hfx
  have hK_72 := hK_72.ext hfx
  have hK_78 := hK_78.ext hfx
  refine z_aload_n 0 dX0_init_187 rfl rfl ?_
  refine z_bipush 6 dX0_init_188 rfl ?_
  obtain ⟨h_84, he, hf⟩ := zlet_some hf
  refine z_newa (atype := .int) 6 q330 rfl rfl (by decide) (by decide) rfl (by decide) he dX0_init_190 ?_
  have hL := hL.mk he
  have hK_2 := hK_2.mk he
  have hK_12 := hK_12.mk he
  have hK_52 := hK_52.mk he
  have hK_59 := hK_59.mk he
  have hK_66 := hK_66.mk he
  have hK_72 := hK_72.mk he
  have hK_78 := hK_78.mk he
  obtain ⟨hn_86, hf⟩ := zck_some hf
  obtain ⟨h_85, he, hf⟩ := zlet_some hf
  refine z_putFr ffX0_112_0 rfl (Or.inr ⟨_, rfl⟩) ((hL.b 0 rfl).t 0 rfl) ((hL.b 0 rfl).nz 0) hn_86 he dX0_init_192 ?_
  have hfx := zLx_F hn_86 he
  have hL := hL.ext hfx
  have hK_2 := hK_2.ext hfx
  have hK_12 := hK_12.ext hfx
  have hK_52 := hK_52.ext hfx
  have hK_59 := hK_59.ext hfx
  have hK_66 := hK_66.ext hfx
  have hK_72 := hK_72.ext hfx
  have hK_78 := hK_78.ext hfx
  refine z_aload_n 0 dX0_init_195 rfl rfl ?_
  obtain ⟨h_87, he, hf⟩ := zlet_some hf
  refine z_new (q := (RX7, TX7, 4)) q451 q452 q107 rfl rfl he dX0_init_196 ?_
  have hL := hL.mk he
  have hK_2 := hK_2.mk he
  have hK_12 := hK_12.mk he
  have hK_52 := hK_52.mk he
  have hK_59 := hK_59.mk he
  have hK_66 := hK_66.mk he
  have hK_72 := hK_72.mk he
  have hK_78 := hK_78.mk he
  refine z_dup dX0_init_199 rfl ?_
  refine z_aload_n 0 dX0_init_200 rfl rfl ?_
  obtain ⟨hK_88, hf⟩ := zck_some hf
  obtain ⟨h_91, hc_89, hf⟩ := zb1_some hf
  have hct := ctX7_init (l := F.1) hK_88 hc_89
  refine z_invIv siX0_101_5 hct ⟨Nat.le_trans (by decide) hD, by decide⟩ rfl rfl (Nat.le_of_ble_eq_true rfl) dX0_init_201 ?_
  have hL := hL.ext hct.1
  have hK_2 := hK_2.ext hct.1
  have hK_12 := hK_12.ext hct.1
  have hK_52 := hK_52.ext hct.1
  have hK_59 := hK_59.ext hct.1
  have hK_66 := hK_66.ext hct.1
  have hK_72 := hK_72.ext hct.1
  have hK_78 := hK_78.ext hct.1
  have hK_88 := hK_88.ext hct.1
  obtain ⟨hn_93, hf⟩ := zck_some hf
  obtain ⟨h_92, he, hf⟩ := zlet_some hf
  refine z_putFr ffX0_115_0 rfl (Or.inl ⟨_, rfl⟩) ((hL.b 0 rfl).t 0 rfl) ((hL.b 0 rfl).nz 0) hn_93 he dX0_init_204 ?_
  have hfx := zLx_F hn_93 he
  have hL := hL.ext hfx
  have hK_2 := hK_2.ext hfx
  have hK_12 := hK_12.ext hfx
  have hK_52 := hK_52.ext hfx
  have hK_59 := hK_59.ext hfx
  have hK_66 := hK_66.ext hfx
  have hK_72 := hK_72.ext hfx
  have hK_78 := hK_78.ext hfx
  have hK_88 := hK_88.ext hfx
  refine z_aload_n 0 dX0_init_207 rfl rfl ?_
  obtain ⟨h_94, he, hf⟩ := zlet_some hf
  refine z_new (q := (RX7, TX7, 4)) q451 q452 q107 rfl rfl he dX0_init_208 ?_
  have hL := hL.mk he
  have hK_2 := hK_2.mk he
  have hK_12 := hK_12.mk he
  have hK_52 := hK_52.mk he
  have hK_59 := hK_59.mk he
  have hK_66 := hK_66.mk he
  have hK_72 := hK_72.mk he
  have hK_78 := hK_78.mk he
  have hK_88 := hK_88.mk he
  refine z_dup dX0_init_211 rfl ?_
  refine z_aload_n 0 dX0_init_212 rfl rfl ?_
  obtain ⟨hK_95, hf⟩ := zck_some hf
  obtain ⟨h_98, hc_96, hf⟩ := zb1_some hf
  have hct := ctX7_init (l := F.1) hK_95 hc_96
  refine z_invIv siX0_101_5 hct ⟨Nat.le_trans (by decide) hD, by decide⟩ rfl rfl (Nat.le_of_ble_eq_true rfl) dX0_init_213 ?_
  have hL := hL.ext hct.1
  have hK_2 := hK_2.ext hct.1
  have hK_12 := hK_12.ext hct.1
  have hK_52 := hK_52.ext hct.1
  have hK_59 := hK_59.ext hct.1
  have hK_66 := hK_66.ext hct.1
  have hK_72 := hK_72.ext hct.1
  have hK_78 := hK_78.ext hct.1
  have hK_88 := hK_88.ext hct.1
  have hK_95 := hK_95.ext hct.1
  obtain ⟨hn_100, hf⟩ := zck_some hf
  obtain ⟨h_99, he, hf⟩ := zlet_some hf
  refine z_putFr ffX0_118_0 rfl (Or.inl ⟨_, rfl⟩) ((hL.b 0 rfl).t 0 rfl) ((hL.b 0 rfl).nz 0) hn_100 he dX0_init_216 ?_
  have hfx := zLx_F hn_100 he
  have hL := hL.ext hfx
  have hK_2 := hK_2.ext hfx
  have hK_12 := hK_12.ext hfx
  have hK_52 := hK_52.ext hfx
  have hK_59 := hK_59.ext hfx
  have hK_66 := hK_66.ext hfx
  have hK_72 := hK_72.ext hfx
  have hK_78 := hK_78.ext hfx
  have hK_88 := hK_88.ext hfx
  have hK_95 := hK_95.ext hfx
  refine z_aload_n 0 dX0_init_219 rfl rfl ?_
  refine z_iconst 2 dX0_init_220 rfl ?_
  obtain ⟨h_101, he, hf⟩ := zlet_some hf
  refine z_newa (atype := .int) 2 q330 rfl rfl (by decide) (by decide) rfl (by decide) he dX0_init_221 ?_
  have hL := hL.mk he
  have hK_2 := hK_2.mk he
  have hK_12 := hK_12.mk he
  have hK_52 := hK_52.mk he
  have hK_59 := hK_59.mk he
  have hK_66 := hK_66.mk he
  have hK_72 := hK_72.mk he
  have hK_78 := hK_78.mk he
  have hK_88 := hK_88.mk he
  have hK_95 := hK_95.mk he
  obtain ⟨hn_103, hf⟩ := zck_some hf
  obtain ⟨h_102, he, hf⟩ := zlet_some hf
  refine z_putFr ffX0_121_0 rfl (Or.inr ⟨_, rfl⟩) ((hL.b 0 rfl).t 0 rfl) ((hL.b 0 rfl).nz 0) hn_103 he dX0_init_223 ?_
  have hfx := zLx_F hn_103 he
  have hL := hL.ext hfx
  have hK_2 := hK_2.ext hfx
  have hK_12 := hK_12.ext hfx
  have hK_52 := hK_52.ext hfx
  have hK_59 := hK_59.ext hfx
  have hK_66 := hK_66.ext hfx
  have hK_72 := hK_72.ext hfx
  have hK_78 := hK_78.ext hfx
  have hK_88 := hK_88.ext hfx
  have hK_95 := hK_95.ext hfx
  refine z_iconst 0 dX0_init_226 rfl ?_
  refine z_istore_n dX0_init_227 rfl (by decide) (lc' := [(0, .ref a), (1, .int 0)]) rfl ?_
  obtain ⟨t_114, hl, hf⟩ := zb1_some hf
  refine z_loop (fun (s : zH × Int32) => (zOb 0 s.1 a → Z F 2 cX0_init RX0 "<init>" none [] s.1 228 [(0, .ref a), (1, .int s.2)] [])) (fun (r : zH) => (zOb 0 r a → Z F 2 cX0_init RX0 "<init>" none [] r 253 [(0, .ref a)] [])) (fun s y hb hs hr hL => zX0_init_L228 hD hL hb ⟨hs, hr⟩) hl ?_ hL
  intro hL
  show Z F 2 cX0_init RX0 "<init>" none [] t_114 253 [(0, .ref a)] []
  refine z_iconst 0 dX0_init_253 rfl ?_
  refine z_istore_n dX0_init_254 rfl (by decide) (lc' := [(0, .ref a), (1, .int 0)]) rfl ?_
  exact z_loop (fun (s : zH × Int32) => (zOb 0 s.1 a → Z F 2 cX0_init RX0 "<init>" none [] s.1 255 [(0, .ref a), (1, .int s.2)] [])) (fun (r : zH) => ((.inl none, r) : zX) = zEnd F) (fun s y hb hs hr hL => zX0_init_L255 hD hL hb ⟨hs, hr⟩) hf hM hL
theorem ctX0_init {l : Launch} {h : zH} {a : Nat} {h' : zH} (hL : zOb 0 h a) (hf : fX0_init h a = some h') : zC l yX0_init (ws_ yX0_init cX0_init 2 none) 6 [.ref a] h (.inl none, h') :=
  z_start (by decide) (Nat.le_of_ble_eq_true rfl) (zX0_init (F := (l, 6, h, (.inl none, h'))) (Nat.le_refl _) hL hf rfl)
noncomputable def fX0_in (x0 : Int32) (x1 : Int32) (x2 : Int32) : Option (Int32) := if x0 < x1 then (some 0) else (if x2 < x0 then (some 0) else (some 1))
theorem zX0_in {F : zF} {h : zH} {x0 : Int32} {x1 : Int32} {x2 : Int32} {y : Int32} (hD : 1 ≤ F.2.1) (hf : fX0_in x0 x1 x2 = some y) (hM : ((.inl (some (.int y)), h) : zX) = zEnd F) : Z F 3 cX0_in RX0 "in" (some .boolean) [] h 0 [(0, .int x0), (1, .int x1), (2, .int x2)] [] := by
  unfold fX0_in at hf
  refine z_iload_n 0 dX0_in_0 rfl rfl ?_
  refine z_iload_n 1 dX0_in_1 rfl rfl ?_
  refine z_icmp_lt 14 dX0_in_2 rfl hf (fun _ hf => ?_) (fun _ hf => ?_)
  · refine z_iconst 0 dX0_in_14 rfl ?_
    cases hf
    exact z_zret dX0_in_15 rfl (Or.inl rfl) hM
  · refine z_iload_n 0 dX0_in_5 rfl rfl ?_
    refine z_iload_n 2 dX0_in_6 rfl rfl ?_
    refine z_icmp_gt 14 dX0_in_7 rfl hf (fun _ hf => ?_) (fun _ hf => ?_)
    · refine z_iconst 0 dX0_in_14 rfl ?_
      cases hf
      exact z_zret dX0_in_15 rfl (Or.inl rfl) hM
    · refine z_iconst 1 dX0_in_10 rfl ?_
      refine z_goto 15 dX0_in_11 rfl ?_
      cases hf
      exact z_zret dX0_in_15 rfl (Or.inr rfl) hM
theorem ctX0_in {l : Launch} {h : zH} {x0 : Int32} {x1 : Int32} {x2 : Int32} {v : Int32} (hf : fX0_in x0 x1 x2 = some v) : zC l yX0_in (ws_ yX0_in cX0_in 3 (some .boolean)) 1 [.int x0, .int x1, .int x2] h (.inl (some (.int v)), h) :=
  z_start (by decide) (Nat.le_of_ble_eq_true rfl) (zX0_in (F := (l, 1, h, (.inl (some (.int v)), h))) (Nat.le_refl _) hf rfl)
theorem fdX0_125_0 : zFd RX0 125 0 23 .int false := ⟨_, _, _, rfl, rfl, by decide, rfl, rfl, Or.inl q509, Or.inl rfl⟩
noncomputable def fX0_answer (h : zH) (a : Nat) (x1 : Int32) : Option (Int32 × zH) := if 0 ≤ x1 then (zlet (zsI h a 23 ((zI h a 23) + 0)) (fun h_1 => some ((x1, h_1)))) else (zlet (zsI h a 23 ((zI h a 23) + 1)) (fun h_2 => some ((x1, h_2))))
theorem zX0_answer {F : zF} {h : zH} {a : Nat} {x1 : Int32} {y : Int32 × zH} (hD : 1 ≤ F.2.1) (hL : zXx h a) (hf : fX0_answer h a x1 = some y) (hM : ((.inl (some (.int y.1)), y.2) : zX) = zEnd F) : Z F 2 cX0_answer RX0 "answer" (some .int) [] h 0 [(0, .ref a), (1, .int x1)] [] := by
  unfold fX0_answer at hf
  refine z_aload_n 0 dX0_answer_0 rfl rfl ?_
  refine z_dup dX0_answer_1 rfl ?_
  refine z_geti fdX0_125_0 ((hL.b 0 rfl).t 0 rfl) dX0_answer_2 ?_
  refine z_iload_n 1 dX0_answer_5 rfl rfl ?_
  refine z_if_ge 13 dX0_answer_6 rfl hf (fun _ hf => ?_) (fun _ hf => ?_)
  · refine z_iconst 0 dX0_answer_13 rfl ?_
    refine z_iadd dX0_answer_14 ?_
    obtain ⟨h_1, he, hf⟩ := zlet_some hf
    refine z_puti fdX0_125_0 ((hL.b 0 rfl).t 0 rfl) ((hL.b 0 rfl).nz 0) he dX0_answer_15 ?_
    have hL := hL.I he
    refine z_iload_n 1 dX0_answer_18 rfl rfl ?_
    cases hf
    exact z_iret dX0_answer_19 rfl hM
  · refine z_iconst 1 dX0_answer_9 rfl ?_
    refine z_goto 14 dX0_answer_10 rfl ?_
    refine z_iadd dX0_answer_14 ?_
    obtain ⟨h_2, he, hf⟩ := zlet_some hf
    refine z_puti fdX0_125_0 ((hL.b 0 rfl).t 0 rfl) ((hL.b 0 rfl).nz 0) he dX0_answer_15 ?_
    have hL := hL.I he
    refine z_iload_n 1 dX0_answer_18 rfl rfl ?_
    cases hf
    exact z_iret dX0_answer_19 rfl hM
theorem ctX0_answer {l : Launch} {h : zH} {a : Nat} {x1 : Int32} {v : Int32} {h' : zH} (hL : zXx h a) (hf : fX0_answer h a x1 = some (v, h')) : zC l yX0_answer (ws_ yX0_answer cX0_answer 2 (some .int)) 1 [.ref a, .int x1] h (.inl (some (.int v)), h') :=
  z_start (by decide) (Nat.le_of_ble_eq_true rfl) (zX0_answer (F := (l, 1, h, (.inl (some (.int v)), h'))) (Nat.le_refl _) hL hf rfl)
noncomputable def fX2_init_8 (h : zH) (a : Nat) : Option (zH) := some h
theorem zX2_init_8 {F : zF} {h : zH} {a : Nat} {y : zH} (hD : 2 ≤ F.2.1) (hL : zOb 8 h a) (hf : fX2_init_8 h a = some y) (hM : ((.inl none, y) : zX) = zEnd F) : Z F 1 cX2_init RX2 "<init>" none [] h 0 [(0, .ref a)] [] := by
  unfold fX2_init_8 at hf
  refine z_aload_n 0 dX2_init_0 rfl rfl ?_
  refine z_obj q222 q127 q128 (Nat.le_trans (by decide) hD) (Nat.le_of_ble_eq_true rfl) dX2_init_1 ?_
  cases hf
  exact z_vret dX2_init_4 rfl hM
theorem ctX2_init_8 {l : Launch} {h : zH} {a : Nat} {h' : zH} (hL : zOb 8 h a) (hf : fX2_init_8 h a = some h') : zC l yX2_init (ws_ yX2_init cX2_init 1 none) 2 [.ref a] h (.inl none, h') :=
  z_start (by decide) (Nat.le_of_ble_eq_true rfl) (zX2_init_8 (F := (l, 2, h, (.inl none, h'))) (Nat.le_refl _) hL hf rfl)
theorem siX10_1_8 : zIi RX10 1 yX2_init cX2_init 1 0 := ⟨(zGood_c q221 q102), rfl, (Or.inr ⟨_, q605⟩), q220, q221, ⟨by decide, by decide⟩, by decide +kernel⟩
noncomputable def fX10_init_8 (h : zH) (a : Nat) : Option (zH) := zb1 (fX2_init_8 h a) (fun h_3 => some h_3)
theorem zX10_init_8 {F : zF} {h : zH} {a : Nat} {y : zH} (hD : 3 ≤ F.2.1) (hL : zOb 8 h a) (hf : fX10_init_8 h a = some y) (hM : ((.inl none, y) : zX) = zEnd F) : Z F 1 cX10_init RX10 "<init>" none [] h 0 [(0, .ref a)] [] := by
  unfold fX10_init_8 at hf
  refine z_aload_n 0 dX10_init_0 rfl rfl ?_
  obtain ⟨h_3, hc_1, hf⟩ := zb1_some hf
  have hct := ctX2_init_8 (l := F.1) hL hc_1
  refine z_invIv siX10_1_8 hct ⟨Nat.le_trans (by decide) hD, by decide⟩ rfl rfl (Nat.le_of_ble_eq_true rfl) dX10_init_1 ?_
  have hL := hL.ext hct.1
  cases hf
  exact z_vret dX10_init_4 rfl hM
theorem ctX10_init_8 {l : Launch} {h : zH} {a : Nat} {h' : zH} (hL : zOb 8 h a) (hf : fX10_init_8 h a = some h') : zC l yX10_init (ws_ yX10_init cX10_init 1 none) 3 [.ref a] h (.inl none, h') :=
  z_start (by decide) (Nat.le_of_ble_eq_true rfl) (zX10_init_8 (F := (l, 3, h, (.inl none, h'))) (Nat.le_refl _) hL hf rfl)
theorem siX11_1_8 : zIi RX11 1 yX10_init cX10_init 1 0 := ⟨(zGood_c q604 q110), rfl, (Or.inr ⟨_, q602⟩), q603, q604, ⟨by decide, by decide⟩, by decide +kernel⟩
noncomputable def fX11_init (h : zH) (a : Nat) : Option (zH) := zb1 (fX10_init_8 h a) (fun h_3 => some h_3)
theorem zX11_init {F : zF} {h : zH} {a : Nat} {y : zH} (hD : 4 ≤ F.2.1) (hL : zOb 8 h a) (hf : fX11_init h a = some y) (hM : ((.inl none, y) : zX) = zEnd F) : Z F 1 cX11_init RX11 "<init>" none [] h 0 [(0, .ref a)] [] := by
  unfold fX11_init at hf
  refine z_aload_n 0 dX11_init_0 rfl rfl ?_
  obtain ⟨h_3, hc_1, hf⟩ := zb1_some hf
  have hct := ctX10_init_8 (l := F.1) hL hc_1
  refine z_invIv siX11_1_8 hct ⟨Nat.le_trans (by decide) hD, by decide⟩ rfl rfl (Nat.le_of_ble_eq_true rfl) dX11_init_1 ?_
  have hL := hL.ext hct.1
  cases hf
  exact z_vret dX11_init_4 rfl hM
theorem ctX11_init {l : Launch} {h : zH} {a : Nat} {h' : zH} (hL : zOb 8 h a) (hf : fX11_init h a = some h') : zC l yX11_init (ws_ yX11_init cX11_init 1 none) 4 [.ref a] h (.inl none, h') :=
  z_start (by decide) (Nat.le_of_ble_eq_true rfl) (zX11_init (F := (l, 4, h, (.inl none, h'))) (Nat.le_refl _) hL hf rfl)
noncomputable def fX2_init_9 (h : zH) (a : Nat) : Option (zH) := some h
theorem zX2_init_9 {F : zF} {h : zH} {a : Nat} {y : zH} (hD : 2 ≤ F.2.1) (hL : zOb 9 h a) (hf : fX2_init_9 h a = some y) (hM : ((.inl none, y) : zX) = zEnd F) : Z F 1 cX2_init RX2 "<init>" none [] h 0 [(0, .ref a)] [] := by
  unfold fX2_init_9 at hf
  refine z_aload_n 0 dX2_init_0 rfl rfl ?_
  refine z_obj q222 q127 q128 (Nat.le_trans (by decide) hD) (Nat.le_of_ble_eq_true rfl) dX2_init_1 ?_
  cases hf
  exact z_vret dX2_init_4 rfl hM
theorem ctX2_init_9 {l : Launch} {h : zH} {a : Nat} {h' : zH} (hL : zOb 9 h a) (hf : fX2_init_9 h a = some h') : zC l yX2_init (ws_ yX2_init cX2_init 1 none) 2 [.ref a] h (.inl none, h') :=
  z_start (by decide) (Nat.le_of_ble_eq_true rfl) (zX2_init_9 (F := (l, 2, h, (.inl none, h'))) (Nat.le_refl _) hL hf rfl)
theorem siX10_1_9 : zIi RX10 1 yX2_init cX2_init 1 0 := ⟨(zGood_c q221 q102), rfl, (Or.inr ⟨_, q605⟩), q220, q221, ⟨by decide, by decide⟩, by decide +kernel⟩
noncomputable def fX10_init_9 (h : zH) (a : Nat) : Option (zH) := zb1 (fX2_init_9 h a) (fun h_3 => some h_3)
theorem zX10_init_9 {F : zF} {h : zH} {a : Nat} {y : zH} (hD : 3 ≤ F.2.1) (hL : zOb 9 h a) (hf : fX10_init_9 h a = some y) (hM : ((.inl none, y) : zX) = zEnd F) : Z F 1 cX10_init RX10 "<init>" none [] h 0 [(0, .ref a)] [] := by
  unfold fX10_init_9 at hf
  refine z_aload_n 0 dX10_init_0 rfl rfl ?_
  obtain ⟨h_3, hc_1, hf⟩ := zb1_some hf
  have hct := ctX2_init_9 (l := F.1) hL hc_1
  refine z_invIv siX10_1_9 hct ⟨Nat.le_trans (by decide) hD, by decide⟩ rfl rfl (Nat.le_of_ble_eq_true rfl) dX10_init_1 ?_
  have hL := hL.ext hct.1
  cases hf
  exact z_vret dX10_init_4 rfl hM
theorem ctX10_init_9 {l : Launch} {h : zH} {a : Nat} {h' : zH} (hL : zOb 9 h a) (hf : fX10_init_9 h a = some h') : zC l yX10_init (ws_ yX10_init cX10_init 1 none) 3 [.ref a] h (.inl none, h') :=
  z_start (by decide) (Nat.le_of_ble_eq_true rfl) (zX10_init_9 (F := (l, 3, h, (.inl none, h'))) (Nat.le_refl _) hL hf rfl)
theorem siX11_1_9 : zIi RX11 1 yX10_init cX10_init 1 0 := ⟨(zGood_c q604 q110), rfl, (Or.inr ⟨_, q602⟩), q603, q604, ⟨by decide, by decide⟩, by decide +kernel⟩
noncomputable def fX11_init_9 (h : zH) (a : Nat) : Option (zH) := zb1 (fX10_init_9 h a) (fun h_3 => some h_3)
theorem zX11_init_9 {F : zF} {h : zH} {a : Nat} {y : zH} (hD : 4 ≤ F.2.1) (hL : zOb 9 h a) (hf : fX11_init_9 h a = some y) (hM : ((.inl none, y) : zX) = zEnd F) : Z F 1 cX11_init RX11 "<init>" none [] h 0 [(0, .ref a)] [] := by
  unfold fX11_init_9 at hf
  refine z_aload_n 0 dX11_init_0 rfl rfl ?_
  obtain ⟨h_3, hc_1, hf⟩ := zb1_some hf
  have hct := ctX10_init_9 (l := F.1) hL hc_1
  refine z_invIv siX11_1_9 hct ⟨Nat.le_trans (by decide) hD, by decide⟩ rfl rfl (Nat.le_of_ble_eq_true rfl) dX11_init_1 ?_
  have hL := hL.ext hct.1
  cases hf
  exact z_vret dX11_init_4 rfl hM
theorem ctX11_init_9 {l : Launch} {h : zH} {a : Nat} {h' : zH} (hL : zOb 9 h a) (hf : fX11_init_9 h a = some h') : zC l yX11_init (ws_ yX11_init cX11_init 1 none) 4 [.ref a] h (.inl none, h') :=
  z_start (by decide) (Nat.le_of_ble_eq_true rfl) (zX11_init_9 (F := (l, 4, h, (.inl none, h'))) (Nat.le_refl _) hL hf rfl)
theorem siX12_1_9 : zIi RX12 1 yX11_init cX11_init 1 0 := ⟨(zGood_c q601 q111), rfl, (Or.inr ⟨_, q615⟩), q600, q601, ⟨by decide, by decide⟩, by decide +kernel⟩
noncomputable def fX12_init (h : zH) (a : Nat) : Option (zH) := zb1 (fX11_init_9 h a) (fun h_3 => some h_3)
theorem zX12_init {F : zF} {h : zH} {a : Nat} {y : zH} (hD : 5 ≤ F.2.1) (hL : zOb 9 h a) (hf : fX12_init h a = some y) (hM : ((.inl none, y) : zX) = zEnd F) : Z F 1 cX12_init RX12 "<init>" none [] h 0 [(0, .ref a)] [] := by
  unfold fX12_init at hf
  refine z_aload_n 0 dX12_init_0 rfl rfl ?_
  obtain ⟨h_3, hc_1, hf⟩ := zb1_some hf
  have hct := ctX11_init_9 (l := F.1) hL hc_1
  refine z_invIv siX12_1_9 hct ⟨Nat.le_trans (by decide) hD, by decide⟩ rfl rfl (Nat.le_of_ble_eq_true rfl) dX12_init_1 ?_
  have hL := hL.ext hct.1
  cases hf
  exact z_vret dX12_init_4 rfl hM
theorem ctX12_init {l : Launch} {h : zH} {a : Nat} {h' : zH} (hL : zOb 9 h a) (hf : fX12_init h a = some h') : zC l yX12_init (ws_ yX12_init cX12_init 1 none) 5 [.ref a] h (.inl none, h') :=
  z_start (by decide) (Nat.le_of_ble_eq_true rfl) (zX12_init (F := (l, 5, h, (.inl none, h'))) (Nat.le_refl _) hL hf rfl)
noncomputable def fX2_init_10 (h : zH) (a : Nat) : Option (zH) := some h
theorem zX2_init_10 {F : zF} {h : zH} {a : Nat} {y : zH} (hD : 2 ≤ F.2.1) (hL : zOb 10 h a) (hf : fX2_init_10 h a = some y) (hM : ((.inl none, y) : zX) = zEnd F) : Z F 1 cX2_init RX2 "<init>" none [] h 0 [(0, .ref a)] [] := by
  unfold fX2_init_10 at hf
  refine z_aload_n 0 dX2_init_0 rfl rfl ?_
  refine z_obj q222 q127 q128 (Nat.le_trans (by decide) hD) (Nat.le_of_ble_eq_true rfl) dX2_init_1 ?_
  cases hf
  exact z_vret dX2_init_4 rfl hM
theorem ctX2_init_10 {l : Launch} {h : zH} {a : Nat} {h' : zH} (hL : zOb 10 h a) (hf : fX2_init_10 h a = some h') : zC l yX2_init (ws_ yX2_init cX2_init 1 none) 2 [.ref a] h (.inl none, h') :=
  z_start (by decide) (Nat.le_of_ble_eq_true rfl) (zX2_init_10 (F := (l, 2, h, (.inl none, h'))) (Nat.le_refl _) hL hf rfl)
theorem siX10_1_10 : zIi RX10 1 yX2_init cX2_init 1 0 := ⟨(zGood_c q221 q102), rfl, (Or.inr ⟨_, q605⟩), q220, q221, ⟨by decide, by decide⟩, by decide +kernel⟩
noncomputable def fX10_init_10 (h : zH) (a : Nat) : Option (zH) := zb1 (fX2_init_10 h a) (fun h_3 => some h_3)
theorem zX10_init_10 {F : zF} {h : zH} {a : Nat} {y : zH} (hD : 3 ≤ F.2.1) (hL : zOb 10 h a) (hf : fX10_init_10 h a = some y) (hM : ((.inl none, y) : zX) = zEnd F) : Z F 1 cX10_init RX10 "<init>" none [] h 0 [(0, .ref a)] [] := by
  unfold fX10_init_10 at hf
  refine z_aload_n 0 dX10_init_0 rfl rfl ?_
  obtain ⟨h_3, hc_1, hf⟩ := zb1_some hf
  have hct := ctX2_init_10 (l := F.1) hL hc_1
  refine z_invIv siX10_1_10 hct ⟨Nat.le_trans (by decide) hD, by decide⟩ rfl rfl (Nat.le_of_ble_eq_true rfl) dX10_init_1 ?_
  have hL := hL.ext hct.1
  cases hf
  exact z_vret dX10_init_4 rfl hM
theorem ctX10_init_10 {l : Launch} {h : zH} {a : Nat} {h' : zH} (hL : zOb 10 h a) (hf : fX10_init_10 h a = some h') : zC l yX10_init (ws_ yX10_init cX10_init 1 none) 3 [.ref a] h (.inl none, h') :=
  z_start (by decide) (Nat.le_of_ble_eq_true rfl) (zX10_init_10 (F := (l, 3, h, (.inl none, h'))) (Nat.le_refl _) hL hf rfl)
theorem siX13_1_10 : zIi RX13 1 yX10_init cX10_init 1 0 := ⟨(zGood_c q604 q110), rfl, (Or.inr ⟨_, q625⟩), q603, q604, ⟨by decide, by decide⟩, by decide +kernel⟩
noncomputable def fX13_init (h : zH) (a : Nat) : Option (zH) := zb1 (fX10_init_10 h a) (fun h_3 => some h_3)
theorem zX13_init {F : zF} {h : zH} {a : Nat} {y : zH} (hD : 4 ≤ F.2.1) (hL : zOb 10 h a) (hf : fX13_init h a = some y) (hM : ((.inl none, y) : zX) = zEnd F) : Z F 1 cX13_init RX13 "<init>" none [] h 0 [(0, .ref a)] [] := by
  unfold fX13_init at hf
  refine z_aload_n 0 dX13_init_0 rfl rfl ?_
  obtain ⟨h_3, hc_1, hf⟩ := zb1_some hf
  have hct := ctX10_init_10 (l := F.1) hL hc_1
  refine z_invIv siX13_1_10 hct ⟨Nat.le_trans (by decide) hD, by decide⟩ rfl rfl (Nat.le_of_ble_eq_true rfl) dX13_init_1 ?_
  have hL := hL.ext hct.1
  cases hf
  exact z_vret dX13_init_4 rfl hM
theorem ctX13_init {l : Launch} {h : zH} {a : Nat} {h' : zH} (hL : zOb 10 h a) (hf : fX13_init h a = some h') : zC l yX13_init (ws_ yX13_init cX13_init 1 none) 4 [.ref a] h (.inl none, h') :=
  z_start (by decide) (Nat.le_of_ble_eq_true rfl) (zX13_init (F := (l, 4, h, (.inl none, h'))) (Nat.le_refl _) hL hf rfl)
theorem fdX0_160_0 : zFd RX0 160 0 2 .int false := ⟨_, _, _, rfl, rfl, by decide, rfl, rfl, Or.inl q483, Or.inl rfl⟩
theorem fdX0_128_6 : zFd RX0 128 6 0 (.object "java/lang/Object") false := ⟨_, _, _, rfl, rfl, by decide, rfl, rfl, Or.inr ⟨_, q477⟩, Or.inl rfl⟩
noncomputable def fX0_comes (h : zH) (a : Nat) (x1 : Nat) : Option (Int32 × zH) := zck (vp_in (zI h a 2) 10) (zb1 (zP h (a + 2) (zI h a 2).toNatClampNeg) (fun b_2 => zck (zOb 6 h b_2) (zlet (zsP h b_2 0 (some x1)) (fun h_4 => zlet (zsI h_4 a 2 ((zI h_4 a 2) + 1)) (fun h_5 => some (((zI h_5 a 2) - 1, h_5)))))))
theorem zX0_comes {F : zF} {h : zH} {a : Nat} {x1 : Nat} {y : Int32 × zH} (hD : 1 ≤ F.2.1) (hL : zXx h a) (hf : fX0_comes h a x1 = some y) (hM : ((.inl (some (.int y.1)), y.2) : zX) = zEnd F) : Z F 2 cX0_comes RX0 "comes" (some .int) [] h 0 [(0, .ref a), (1, .ref x1)] [] := by
  unfold fX0_comes at hf
  refine z_aload_n 0 dX0_comes_0 rfl rfl ?_
  refine z_getr fdX0_38_0 (Or.inr ⟨_, rfl⟩) ((hL.b 0 rfl).t 0 rfl) ((hL.b 0 rfl).p 1 rfl) dX0_comes_1 ?_
  refine z_aload_n 0 dX0_comes_4 rfl rfl ?_
  refine z_geti fdX0_160_0 ((hL.b 0 rfl).t 0 rfl) dX0_comes_5 ?_
  obtain ⟨hi_1, hf⟩ := zck_some hf
  obtain ⟨b_2, hb_2, hf⟩ := zb1_some hf
  refine z_aldr (t := 3) rfl (Or.inl ⟨_, rfl⟩) ((hL.b 0 rfl).t 2 rfl) hi_1 hb_2 dX0_comes_8 ?_
  refine z_aload_n 1 dX0_comes_9 rfl rfl ?_
  obtain ⟨hK_3, hf⟩ := zck_some hf
  obtain ⟨h_4, he, hf⟩ := zlet_some hf
  have hfn := zFd_fn fdX0_128_6 ((hK_3.b 0 rfl).t 0 rfl)
  refine z_putr fdX0_128_6 (Or.inl ⟨_, rfl⟩) ((hK_3.b 0 rfl).t 0 rfl) ((hK_3.b 0 rfl).nz 0) he dX0_comes_10 ?_
  have hL := hL.P hfn he
  have hK_3 := hK_3.P hfn he
  refine z_aload_n 0 dX0_comes_13 rfl rfl ?_
  refine z_dup dX0_comes_14 rfl ?_
  refine z_geti fdX0_160_0 ((hL.b 0 rfl).t 0 rfl) dX0_comes_15 ?_
  refine z_iconst 1 dX0_comes_18 rfl ?_
  refine z_iadd dX0_comes_19 ?_
  obtain ⟨h_5, he, hf⟩ := zlet_some hf
  refine z_puti fdX0_160_0 ((hL.b 0 rfl).t 0 rfl) ((hL.b 0 rfl).nz 0) he dX0_comes_20 ?_
  have hL := hL.I he
  have hK_3 := hK_3.I he
  refine z_aload_n 0 dX0_comes_23 rfl rfl ?_
  refine z_geti fdX0_160_0 ((hL.b 0 rfl).t 0 rfl) dX0_comes_24 ?_
  refine z_iconst 1 dX0_comes_27 rfl ?_
  refine z_isub dX0_comes_28 ?_
  cases hf
  exact z_iret dX0_comes_29 rfl hM
theorem ctX0_comes {l : Launch} {h : zH} {a : Nat} {x1 : Nat} {v : Int32} {h' : zH} (hL : zXx h a) (hf : fX0_comes h a x1 = some (v, h')) : zC l yX0_comes (ws_ yX0_comes cX0_comes 2 (some .int)) 1 [.ref a, .ref x1] h (.inl (some (.int v)), h') :=
  z_start (by decide) (Nat.le_of_ble_eq_true rfl) (zX0_comes (F := (l, 1, h, (.inl (some (.int v)), h'))) (Nat.le_refl _) hL hf rfl)
theorem suX0_4_s : zIs RX0 4 yX0_in (ws_ yX0_in cX0_in 3 (some .boolean)) 3 3 := ⟨(zGood_c q592 q97), (Or.inl q590), q591, ⟨by decide, by decide⟩, by decide +kernel⟩
theorem suX0_163_0 : zIv RX0 163 yX0_answer (ws_ yX0_answer cX0_answer 2 (some .int)) 2 0 1 := ⟨(zGood_c q596 q97), ⟨_, _, rfl, rfl, qs2⟩, (Or.inl q593), q595, ⟨by decide, by decide⟩, by decide +kernel⟩
noncomputable def fX0_page_J18 (h : zH) (a : Nat) (x1 : Int32) : Option (Int32 × zH) := zb1 (fX0_in x1 0 3) (fun v_5 => if v_5 = 0 then (zb2 (fX0_answer h a ((-1))) (fun v_11 h_12 => some ((v_11, h_12)))) else (zb2 (fX0_answer h a ((-6))) (fun v_8 h_9 => some ((v_8, h_9)))))
theorem zX0_page_J18 {F : zF} {h : zH} {a : Nat} {x1 : Int32} {y : Int32 × zH} (hD : 6 ≤ F.2.1) (hL : zXx h a) (hf : fX0_page_J18 h a x1 = some y) (hM : ((.inl (some (.int y.1)), y.2) : zX) = zEnd F) : Z F 2 cX0_page RX0 "page" (some .int) [] h 18 [(0, .ref a), (1, .int x1)] [] := by
  unfold fX0_page_J18 at hf
  refine z_aload_n 0 dX0_page_18 rfl rfl ?_
  refine z_iload_n 1 dX0_page_19 rfl rfl ?_
  refine z_iconst 0 dX0_page_20 rfl ?_
  refine z_iconst 3 dX0_page_21 rfl ?_
  obtain ⟨v_5, hc_4, hf⟩ := zb1_some hf
  refine z_invSi suX0_4_s (ctX0_in hc_4) ⟨Nat.le_trans (by decide) hD, by decide⟩ rfl rfl (Nat.le_of_ble_eq_true rfl) dX0_page_22 ?_
  refine z_if_ne 32 dX0_page_25 rfl hf (fun _ hf => ?_) (fun _ hf => ?_)
  · refine z_bipush (-6) dX0_page_32 rfl ?_
    obtain ⟨v_8, h_9, hc_7, hf⟩ := zb2_some hf
    have hct := ctX0_answer (l := F.1) hL hc_7
    refine z_invVi suX0_163_0 hct ((hL.b 0 rfl).t 0 rfl) ⟨Nat.le_trans (by decide) hD, by decide⟩ rfl rfl (Nat.le_of_ble_eq_true rfl) dX0_page_34 ?_
    have hL := hL.ext hct.1
    cases hf
    exact z_iret dX0_page_37 rfl hM
  · refine z_iconst (-1) dX0_page_28 rfl ?_
    refine z_goto 34 dX0_page_29 rfl ?_
    obtain ⟨v_11, h_12, hc_10, hf⟩ := zb2_some hf
    have hct := ctX0_answer (l := F.1) hL hc_10
    refine z_invVi suX0_163_0 hct ((hL.b 0 rfl).t 0 rfl) ⟨Nat.le_trans (by decide) hD, by decide⟩ rfl rfl (Nat.le_of_ble_eq_true rfl) dX0_page_34 ?_
    have hL := hL.ext hct.1
    cases hf
    exact z_iret dX0_page_37 rfl hM
theorem siX0_175_10 : zIi RX0 175 yX13_init cX13_init 1 0 := ⟨(zGood_c q624 q113), rfl, (Or.inr ⟨_, q622⟩), q623, q624, ⟨by decide, by decide⟩, by decide +kernel⟩
theorem suX0_176_0 : zIv RX0 176 yX0_comes (ws_ yX0_comes cX0_comes 2 (some .int)) 2 0 1 := ⟨(zGood_c q633 q97), ⟨_, _, rfl, rfl, qs3⟩, (Or.inl q630), q632, ⟨by decide, by decide⟩, by decide +kernel⟩
theorem siX0_172_9 : zIi RX0 172 yX12_init cX12_init 1 0 := ⟨(zGood_c q614 q112), rfl, (Or.inr ⟨_, q612⟩), q613, q614, ⟨by decide, by decide⟩, by decide +kernel⟩
theorem siX0_169_8 : zIi RX0 169 yX11_init cX11_init 1 0 := ⟨(zGood_c q601 q111), rfl, (Or.inr ⟨_, q599⟩), q600, q601, ⟨by decide, by decide⟩, by decide +kernel⟩
noncomputable def fX0_page (h : zH) (a : Nat) (x1 : Int32) : Option (Int32 × zH) := zb1 (fX0_in x1 0 3) (fun v_2 => if v_2 = 0 then (fX0_page_J18 h a x1) else (if (zI h a 2) = 10 then (fX0_page_J18 h a x1) else (if x1 = 0 then (zlet (zmk h (3, 0) 27) (fun h_37 => zck (zOb 2 h_37 (zn h)) (zb1 (fX3_init h_37 (zn h)) (fun h_41 => zb2 (fX0_comes h_41 a (zn h)) (fun v_43 h_44 => some ((v_43, h_44))))))) else (if x1 = 1 then (zlet (zmk h (9, 0) 3) (fun h_29 => zck (zOb 8 h_29 (zn h)) (zb1 (fX11_init h_29 (zn h)) (fun h_33 => zb2 (fX0_comes h_33 a (zn h)) (fun v_35 h_36 => some ((v_35, h_36))))))) else (if x1 = 2 then (zlet (zmk h (10, 0) 3) (fun h_21 => zck (zOb 9 h_21 (zn h)) (zb1 (fX12_init h_21 (zn h)) (fun h_25 => zb2 (fX0_comes h_25 a (zn h)) (fun v_27 h_28 => some ((v_27, h_28))))))) else (zlet (zmk h (11, 0) 3) (fun h_13 => zck (zOb 10 h_13 (zn h)) (zb1 (fX13_init h_13 (zn h)) (fun h_17 => zb2 (fX0_comes h_17 a (zn h)) (fun v_19 h_20 => some ((v_19, h_20))))))))))))
theorem zX0_page {F : zF} {h : zH} {a : Nat} {x1 : Int32} {y : Int32 × zH} (hD : 6 ≤ F.2.1) (hL : zXx h a) (hf : fX0_page h a x1 = some y) (hM : ((.inl (some (.int y.1)), y.2) : zX) = zEnd F) : Z F 2 cX0_page RX0 "page" (some .int) [] h 0 [(0, .ref a), (1, .int x1)] [] := by
  unfold fX0_page at hf
  refine z_iload_n 1 dX0_page_0 rfl rfl ?_
  refine z_iconst 0 dX0_page_1 rfl ?_
  refine z_iconst 3 dX0_page_2 rfl ?_
  obtain ⟨v_2, hc_1, hf⟩ := zb1_some hf
  refine z_invSi suX0_4_s (ctX0_in hc_1) ⟨Nat.le_trans (by decide) hD, by decide⟩ rfl rfl (Nat.le_of_ble_eq_true rfl) dX0_page_3 ?_
  refine z_if_eq 18 dX0_page_6 rfl hf (fun _ hf => ?_) (fun _ hf => ?_)
  · exact zX0_page_J18 hD hL hf hM
  · refine z_aload_n 0 dX0_page_9 rfl rfl ?_
    refine z_geti fdX0_160_0 ((hL.b 0 rfl).t 0 rfl) dX0_page_10 ?_
    refine z_bipush 10 dX0_page_13 rfl ?_
    refine z_icmp_ne 38 dX0_page_15 rfl hf (fun _ hf => ?_) (fun _ hf => ?_)
    · refine z_aload_n 0 dX0_page_38 rfl rfl ?_
      refine z_iload_n 1 dX0_page_39 rfl rfl ?_
      refine z_if_ne 53 dX0_page_40 rfl hf (fun _ hf => ?_) (fun _ hf => ?_)
      · refine z_iload_n 1 dX0_page_53 rfl rfl ?_
        refine z_iconst 1 dX0_page_54 rfl ?_
        refine z_icmp_ne 68 dX0_page_55 rfl hf (fun _ hf => ?_) (fun _ hf => ?_)
        · refine z_iload_n 1 dX0_page_68 rfl rfl ?_
          refine z_iconst 2 dX0_page_69 rfl ?_
          refine z_icmp_ne 83 dX0_page_70 rfl hf (fun _ hf => ?_) (fun _ hf => ?_)
          · obtain ⟨h_13, he, hf⟩ := zlet_some hf
            refine z_new (q := (RX13, TX13, 3)) q620 q621 q113 rfl rfl he dX0_page_83 ?_
            have hL := hL.mk he
            refine z_dup dX0_page_86 rfl ?_
            obtain ⟨hK_14, hf⟩ := zck_some hf
            obtain ⟨h_17, hc_15, hf⟩ := zb1_some hf
            have hct := ctX13_init (l := F.1) hK_14 hc_15
            refine z_invIv siX0_175_10 hct ⟨Nat.le_trans (by decide) hD, by decide⟩ rfl rfl (Nat.le_of_ble_eq_true rfl) dX0_page_87 ?_
            have hL := hL.ext hct.1
            have hK_14 := hK_14.ext hct.1
            obtain ⟨v_19, h_20, hc_18, hf⟩ := zb2_some hf
            have hct := ctX0_comes (l := F.1) hL hc_18
            refine z_invVi suX0_176_0 hct ((hL.b 0 rfl).t 0 rfl) ⟨Nat.le_trans (by decide) hD, by decide⟩ rfl rfl (Nat.le_of_ble_eq_true rfl) dX0_page_90 ?_
            have hL := hL.ext hct.1
            have hK_14 := hK_14.ext hct.1
            cases hf
            exact z_iret dX0_page_93 rfl hM
          · obtain ⟨h_21, he, hf⟩ := zlet_some hf
            refine z_new (q := (RX12, TX12, 3)) q610 q611 q112 rfl rfl he dX0_page_73 ?_
            have hL := hL.mk he
            refine z_dup dX0_page_76 rfl ?_
            obtain ⟨hK_22, hf⟩ := zck_some hf
            obtain ⟨h_25, hc_23, hf⟩ := zb1_some hf
            have hct := ctX12_init (l := F.1) hK_22 hc_23
            refine z_invIv siX0_172_9 hct ⟨Nat.le_trans (by decide) hD, by decide⟩ rfl rfl (Nat.le_of_ble_eq_true rfl) dX0_page_77 ?_
            have hL := hL.ext hct.1
            have hK_22 := hK_22.ext hct.1
            refine z_goto 90 dX0_page_80 rfl ?_
            obtain ⟨v_27, h_28, hc_26, hf⟩ := zb2_some hf
            have hct := ctX0_comes (l := F.1) hL hc_26
            refine z_invVi suX0_176_0 hct ((hL.b 0 rfl).t 0 rfl) ⟨Nat.le_trans (by decide) hD, by decide⟩ rfl rfl (Nat.le_of_ble_eq_true rfl) dX0_page_90 ?_
            have hL := hL.ext hct.1
            have hK_22 := hK_22.ext hct.1
            cases hf
            exact z_iret dX0_page_93 rfl hM
        · obtain ⟨h_29, he, hf⟩ := zlet_some hf
          refine z_new (q := (RX11, TX11, 3)) q597 q598 q111 rfl rfl he dX0_page_58 ?_
          have hL := hL.mk he
          refine z_dup dX0_page_61 rfl ?_
          obtain ⟨hK_30, hf⟩ := zck_some hf
          obtain ⟨h_33, hc_31, hf⟩ := zb1_some hf
          have hct := ctX11_init (l := F.1) hK_30 hc_31
          refine z_invIv siX0_169_8 hct ⟨Nat.le_trans (by decide) hD, by decide⟩ rfl rfl (Nat.le_of_ble_eq_true rfl) dX0_page_62 ?_
          have hL := hL.ext hct.1
          have hK_30 := hK_30.ext hct.1
          refine z_goto 90 dX0_page_65 rfl ?_
          obtain ⟨v_35, h_36, hc_34, hf⟩ := zb2_some hf
          have hct := ctX0_comes (l := F.1) hL hc_34
          refine z_invVi suX0_176_0 hct ((hL.b 0 rfl).t 0 rfl) ⟨Nat.le_trans (by decide) hD, by decide⟩ rfl rfl (Nat.le_of_ble_eq_true rfl) dX0_page_90 ?_
          have hL := hL.ext hct.1
          have hK_30 := hK_30.ext hct.1
          cases hf
          exact z_iret dX0_page_93 rfl hM
      · obtain ⟨h_37, he, hf⟩ := zlet_some hf
        refine z_new (q := (RX3, TX3, 27)) q214 q215 q103 rfl rfl he dX0_page_43 ?_
        have hL := hL.mk he
        refine z_dup dX0_page_46 rfl ?_
        obtain ⟨hK_38, hf⟩ := zck_some hf
        obtain ⟨h_41, hc_39, hf⟩ := zb1_some hf
        have hct := ctX3_init (l := F.1) hK_38 hc_39
        refine z_invIv siX0_44_2 hct ⟨Nat.le_trans (by decide) hD, by decide⟩ rfl rfl (Nat.le_of_ble_eq_true rfl) dX0_page_47 ?_
        have hL := hL.ext hct.1
        have hK_38 := hK_38.ext hct.1
        refine z_goto 90 dX0_page_50 rfl ?_
        obtain ⟨v_43, h_44, hc_42, hf⟩ := zb2_some hf
        have hct := ctX0_comes (l := F.1) hL hc_42
        refine z_invVi suX0_176_0 hct ((hL.b 0 rfl).t 0 rfl) ⟨Nat.le_trans (by decide) hD, by decide⟩ rfl rfl (Nat.le_of_ble_eq_true rfl) dX0_page_90 ?_
        have hL := hL.ext hct.1
        have hK_38 := hK_38.ext hct.1
        cases hf
        exact z_iret dX0_page_93 rfl hM
    · exact zX0_page_J18 hD hL hf hM
theorem ctX0_page {l : Launch} {h : zH} {a : Nat} {x1 : Int32} {v : Int32} {h' : zH} (hL : zXx h a) (hf : fX0_page h a x1 = some (v, h')) : zC l yX0_page (ws_ yX0_page cX0_page 2 (some .int)) 6 [.ref a, .int x1] h (.inl (some (.int v)), h') :=
  z_start (by decide) (Nat.le_of_ble_eq_true rfl) (zX0_page (F := (l, 6, h, (.inl (some (.int v)), h'))) (Nat.le_refl _) hL hf rfl)
noncomputable def fX0_thingAt (h : zH) (a : Nat) (x1 : Int32) : Option (Option Nat × zH) := zcs (vp_in x1 10) (zb1 (zP h (a + 2) x1.toNatClampNeg) (fun b_2 => zck (zOb 6 h b_2) (zlet (zP h b_2 0) (fun q_5 => some ((q_5, h)))))) (zlet (zmke h 3 300) (fun h_3 => some ((none, h_3))))
theorem zX0_thingAt {F : zF} {h : zH} {a : Nat} {x1 : Int32} {y : Option Nat × zH} (hD : 120 ≤ F.2.1) (hL : zXx h a) (hf : fX0_thingAt h a x1 = some y) (hM : ((.inl (some (va_rf y.1)), y.2) : zX) = zEnd F) : Z F 3 cX0_thingAt RX0 "thingAt" (some (.object "java/lang/Object")) [(0, 9, 10, 132)] h 0 [(0, .ref a), (1, .int x1)] [] := by
  unfold fX0_thingAt at hf
  refine z_aload_n 0 dX0_thingAt_0 rfl rfl ?_
  refine z_getr fdX0_38_0 (Or.inr ⟨_, rfl⟩) ((hL.b 0 rfl).t 0 rfl) ((hL.b 0 rfl).p 1 rfl) dX0_thingAt_1 ?_
  refine z_iload_n 1 dX0_thingAt_4 rfl rfl ?_
  rcases zcs_some hf with ⟨hi_1, hf9⟩ | ⟨hi_1, hf9⟩
  · obtain ⟨b_2, hb_2, hf⟩ := zb1_some hf9
    refine z_aldr (t := 3) rfl (Or.inl ⟨_, rfl⟩) ((hL.b 0 rfl).t 2 rfl) hi_1 hb_2 dX0_thingAt_5 ?_
    obtain ⟨hK_4, hf⟩ := zck_some hf
    obtain ⟨q_5, hq, hf⟩ := zlet_some hf
    refine z_getqv fdX0_128_6 (Or.inl ⟨_, rfl⟩) ((hK_4.b 0 rfl).t 0 rfl) hq dX0_thingAt_6 ?_
    cases hf
    exact z_aret (o := q_5) dX0_thingAt_9 rfl (Or.inl ⟨_, rfl⟩) hM
  · obtain ⟨h_3, he, hf⟩ := zlet_some hf9
    refine z_aaldX (t := 3) rfl (by decide) hi_1 ((hL.b 0 rfl).t 2 rfl) rfl (by decide) q699 (Nat.le_trans (by decide) hD) (Nat.le_of_ble_eq_true rfl) he dX0_thingAt_5 ?_
    have hfx := zLx_mke he
    have hL := hL.ext hfx
    refine z_astore_n dX0_thingAt_10 rfl (by decide) (lc' := [(0, .ref a), (1, .int x1), (2, .ref (zn h))]) rfl ?_
    refine z_null dX0_thingAt_11 ?_
    cases hf
    exact z_aret (o := none) dX0_thingAt_12 rfl (Or.inl ⟨_, rfl⟩) hM
theorem ctX0_thingAt {l : Launch} {h : zH} {a : Nat} {x1 : Int32} {v : Option Nat} {h' : zH} (hL : zXx h a) (hf : fX0_thingAt h a x1 = some (v, h')) : zC l yX0_thingAt (wsW_ yX0_thingAt cX0_thingAt 3 (some (.object "java/lang/Object")) [(0, 9, 10, 132)]) 120 [.ref a, .int x1] h (.inl (some (va_rf v)), h') :=
  z_startW (by decide) (Nat.le_of_ble_eq_true rfl) (zX0_thingAt (F := (l, 120, h, (.inl (some (va_rf v)), h'))) (Nat.le_refl _) hL hf rfl)
theorem fdX0_13_0 : zFd RX0 13 0 0 (.object "CodeExchange$Refusal") true := ⟨_, _, _, rfl, rfl, by decide, rfl, rfl, Or.inl q481, Or.inl rfl⟩
theorem fdX0_17_1 : zFd RX0 17 1 6 .int false := ⟨_, _, _, rfl, rfl, by decide, rfl, rfl, Or.inr ⟨_, q196⟩, Or.inl rfl⟩
noncomputable def fX0_refused (h : zH) (a : Nat) (x1 : Int32) : Option (Option Nat × zH) := zlet (zsI h (a + 1) 6 x1) (fun h_1 => some (((some (a + 1)), h_1)))
theorem zX0_refused {F : zF} {h : zH} {a : Nat} {x1 : Int32} {y : Option Nat × zH} (hD : 1 ≤ F.2.1) (hL : zXx h a) (hf : fX0_refused h a x1 = some y) (hM : ((.inl (some (va_rf y.1)), y.2) : zX) = zEnd F) : Z F 2 cX0_refused RX0 "refused" (some (.object "CodeExchange$Refusal")) [] h 0 [(0, .ref a), (1, .int x1)] [] := by
  unfold fX0_refused at hf
  refine z_aload_n 0 dX0_refused_0 rfl rfl ?_
  refine z_getr fdX0_13_0 (Or.inl ⟨_, rfl⟩) ((hL.b 0 rfl).t 0 rfl) ((hL.b 0 rfl).p 0 rfl) dX0_refused_1 ?_
  refine z_iload_n 1 dX0_refused_4 rfl rfl ?_
  obtain ⟨h_1, he, hf⟩ := zlet_some hf
  refine z_puti fdX0_17_1 ((hL.b 0 rfl).t 1 rfl) ((hL.b 0 rfl).nz 1) he dX0_refused_5 ?_
  have hL := hL.I he
  refine z_aload_n 0 dX0_refused_8 rfl rfl ?_
  refine z_getr fdX0_13_0 (Or.inl ⟨_, rfl⟩) ((hL.b 0 rfl).t 0 rfl) ((hL.b 0 rfl).p 0 rfl) dX0_refused_9 ?_
  cases hf
  exact z_aret (o := (some (a + 1))) dX0_refused_12 rfl (Or.inl ⟨_, rfl⟩) hM
theorem ctX0_refused {l : Launch} {h : zH} {a : Nat} {x1 : Int32} {v : Option Nat} {h' : zH} (hL : zXx h a) (hf : fX0_refused h a x1 = some (v, h')) : zC l yX0_refused (ws_ yX0_refused cX0_refused 2 (some (.object "CodeExchange$Refusal"))) 1 [.ref a, .int x1] h (.inl (some (va_rf v)), h') :=
  z_start (by decide) (Nat.le_of_ble_eq_true rfl) (zX0_refused (F := (l, 1, h, (.inl (some (va_rf v)), h'))) (Nat.le_refl _) hL hf rfl)
theorem suX0_134_0 : zIv RX0 134 yX0_thingAt (wsW_ yX0_thingAt cX0_thingAt 3 (some (.object "java/lang/Object")) [(0, 9, 10, 132)]) 3 0 1 := ⟨(zGood_w q698 q97), ⟨_, _, rfl, rfl, qs5⟩, (Or.inl q695), q697, ⟨by decide, by decide⟩, by decide +kernel⟩
theorem fdX0_144_2 : zFd RX0 144 2 3 .boolean false := ⟨_, _, _, rfl, rfl, by decide, rfl, rfl, Or.inr ⟨_, q226⟩, Or.inl rfl⟩
theorem suX0_140_0 : zIv RX0 140 yX0_refused (ws_ yX0_refused cX0_refused 2 (some (.object "CodeExchange$Refusal"))) 2 0 1 := ⟨(zGood_c q721 q97), ⟨_, _, rfl, rfl, qs6⟩, (Or.inl q718), q720, ⟨by decide, by decide⟩, by decide +kernel⟩
noncomputable def fX0_tableAt_J58 (h : zH) (a : Nat) (x2 : Int32) (x4 : Nat) (x5 : Int32) : Option (zX) := if x2 = 1 then (if x5 = 0 then (zb2 (fX0_refused h a ((-5))) (fun v_15 h_16 => zb1 v_15 (fun b_17 => some ((.inr b_17, h_16))))) else (some ((.inl (some (.ref x4)), h)))) else (some ((.inl (some (.ref x4)), h)))
theorem zX0_tableAt_J58 {F : zF} {h : zH} {a : Nat} {x2 : Int32} {x4 : Nat} {x5 : Int32} {y : zX} (hD : 121 ≤ F.2.1) (hL : zXx h a) (hf : fX0_tableAt_J58 h a x2 x4 x5 = some y) (hM : (y : zX) = zEnd F) : Z F 7 cX0_tableAt RX0 "tableAt" (some (.object "CodeExchange$Table")) [(6, 12, 15, 138), (24, 31, 34, 148)] h 58 [(0, .ref a), (2, .int x2), (4, .ref x4), (5, .int x5)] [] := by
  unfold fX0_tableAt_J58 at hf
  refine z_iload_n 1 dX0_tableAt_58 rfl rfl ?_
  refine z_iconst 1 dX0_tableAt_59 rfl ?_
  refine z_icmp_ne 75 dX0_tableAt_60 rfl hf (fun _ hf => ?_) (fun _ hf => ?_)
  · refine z_aload 2 dX0_tableAt_75 rfl ?_
    cases hf
    exact z_aret (o := (some x4)) dX0_tableAt_77 rfl (Or.inl ⟨_, rfl⟩) hM
  · refine z_iload 3 dX0_tableAt_63 rfl ?_
    refine z_if_ne 75 dX0_tableAt_65 rfl hf (fun _ hf => ?_) (fun _ hf => ?_)
    · refine z_aload 2 dX0_tableAt_75 rfl ?_
      cases hf
      exact z_aret (o := (some x4)) dX0_tableAt_77 rfl (Or.inl ⟨_, rfl⟩) hM
    · refine z_aload_n 0 dX0_tableAt_68 rfl rfl ?_
      refine z_bipush (-5) dX0_tableAt_69 rfl ?_
      obtain ⟨v_15, h_16, hc_14, hf⟩ := zb2_some hf
      have hct := ctX0_refused (l := F.1) hL hc_14
      refine z_invVq suX0_140_0 hct ((hL.b 0 rfl).t 0 rfl) ⟨Nat.le_trans (by decide) hD, by decide⟩ rfl rfl (Nat.le_of_ble_eq_true rfl) dX0_tableAt_71 ?_
      have hL := hL.ext hct.1
      obtain ⟨b_17, e9, hf9⟩ := zb1_some hf
      subst e9
      have hf := hf9
      refine z_athrow dX0_tableAt_74 ?_
      cases hf
      exact zt_out rfl hM
theorem caX0_42_1 : zCa RX0 42 2 := ⟨_, _, _, rfl, rfl, q214, Or.inl rfl⟩
noncomputable def fX0_tableAt (h : zH) (a : Nat) (x1 : Int32) (x2 : Int32) : Option (zX) := zb2 (fX0_thingAt h a x1) (fun v_2 h_3 => zrq v_2 (zlet (zmke h_3 1 8) (fun h_5 => zb2 (fX0_refused h_5 a ((-1))) (fun v_7 h_8 => zb1 v_7 (fun b_9 => some ((.inr b_9, h_8)))))) (fun b_4 => zcs (zTb h_3 b_4) (zck (zTb h_3 b_4) (if x2 = 0 then (if (zI h_3 b_4 3) = 0 then (fX0_tableAt_J58 h_3 a x2 b_4 (zI h_3 b_4 3)) else (zb2 (fX0_refused h_3 a ((-4))) (fun v_19 h_20 => zb1 v_19 (fun b_21 => some ((.inr b_21, h_20)))))) else (fX0_tableAt_J58 h_3 a x2 b_4 (zI h_3 b_4 3)))) (zck (zFm h_3 b_4) (zlet (zmke h_3 3 1300) (fun h_10 => zb2 (fX0_refused h_10 a ((-3))) (fun v_23 h_24 => zb1 v_23 (fun b_25 => some ((.inr b_25, h_24)))))))))
theorem zX0_tableAt {F : zF} {h : zH} {a : Nat} {x1 : Int32} {x2 : Int32} {y : zX} (hD : 121 ≤ F.2.1) (hL : zXx h a) (hf : fX0_tableAt h a x1 x2 = some y) (hM : (y : zX) = zEnd F) : Z F 7 cX0_tableAt RX0 "tableAt" (some (.object "CodeExchange$Table")) [(6, 12, 15, 138), (24, 31, 34, 148)] h 0 [(0, .ref a), (1, .int x1), (2, .int x2)] [] := by
  unfold fX0_tableAt at hf
  refine z_aload_n 0 dX0_tableAt_0 rfl rfl ?_
  refine z_iload_n 1 dX0_tableAt_1 rfl rfl ?_
  obtain ⟨v_2, h_3, hc_1, hf⟩ := zb2_some hf
  have hct := ctX0_thingAt (l := F.1) hL hc_1
  refine z_invVq suX0_134_0 hct ((hL.b 0 rfl).t 0 rfl) ⟨Nat.le_trans (by decide) hD, by decide⟩ rfl rfl (Nat.le_of_ble_eq_true rfl) dX0_tableAt_2 ?_
  have hL := hL.ext hct.1
  refine z_astore_nq dX0_tableAt_5 rfl (by decide) (lc' := [(0, .ref a), (1, .int x1), (2, .int x2), (3, va_rf v_2)]) rfl ?_
  refine z_aload_nq 3 dX0_tableAt_6 rfl rfl ?_
  rcases zrq_some hf with ⟨e9, hf9⟩ | ⟨b_4, e9, hf9⟩
  · subst e9
    have hf := hf9
    refine z_castN dX0_tableAt_7 ?_
    refine z_astoreq (x := none) dX0_tableAt_10 (by decide) (lc' := [(0, .ref a), (1, .int x1), (2, .int x2), (3, .null), (4, .null)]) rfl ?_
    refine z_goto 24 dX0_tableAt_12 rfl ?_
    refine z_aloadq (x := none) 4 dX0_tableAt_24 rfl ?_
    obtain ⟨h_5, he, hf⟩ := zlet_some hf
    refine z_getNX fdX0_144_2 zmA_npe rfl (by decide) q670 (Nat.le_trans (by decide) hD) (Nat.le_of_ble_eq_true rfl) he dX0_tableAt_26 ?_
    have hfx := zLx_mke he
    have hL := hL.ext hfx
    refine z_astore dX0_tableAt_34 (by decide) (lc' := [(0, .ref a), (1, .int x1), (2, .int x2), (3, .null), (4, .null), (6, .ref (zn h_3))]) rfl ?_
    refine z_aload_n 0 dX0_tableAt_36 rfl rfl ?_
    refine z_iconst (-1) dX0_tableAt_37 rfl ?_
    obtain ⟨v_7, h_8, hc_6, hf⟩ := zb2_some hf
    have hct := ctX0_refused (l := F.1) hL hc_6
    refine z_invVq suX0_140_0 hct ((hL.b 0 rfl).t 0 rfl) ⟨Nat.le_trans (by decide) hD, by decide⟩ rfl rfl (Nat.le_of_ble_eq_true rfl) dX0_tableAt_38 ?_
    have hL := hL.ext hct.1
    obtain ⟨b_9, e9, hf9⟩ := zb1_some hf
    subst e9
    have hf := hf9
    refine z_athrow dX0_tableAt_41 ?_
    cases hf
    exact zt_out rfl hM
  · subst e9
    have hf := hf9
    rcases zcs_some hf with ⟨hK_11, hf9⟩ | ⟨_, hf9⟩
    · have hf := hf9
      refine z_cast caX0_42_1 ((hK_11.b 0 rfl).t 0 rfl) dX0_tableAt_7 ?_
      refine z_astore dX0_tableAt_10 (by decide) (lc' := [(0, .ref a), (1, .int x1), (2, .int x2), (3, .ref b_4), (4, .ref b_4)]) rfl ?_
      refine z_goto 24 dX0_tableAt_12 rfl ?_
      refine z_aload 4 dX0_tableAt_24 rfl ?_
      obtain ⟨hK_13, hf⟩ := zck_some hf
      refine z_getz fdX0_144_2 ((hK_13.b 0 rfl).t 0 rfl) dX0_tableAt_26 ?_
      refine z_istore dX0_tableAt_29 (by decide) (lc' := [(0, .ref a), (1, .int x1), (2, .int x2), (3, .ref b_4), (4, .ref b_4), (5, .int (zI h_3 b_4 3))]) rfl ?_
      refine z_goto 42 dX0_tableAt_31 rfl ?_
      refine z_iload_n 2 dX0_tableAt_42 rfl rfl ?_
      refine z_if_ne 58 dX0_tableAt_43 rfl hf (fun _ hf => ?_) (fun _ hf => ?_)
      · refine z_sub [0, 2, 4, 5] rfl ?_
        exact zX0_tableAt_J58 hD hL hf hM
      · refine z_iload 5 dX0_tableAt_46 rfl ?_
        refine z_if_eq 58 dX0_tableAt_48 rfl hf (fun _ hf => ?_) (fun _ hf => ?_)
        · refine z_sub [0, 2, 4, 5] rfl ?_
          exact zX0_tableAt_J58 hD hL hf hM
        · refine z_aload_n 0 dX0_tableAt_51 rfl rfl ?_
          refine z_bipush (-4) dX0_tableAt_52 rfl ?_
          obtain ⟨v_19, h_20, hc_18, hf⟩ := zb2_some hf
          have hct := ctX0_refused (l := F.1) hL hc_18
          refine z_invVq suX0_140_0 hct ((hL.b 0 rfl).t 0 rfl) ⟨Nat.le_trans (by decide) hD, by decide⟩ rfl rfl (Nat.le_of_ble_eq_true rfl) dX0_tableAt_54 ?_
          have hL := hL.ext hct.1
          have hK_11 := hK_11.ext hct.1
          have hK_13 := hK_13.ext hct.1
          obtain ⟨b_21, e9, hf9⟩ := zb1_some hf
          subst e9
          have hf := hf9
          refine z_athrow dX0_tableAt_57 ?_
          cases hf
          exact zt_out rfl hM
    · obtain ⟨hF_12, hf⟩ := zck_some hf9
      obtain ⟨h_10, he, hf⟩ := zlet_some hf
      refine z_castF q214 hF_12 rfl (by decide) q642 (Nat.le_trans (by decide) hD) (Nat.le_of_ble_eq_true rfl) he dX0_tableAt_7 ?_
      have hfx := zLx_mke he
      have hL := hL.ext hfx
      refine z_astore dX0_tableAt_15 (by decide) (lc' := [(0, .ref a), (1, .int x1), (2, .int x2), (3, .ref b_4), (6, .ref (zn h_3))]) rfl ?_
      refine z_aload_n 0 dX0_tableAt_17 rfl rfl ?_
      refine z_bipush (-3) dX0_tableAt_18 rfl ?_
      obtain ⟨v_23, h_24, hc_22, hf⟩ := zb2_some hf
      have hct := ctX0_refused (l := F.1) hL hc_22
      refine z_invVq suX0_140_0 hct ((hL.b 0 rfl).t 0 rfl) ⟨Nat.le_trans (by decide) hD, by decide⟩ rfl rfl (Nat.le_of_ble_eq_true rfl) dX0_tableAt_20 ?_
      have hL := hL.ext hct.1
      obtain ⟨b_25, e9, hf9⟩ := zb1_some hf
      subst e9
      have hf := hf9
      refine z_athrow dX0_tableAt_23 ?_
      cases hf
      exact zt_out rfl hM
theorem ctX0_tableAt {l : Launch} {h : zH} {a : Nat} {x1 : Int32} {x2 : Int32} {y : zX} (hL : zXx h a) (hf : fX0_tableAt h a x1 x2 = some y) : zC l yX0_tableAt (wsW_ yX0_tableAt cX0_tableAt 7 (some (.object "CodeExchange$Table")) [(6, 12, 15, 138), (24, 31, 34, 148)]) 121 [.ref a, .int x1, .int x2] h y :=
  z_startW (by decide) (Nat.le_of_ble_eq_true rfl) (zX0_tableAt (F := (l, 121, h, y)) (Nat.le_refl _) hL hf rfl)
noncomputable def fX0_need (h : zH) (a : Nat) (x1 : Int32) (x2 : Int32) : Option (zX) := if x1 = 0 then (zb2 (fX0_refused h a x2) (fun v_2 h_3 => zb1 v_2 (fun b_4 => some ((.inr b_4, h_3))))) else (some ((.inl none, h)))
theorem zX0_need {F : zF} {h : zH} {a : Nat} {x1 : Int32} {x2 : Int32} {y : zX} (hD : 2 ≤ F.2.1) (hL : zXx h a) (hf : fX0_need h a x1 x2 = some y) (hM : (y : zX) = zEnd F) : Z F 3 cX0_need RX0 "need" none [] h 0 [(0, .ref a), (1, .int x1), (2, .int x2)] [] := by
  unfold fX0_need at hf
  refine z_iload_n 1 dX0_need_0 rfl rfl ?_
  refine z_if_ne 10 dX0_need_1 rfl hf (fun _ hf => ?_) (fun _ hf => ?_)
  · cases hf
    exact z_vret dX0_need_10 rfl hM
  · refine z_aload_n 0 dX0_need_4 rfl rfl ?_
    refine z_iload_n 2 dX0_need_5 rfl rfl ?_
    obtain ⟨v_2, h_3, hc_1, hf⟩ := zb2_some hf
    have hct := ctX0_refused (l := F.1) hL hc_1
    refine z_invVq suX0_140_0 hct ((hL.b 0 rfl).t 0 rfl) ⟨Nat.le_trans (by decide) hD, by decide⟩ rfl rfl (Nat.le_of_ble_eq_true rfl) dX0_need_6 ?_
    have hL := hL.ext hct.1
    obtain ⟨b_4, e9, hf9⟩ := zb1_some hf
    subst e9
    have hf := hf9
    refine z_athrow dX0_need_9 ?_
    cases hf
    exact zt_out rfl hM
theorem ctX0_need {l : Launch} {h : zH} {a : Nat} {x1 : Int32} {x2 : Int32} {y : zX} (hL : zXx h a) (hf : fX0_need h a x1 x2 = some y) : zC l yX0_need (ws_ yX0_need cX0_need 3 none) 2 [.ref a, .int x1, .int x2] h y :=
  z_start (by decide) (Nat.le_of_ble_eq_true rfl) (zX0_need (F := (l, 2, h, y)) (Nat.le_refl _) hL hf rfl)
theorem suX0_180_0 : zIv RX0 180 yX0_tableAt (wsW_ yX0_tableAt cX0_tableAt 7 (some (.object "CodeExchange$Table")) [(6, 12, 15, 138), (24, 31, 34, 148)]) 7 0 2 := ⟨(zGood_w q641 q97), ⟨_, _, rfl, rfl, qs4⟩, (Or.inl q638), q640, ⟨by decide, by decide⟩, by decide +kernel⟩
theorem suX0_184_0 : zIv RX0 184 yX0_need (ws_ yX0_need cX0_need 3 none) 3 0 2 := ⟨(zGood_c q725 q97), ⟨_, _, rfl, rfl, qs7⟩, (Or.inl q722), q724, ⟨by decide, by decide⟩, by decide +kernel⟩
theorem suX0_188_2 : zIv RX0 188 yX3_take (ws_ yX3_take cX3_take 3 none) 3 2 1 := ⟨(zGood_c q729 q103), ⟨_, _, rfl, rfl, q728⟩, (Or.inl q726), q727, ⟨by decide, by decide⟩, by decide +kernel⟩
noncomputable def fX0_derive_J22 (h : zH) (a : Nat) (x2 : Nat) (k0 : Int32) : Option (Int32 × zH) := zxv (fX0_need h a k0 ((-6))) (fun h_15 => zlet (zmk h_15 (3, 0) 27) (fun h_24 => zck (zOb 2 h_24 (zn h_15)) (zb1 (fX3_init h_24 (zn h_15)) (fun h_28 => zck (zCt [(tB, tP, zn h_15), (tB, tP, x2)] [] h_28) (zb1 (fX3_take h_28 (zn h_15) x2) (fun h_32 => zb2 (fX0_comes h_32 a (zn h_15)) (fun v_34 h_35 => some ((v_34, h_35))))))))) (fun e_16 h_17 => zck (zT h_17 e_16 = (2, 0)) (zck (zOb 1 h_17 e_16) (zb2 (fX0_answer h_17 a (zI h_17 e_16 6)) (fun v_22 h_23 => some ((v_22, h_23))))))
theorem zX0_derive_J22 {F : zF} {h : zH} {a : Nat} {x2 : Nat} {k0 : Int32} {y : Int32 × zH} (hD : 122 ≤ F.2.1) (hL : zXx h a) (hf : fX0_derive_J22 h a x2 k0 = some y) (hM : ((.inl (some (.int y.1)), y.2) : zX) = zEnd F) : Z F 4 cX0_derive RX0 "derive" (some .int) [(0, 45, 46, 18)] h 22 [(0, .ref a), (2, .ref x2)] [.int k0, .ref a] := by
  unfold fX0_derive_J22 at hf
  refine z_bipush (-6) dX0_derive_22 rfl ?_
  rcases zxv_some hf with ⟨h_15, hc_13, hf⟩ | ⟨e_16, h_17, hc_18, hf⟩
  rotate_left
  · have hct := ctX0_need (l := F.1) hL hc_18
    refine z_invVt suX0_184_0 hct ((hL.b 0 rfl).t 0 rfl) ⟨Nat.le_trans (by decide) hD, by decide⟩ rfl rfl (Nat.le_of_ble_eq_true rfl) dX0_derive_24 ?_
    have hL := hL.ext hct.1
    obtain ⟨ht_19, hf⟩ := zck_some hf
    refine zt_catch (q := (RX1, TX1, 7)) rfl (by decide) q129 rfl rfl ht_19 ?_
    refine z_astore_n dX0_derive_46 rfl (by decide) (lc' := [(0, .ref a), (2, .ref e_16)]) rfl ?_
    refine z_aload_n 0 dX0_derive_47 rfl rfl ?_
    refine z_aload_n 1 dX0_derive_48 rfl rfl ?_
    obtain ⟨hK_20, hf⟩ := zck_some hf
    refine z_geti fdX0_17_1 ((hK_20.b 0 rfl).t 0 rfl) dX0_derive_49 ?_
    obtain ⟨v_22, h_23, hc_21, hf⟩ := zb2_some hf
    have hct := ctX0_answer (l := F.1) hL hc_21
    refine z_invVi suX0_163_0 hct ((hL.b 0 rfl).t 0 rfl) ⟨Nat.le_trans (by decide) hD, by decide⟩ rfl rfl (Nat.le_of_ble_eq_true rfl) dX0_derive_52 ?_
    have hL := hL.ext hct.1
    have hK_20 := hK_20.ext hct.1
    cases hf
    exact z_iret dX0_derive_55 rfl hM
  have hct := ctX0_need (l := F.1) hL hc_13
  refine z_invVv suX0_184_0 hct ((hL.b 0 rfl).t 0 rfl) ⟨Nat.le_trans (by decide) hD, by decide⟩ rfl rfl (Nat.le_of_ble_eq_true rfl) dX0_derive_24 ?_
  have hL := hL.ext hct.1
  obtain ⟨h_24, he, hf⟩ := zlet_some hf
  refine z_new (q := (RX3, TX3, 27)) q214 q215 q103 rfl rfl he dX0_derive_27 ?_
  have hL := hL.mk he
  refine z_dup dX0_derive_30 rfl ?_
  obtain ⟨hK_25, hf⟩ := zck_some hf
  obtain ⟨h_28, hc_26, hf⟩ := zb1_some hf
  have hct := ctX3_init (l := F.1) hK_25 hc_26
  refine z_invIv siX0_44_2 hct ⟨Nat.le_trans (by decide) hD, by decide⟩ rfl rfl (Nat.le_of_ble_eq_true rfl) dX0_derive_31 ?_
  have hL := hL.ext hct.1
  have hK_25 := hK_25.ext hct.1
  refine z_astore_n dX0_derive_34 rfl (by decide) (lc' := [(0, .ref a), (2, .ref x2), (3, .ref (zn h_15))]) rfl ?_
  refine z_aload_n 2 dX0_derive_35 rfl rfl ?_
  refine z_aload_n 1 dX0_derive_36 rfl rfl ?_
  obtain ⟨hK_29, hf⟩ := zck_some hf
  obtain ⟨h_32, hc_30, hf⟩ := zb1_some hf
  have hct := ctX3_take (l := F.1) hK_29 hc_30
  refine z_invVv suX0_188_2 hct ((hK_29.b 0 rfl).t 0 rfl) ⟨Nat.le_trans (by decide) hD, by decide⟩ rfl rfl (Nat.le_of_ble_eq_true rfl) dX0_derive_37 ?_
  have hL := hL.ext hct.1
  have hK_25 := hK_25.ext hct.1
  have hK_29 := hK_29.ext hct.1
  refine z_aload_n 0 dX0_derive_40 rfl rfl ?_
  refine z_aload_n 2 dX0_derive_41 rfl rfl ?_
  obtain ⟨v_34, h_35, hc_33, hf⟩ := zb2_some hf
  have hct := ctX0_comes (l := F.1) hL hc_33
  refine z_invVi suX0_176_0 hct ((hL.b 0 rfl).t 0 rfl) ⟨Nat.le_trans (by decide) hD, by decide⟩ rfl rfl (Nat.le_of_ble_eq_true rfl) dX0_derive_42 ?_
  have hL := hL.ext hct.1
  have hK_25 := hK_25.ext hct.1
  have hK_29 := hK_29.ext hct.1
  cases hf
  exact z_iret dX0_derive_45 rfl hM
noncomputable def fX0_derive (h : zH) (a : Nat) (x1 : Int32) : Option (Int32 × zH) := zxr (fX0_tableAt h a x1 1) (fun v_2 h_3 => zb1 v_2 (fun b_12 => if 10 ≤ (zI h_3 a 2) then (fX0_derive_J22 h_3 a b_12 0) else (fX0_derive_J22 h_3 a b_12 1))) (fun e_4 h_5 => zck (zT h_5 e_4 = (2, 0)) (zck (zOb 1 h_5 e_4) (zb2 (fX0_answer h_5 a (zI h_5 e_4 6)) (fun v_10 h_11 => some ((v_10, h_11))))))
theorem zX0_derive {F : zF} {h : zH} {a : Nat} {x1 : Int32} {y : Int32 × zH} (hD : 122 ≤ F.2.1) (hL : zXx h a) (hf : fX0_derive h a x1 = some y) (hM : ((.inl (some (.int y.1)), y.2) : zX) = zEnd F) : Z F 4 cX0_derive RX0 "derive" (some .int) [(0, 45, 46, 18)] h 0 [(0, .ref a), (1, .int x1)] [] := by
  unfold fX0_derive at hf
  refine z_aload_n 0 dX0_derive_0 rfl rfl ?_
  refine z_iload_n 1 dX0_derive_1 rfl rfl ?_
  refine z_iconst 1 dX0_derive_2 rfl ?_
  rcases zxr_some hf with ⟨v_2, h_3, hc_1, hf⟩ | ⟨e_4, h_5, hc_6, hf⟩
  rotate_left
  · have hct := ctX0_tableAt (l := F.1) hL hc_6
    refine z_invVt suX0_180_0 hct ((hL.b 0 rfl).t 0 rfl) ⟨Nat.le_trans (by decide) hD, by decide⟩ rfl rfl (Nat.le_of_ble_eq_true rfl) dX0_derive_3 ?_
    have hL := hL.ext hct.1
    obtain ⟨ht_7, hf⟩ := zck_some hf
    refine zt_catch (q := (RX1, TX1, 7)) rfl (by decide) q129 rfl rfl ht_7 ?_
    refine z_astore_n dX0_derive_46 rfl (by decide) (lc' := [(0, .ref a), (1, .int x1), (2, .ref e_4)]) rfl ?_
    refine z_aload_n 0 dX0_derive_47 rfl rfl ?_
    refine z_aload_n 2 dX0_derive_48 rfl rfl ?_
    obtain ⟨hK_8, hf⟩ := zck_some hf
    refine z_geti fdX0_17_1 ((hK_8.b 0 rfl).t 0 rfl) dX0_derive_49 ?_
    obtain ⟨v_10, h_11, hc_9, hf⟩ := zb2_some hf
    have hct := ctX0_answer (l := F.1) hL hc_9
    refine z_invVi suX0_163_0 hct ((hL.b 0 rfl).t 0 rfl) ⟨Nat.le_trans (by decide) hD, by decide⟩ rfl rfl (Nat.le_of_ble_eq_true rfl) dX0_derive_52 ?_
    have hL := hL.ext hct.1
    have hK_8 := hK_8.ext hct.1
    cases hf
    exact z_iret dX0_derive_55 rfl hM
  have hct := ctX0_tableAt (l := F.1) hL hc_1
  refine z_invVq suX0_180_0 hct ((hL.b 0 rfl).t 0 rfl) ⟨Nat.le_trans (by decide) hD, by decide⟩ rfl rfl (Nat.le_of_ble_eq_true rfl) dX0_derive_3 ?_
  have hL := hL.ext hct.1
  obtain ⟨b_12, e9, hf9⟩ := zb1_some hf
  subst e9
  have hf := hf9
  refine z_astore_n dX0_derive_6 rfl (by decide) (lc' := [(0, .ref a), (1, .int x1), (2, .ref b_12)]) rfl ?_
  refine z_aload_n 0 dX0_derive_7 rfl rfl ?_
  refine z_aload_n 0 dX0_derive_8 rfl rfl ?_
  refine z_geti fdX0_160_0 ((hL.b 0 rfl).t 0 rfl) dX0_derive_9 ?_
  refine z_bipush 10 dX0_derive_12 rfl ?_
  refine z_icmp_ge 21 dX0_derive_14 rfl hf (fun _ hf => ?_) (fun _ hf => ?_)
  · refine z_iconst 0 dX0_derive_21 rfl ?_
    refine z_sub [0, 2] rfl ?_
    exact zX0_derive_J22 hD hL hf hM
  · refine z_iconst 1 dX0_derive_17 rfl ?_
    refine z_goto 22 dX0_derive_18 rfl ?_
    refine z_sub [0, 2] rfl ?_
    exact zX0_derive_J22 hD hL hf hM
theorem ctX0_derive {l : Launch} {h : zH} {a : Nat} {x1 : Int32} {v : Int32} {h' : zH} (hL : zXx h a) (hf : fX0_derive h a x1 = some (v, h')) : zC l yX0_derive (wsW_ yX0_derive cX0_derive 4 (some .int) [(0, 45, 46, 18)]) 122 [.ref a, .int x1] h (.inl (some (.int v)), h') :=
  z_startW (by decide) (Nat.le_of_ble_eq_true rfl) (zX0_derive (F := (l, 122, h, (.inl (some (.int v)), h'))) (Nat.le_refl _) hL hf rfl)
noncomputable def fX0_isText (x0 : Int32) (x1 : Int32) (x2 : Int32) : Option (Int32) := zb1 (fX0_in x0 0 3) (fun v_2 => if v_2 = 0 then (some 0) else (zb1 (fX0_in x2 1 3) (fun v_5 => if v_5 = 0 then (some 0) else (zb1 (fX0_in x1 0 (((1 : Int32) <<< (((8 : Int32) * x2) &&& 31)) - 1)) (fun v_8 => if v_8 = 0 then (some 0) else (some 1))))))
theorem zX0_isText {F : zF} {h : zH} {x0 : Int32} {x1 : Int32} {x2 : Int32} {y : Int32} (hD : 2 ≤ F.2.1) (hf : fX0_isText x0 x1 x2 = some y) (hM : ((.inl (some (.int y)), h) : zX) = zEnd F) : Z F 3 cX0_isText RX0 "isText" (some .boolean) [] h 0 [(0, .int x0), (1, .int x1), (2, .int x2)] [] := by
  unfold fX0_isText at hf
  refine z_iload_n 0 dX0_isText_0 rfl rfl ?_
  refine z_iconst 0 dX0_isText_1 rfl ?_
  refine z_iconst 3 dX0_isText_2 rfl ?_
  obtain ⟨v_2, hc_1, hf⟩ := zb1_some hf
  refine z_invSi suX0_4_s (ctX0_in hc_1) ⟨Nat.le_trans (by decide) hD, by decide⟩ rfl rfl (Nat.le_of_ble_eq_true rfl) dX0_isText_3 ?_
  refine z_if_eq 38 dX0_isText_6 rfl hf (fun _ hf => ?_) (fun _ hf => ?_)
  · refine z_iconst 0 dX0_isText_38 rfl ?_
    cases hf
    exact z_zret dX0_isText_39 rfl (Or.inl rfl) hM
  · refine z_iload_n 2 dX0_isText_9 rfl rfl ?_
    refine z_iconst 1 dX0_isText_10 rfl ?_
    refine z_iconst 3 dX0_isText_11 rfl ?_
    obtain ⟨v_5, hc_4, hf⟩ := zb1_some hf
    refine z_invSi suX0_4_s (ctX0_in hc_4) ⟨Nat.le_trans (by decide) hD, by decide⟩ rfl rfl (Nat.le_of_ble_eq_true rfl) dX0_isText_12 ?_
    refine z_if_eq 38 dX0_isText_15 rfl hf (fun _ hf => ?_) (fun _ hf => ?_)
    · refine z_iconst 0 dX0_isText_38 rfl ?_
      cases hf
      exact z_zret dX0_isText_39 rfl (Or.inl rfl) hM
    · refine z_iload_n 1 dX0_isText_18 rfl rfl ?_
      refine z_iconst 0 dX0_isText_19 rfl ?_
      refine z_iconst 1 dX0_isText_20 rfl ?_
      refine z_bipush 8 dX0_isText_21 rfl ?_
      refine z_iload_n 2 dX0_isText_23 rfl rfl ?_
      refine z_imul dX0_isText_24 ?_
      refine z_ishl dX0_isText_25 ?_
      refine z_iconst 1 dX0_isText_26 rfl ?_
      refine z_isub dX0_isText_27 ?_
      obtain ⟨v_8, hc_7, hf⟩ := zb1_some hf
      refine z_invSi suX0_4_s (ctX0_in hc_7) ⟨Nat.le_trans (by decide) hD, by decide⟩ rfl rfl (Nat.le_of_ble_eq_true rfl) dX0_isText_28 ?_
      refine z_if_eq 38 dX0_isText_31 rfl hf (fun _ hf => ?_) (fun _ hf => ?_)
      · refine z_iconst 0 dX0_isText_38 rfl ?_
        cases hf
        exact z_zret dX0_isText_39 rfl (Or.inl rfl) hM
      · refine z_iconst 1 dX0_isText_34 rfl ?_
        refine z_goto 39 dX0_isText_35 rfl ?_
        cases hf
        exact z_zret dX0_isText_39 rfl (Or.inr rfl) hM
theorem ctX0_isText {l : Launch} {h : zH} {x0 : Int32} {x1 : Int32} {x2 : Int32} {v : Int32} (hf : fX0_isText x0 x1 x2 = some v) : zC l yX0_isText (ws_ yX0_isText cX0_isText 3 (some .boolean)) 2 [.int x0, .int x1, .int x2] h (.inl (some (.int v)), h) :=
  z_start (by decide) (Nat.le_of_ble_eq_true rfl) (zX0_isText (F := (l, 2, h, (.inl (some (.int v)), h))) (Nat.le_refl _) hf rfl)
noncomputable def fX0_isPoint (x0 : Int32) : Option (Int32) := zb1 (fX0_in x0 0 1114111) (fun v_2 => if v_2 = 0 then (some 0) else (zb1 (fX0_in x0 55296 57343) (fun v_5 => if v_5 = 0 then (some 1) else (some 0))))
theorem zX0_isPoint {F : zF} {h : zH} {x0 : Int32} {y : Int32} (hD : 2 ≤ F.2.1) (hf : fX0_isPoint x0 = some y) (hM : ((.inl (some (.int y)), h) : zX) = zEnd F) : Z F 1 cX0_isPoint RX0 "isPoint" (some .boolean) [] h 0 [(0, .int x0)] [] := by
  unfold fX0_isPoint at hf
  refine z_iload_n 0 dX0_isPoint_0 rfl rfl ?_
  refine z_iconst 0 dX0_isPoint_1 rfl ?_
  refine z_ldc q748 dX0_isPoint_2 ?_
  obtain ⟨v_2, hc_1, hf⟩ := zb1_some hf
  refine z_invSi suX0_4_s (ctX0_in hc_1) ⟨Nat.le_trans (by decide) hD, by decide⟩ rfl rfl (Nat.le_of_ble_eq_true rfl) dX0_isPoint_4 ?_
  refine z_if_eq 25 dX0_isPoint_7 rfl hf (fun _ hf => ?_) (fun _ hf => ?_)
  · refine z_iconst 0 dX0_isPoint_25 rfl ?_
    cases hf
    exact z_zret dX0_isPoint_26 rfl (Or.inl rfl) hM
  · refine z_iload_n 0 dX0_isPoint_10 rfl rfl ?_
    refine z_ldc q749 dX0_isPoint_11 ?_
    refine z_ldc q750 dX0_isPoint_13 ?_
    obtain ⟨v_5, hc_4, hf⟩ := zb1_some hf
    refine z_invSi suX0_4_s (ctX0_in hc_4) ⟨Nat.le_trans (by decide) hD, by decide⟩ rfl rfl (Nat.le_of_ble_eq_true rfl) dX0_isPoint_15 ?_
    refine z_if_ne 25 dX0_isPoint_18 rfl hf (fun _ hf => ?_) (fun _ hf => ?_)
    · refine z_iconst 0 dX0_isPoint_25 rfl ?_
      cases hf
      exact z_zret dX0_isPoint_26 rfl (Or.inl rfl) hM
    · refine z_iconst 1 dX0_isPoint_21 rfl ?_
      refine z_goto 26 dX0_isPoint_22 rfl ?_
      cases hf
      exact z_zret dX0_isPoint_26 rfl (Or.inr rfl) hM
theorem ctX0_isPoint {l : Launch} {h : zH} {x0 : Int32} {v : Int32} (hf : fX0_isPoint x0 = some v) : zC l yX0_isPoint (ws_ yX0_isPoint cX0_isPoint 1 (some .boolean)) 2 [.int x0] h (.inl (some (.int v)), h) :=
  z_start (by decide) (Nat.le_of_ble_eq_true rfl) (zX0_isPoint (F := (l, 2, h, (.inl (some (.int v)), h))) (Nat.le_refl _) hf rfl)
theorem suX0_192_s : zIs RX0 192 yX0_isText (ws_ yX0_isText cX0_isText 3 (some .boolean)) 3 3 := ⟨(zGood_c q744 q97), (Or.inl q742), q743, ⟨by decide, by decide⟩, by decide +kernel⟩
theorem suX0_199_2 : zIv RX0 199 yX3_find (ws_ yX3_find cX3_find 5 (some .int)) 5 2 3 := ⟨(zGood_c q754 q103), ⟨_, _, rfl, rfl, q753⟩, (Or.inl q751), q752, ⟨by decide, by decide⟩, by decide +kernel⟩
theorem suX0_206_2 : zIv RX0 206 yX3_set (ws_ yX3_set cX3_set 7 none) 7 2 6 := ⟨(zGood_c q733 q103), ⟨_, _, rfl, rfl, q732⟩, (Or.inl q755), q731, ⟨by decide, by decide⟩, by decide +kernel⟩
noncomputable def fX0_entry_J124 (h : zH) (a : Nat) (x2 : Int32) (x3 : Int32) (x4 : Int32) (x5 : Int32) (x6 : Nat) (x7 : Int32) (x8 : Int32) (x9 : Int32) : Option (Int32 × zH) := if x5 < 0 then (zck (zTb h x6) (zb1 (fX3_set h x6 x8 x2 x3 x4 x7 0) (fun h_45 => if x9 = 0 then (some ((0, h_45))) else (some ((1, h_45)))))) else (zck (zTb h x6) (zb1 (fX3_set h x6 x8 x2 x3 x4 x7 1) (fun h_49 => if x9 = 0 then (some ((0, h_49))) else (some ((1, h_49))))))
theorem zX0_entry_J124 {F : zF} {h : zH} {a : Nat} {x2 : Int32} {x3 : Int32} {x4 : Int32} {x5 : Int32} {x6 : Nat} {x7 : Int32} {x8 : Int32} {x9 : Int32} {y : Int32 × zH} (hD : 122 ≤ F.2.1) (hL : zXx h a) (hf : fX0_entry_J124 h a x2 x3 x4 x5 x6 x7 x8 x9 = some y) (hM : ((.inl (some (.int y.1)), y.2) : zX) = zEnd F) : Z F 10 cX0_entry RX0 "entry" (some .int) [(0, 157, 158, 18)] h 124 [(0, .ref a), (2, .int x2), (3, .int x3), (4, .int x4), (5, .int x5), (6, .ref x6), (7, .int x7), (8, .int x8), (9, .int x9)] [] := by
  unfold fX0_entry_J124 at hf
  refine z_aload 5 dX0_entry_124 rfl ?_
  refine z_iload 7 dX0_entry_126 rfl ?_
  refine z_iload_n 1 dX0_entry_128 rfl rfl ?_
  refine z_iload_n 2 dX0_entry_129 rfl rfl ?_
  refine z_iload 3 dX0_entry_130 rfl ?_
  refine z_iload 6 dX0_entry_132 rfl ?_
  refine z_iload 4 dX0_entry_134 rfl ?_
  refine z_if_lt 143 dX0_entry_136 rfl hf (fun _ hf => ?_) (fun _ hf => ?_)
  · refine z_iconst 0 dX0_entry_143 rfl ?_
    obtain ⟨hK_42, hf⟩ := zck_some hf
    obtain ⟨h_45, hc_43, hf⟩ := zb1_some hf
    have hct := ctX3_set (l := F.1) hK_42 hc_43
    refine z_invVv suX0_206_2 hct ((hK_42.b 0 rfl).t 0 rfl) ⟨Nat.le_trans (by decide) hD, by decide⟩ rfl rfl (Nat.le_of_ble_eq_true rfl) dX0_entry_144 ?_
    have hL := hL.ext hct.1
    have hK_42 := hK_42.ext hct.1
    refine z_iload 8 dX0_entry_147 rfl ?_
    refine z_if_eq 156 dX0_entry_149 rfl hf (fun _ hf => ?_) (fun _ hf => ?_)
    · refine z_iconst 0 dX0_entry_156 rfl ?_
      cases hf
      exact z_iret dX0_entry_157 rfl hM
    · refine z_iconst 1 dX0_entry_152 rfl ?_
      refine z_goto 157 dX0_entry_153 rfl ?_
      cases hf
      exact z_iret dX0_entry_157 rfl hM
  · refine z_iconst 1 dX0_entry_139 rfl ?_
    refine z_goto 144 dX0_entry_140 rfl ?_
    obtain ⟨hK_46, hf⟩ := zck_some hf
    obtain ⟨h_49, hc_47, hf⟩ := zb1_some hf
    have hct := ctX3_set (l := F.1) hK_46 hc_47
    refine z_invVv suX0_206_2 hct ((hK_46.b 0 rfl).t 0 rfl) ⟨Nat.le_trans (by decide) hD, by decide⟩ rfl rfl (Nat.le_of_ble_eq_true rfl) dX0_entry_144 ?_
    have hL := hL.ext hct.1
    have hK_46 := hK_46.ext hct.1
    refine z_iload 8 dX0_entry_147 rfl ?_
    refine z_if_eq 156 dX0_entry_149 rfl hf (fun _ hf => ?_) (fun _ hf => ?_)
    · refine z_iconst 0 dX0_entry_156 rfl ?_
      cases hf
      exact z_iret dX0_entry_157 rfl hM
    · refine z_iconst 1 dX0_entry_152 rfl ?_
      refine z_goto 157 dX0_entry_153 rfl ?_
      cases hf
      exact z_iret dX0_entry_157 rfl hM
theorem fdX0_203_2 : zFd RX0 203 2 4 .int false := ⟨_, _, _, rfl, rfl, by decide, rfl, rfl, Or.inr ⟨_, q228⟩, Or.inl rfl⟩
noncomputable def fX0_entry_J96 (h : zH) (a : Nat) (x2 : Int32) (x3 : Int32) (x4 : Int32) (x5 : Int32) (x6 : Nat) (x7 : Int32) (x8 : Int32) (x9 : Int32) (k0 : Int32) : Option (Int32 × zH) := zxv (fX0_need h a k0 ((-6))) (fun h_33 => if x9 = 0 then (zck (zTb h_33 x6) (zlet (zsI h_33 x6 4 ((zI h_33 x6 4) + 1)) (fun h_51 => fX0_entry_J124 h_51 a x2 x3 x4 x5 x6 x7 (zI h_33 x6 4) x9))) else (fX0_entry_J124 h_33 a x2 x3 x4 x5 x6 x7 x8 x9)) (fun e_34 h_35 => zck (zT h_35 e_34 = (2, 0)) (zck (zOb 1 h_35 e_34) (zb2 (fX0_answer h_35 a (zI h_35 e_34 6)) (fun v_40 h_41 => some ((v_40, h_41))))))
theorem zX0_entry_J96 {F : zF} {h : zH} {a : Nat} {x2 : Int32} {x3 : Int32} {x4 : Int32} {x5 : Int32} {x6 : Nat} {x7 : Int32} {x8 : Int32} {x9 : Int32} {k0 : Int32} {y : Int32 × zH} (hD : 122 ≤ F.2.1) (hL : zXx h a) (hf : fX0_entry_J96 h a x2 x3 x4 x5 x6 x7 x8 x9 k0 = some y) (hM : ((.inl (some (.int y.1)), y.2) : zX) = zEnd F) : Z F 10 cX0_entry RX0 "entry" (some .int) [(0, 157, 158, 18)] h 96 [(0, .ref a), (2, .int x2), (3, .int x3), (4, .int x4), (5, .int x5), (6, .ref x6), (7, .int x7), (8, .int x8), (9, .int x9)] [.int k0, .ref a] := by
  unfold fX0_entry_J96 at hf
  refine z_bipush (-6) dX0_entry_96 rfl ?_
  rcases zxv_some hf with ⟨h_33, hc_31, hf⟩ | ⟨e_34, h_35, hc_36, hf⟩
  rotate_left
  · have hct := ctX0_need (l := F.1) hL hc_36
    refine z_invVt suX0_184_0 hct ((hL.b 0 rfl).t 0 rfl) ⟨Nat.le_trans (by decide) hD, by decide⟩ rfl rfl (Nat.le_of_ble_eq_true rfl) dX0_entry_98 ?_
    have hL := hL.ext hct.1
    obtain ⟨ht_37, hf⟩ := zck_some hf
    refine zt_catch (q := (RX1, TX1, 7)) rfl (by decide) q129 rfl rfl ht_37 ?_
    refine z_astore dX0_entry_158 (by decide) (lc' := [(0, .ref a), (2, .int x2), (3, .int x3), (4, .int x4), (5, .int x5), (6, .ref e_34), (7, .int x7), (8, .int x8), (9, .int x9)]) rfl ?_
    refine z_aload_n 0 dX0_entry_160 rfl rfl ?_
    refine z_aload 5 dX0_entry_161 rfl ?_
    obtain ⟨hK_38, hf⟩ := zck_some hf
    refine z_geti fdX0_17_1 ((hK_38.b 0 rfl).t 0 rfl) dX0_entry_163 ?_
    obtain ⟨v_40, h_41, hc_39, hf⟩ := zb2_some hf
    have hct := ctX0_answer (l := F.1) hL hc_39
    refine z_invVi suX0_163_0 hct ((hL.b 0 rfl).t 0 rfl) ⟨Nat.le_trans (by decide) hD, by decide⟩ rfl rfl (Nat.le_of_ble_eq_true rfl) dX0_entry_166 ?_
    have hL := hL.ext hct.1
    have hK_38 := hK_38.ext hct.1
    cases hf
    exact z_iret dX0_entry_169 rfl hM
  have hct := ctX0_need (l := F.1) hL hc_31
  refine z_invVv suX0_184_0 hct ((hL.b 0 rfl).t 0 rfl) ⟨Nat.le_trans (by decide) hD, by decide⟩ rfl rfl (Nat.le_of_ble_eq_true rfl) dX0_entry_98 ?_
  have hL := hL.ext hct.1
  refine z_iload 8 dX0_entry_101 rfl ?_
  refine z_if_ne 124 dX0_entry_103 rfl hf (fun _ hf => ?_) (fun _ hf => ?_)
  · exact zX0_entry_J124 hD hL hf hM
  · refine z_aload 5 dX0_entry_106 rfl ?_
    obtain ⟨hK_50, hf⟩ := zck_some hf
    refine z_geti fdX0_203_2 ((hK_50.b 0 rfl).t 0 rfl) dX0_entry_108 ?_
    refine z_istore dX0_entry_111 (by decide) (lc' := [(0, .ref a), (2, .int x2), (3, .int x3), (4, .int x4), (5, .int x5), (6, .ref x6), (7, .int x7), (8, .int (zI h_33 x6 4)), (9, .int x9)]) rfl ?_
    refine z_aload 5 dX0_entry_113 rfl ?_
    refine z_dup dX0_entry_115 rfl ?_
    refine z_geti fdX0_203_2 ((hK_50.b 0 rfl).t 0 rfl) dX0_entry_116 ?_
    refine z_iconst 1 dX0_entry_119 rfl ?_
    refine z_iadd dX0_entry_120 ?_
    obtain ⟨h_51, he, hf⟩ := zlet_some hf
    refine z_puti fdX0_203_2 ((hK_50.b 0 rfl).t 0 rfl) ((hK_50.b 0 rfl).nz 0) he dX0_entry_121 ?_
    have hL := hL.I he
    have hK_50 := hK_50.I he
    exact zX0_entry_J124 hD hL hf hM
noncomputable def fX0_entry_J91 (h : zH) (a : Nat) (x2 : Int32) (x3 : Int32) (x4 : Int32) (x5 : Int32) (x6 : Nat) (x7 : Int32) (x8 : Int32) (x9 : Int32) : Option (Int32 × zH) := fX0_entry_J96 h a x2 x3 x4 x5 x6 x7 x8 x9 1
theorem zX0_entry_J91 {F : zF} {h : zH} {a : Nat} {x2 : Int32} {x3 : Int32} {x4 : Int32} {x5 : Int32} {x6 : Nat} {x7 : Int32} {x8 : Int32} {x9 : Int32} {y : Int32 × zH} (hD : 122 ≤ F.2.1) (hL : zXx h a) (hf : fX0_entry_J91 h a x2 x3 x4 x5 x6 x7 x8 x9 = some y) (hM : ((.inl (some (.int y.1)), y.2) : zX) = zEnd F) : Z F 10 cX0_entry RX0 "entry" (some .int) [(0, 157, 158, 18)] h 91 [(0, .ref a), (2, .int x2), (3, .int x3), (4, .int x4), (5, .int x5), (6, .ref x6), (7, .int x7), (8, .int x8), (9, .int x9)] [.ref a] := by
  unfold fX0_entry_J91 at hf
  refine z_iconst 1 dX0_entry_91 rfl ?_
  refine z_goto 96 dX0_entry_92 rfl ?_
  exact zX0_entry_J96 hD hL hf hM
noncomputable def fX0_entry_J73 (h : zH) (a : Nat) (x2 : Int32) (x3 : Int32) (x4 : Int32) (x5 : Int32) (x6 : Nat) (x7 : Int32) (x8 : Int32) (k0 : Int32) : Option (Int32 × zH) := if k0 = 0 then (zck (zTb h x6) (if 100 ≤ (zI h x6 4) then (fX0_entry_J96 h a x2 x3 x4 x5 x6 x7 x8 k0 0) else (fX0_entry_J91 h a x2 x3 x4 x5 x6 x7 x8 k0))) else (fX0_entry_J91 h a x2 x3 x4 x5 x6 x7 x8 k0)
theorem zX0_entry_J73 {F : zF} {h : zH} {a : Nat} {x2 : Int32} {x3 : Int32} {x4 : Int32} {x5 : Int32} {x6 : Nat} {x7 : Int32} {x8 : Int32} {k0 : Int32} {y : Int32 × zH} (hD : 122 ≤ F.2.1) (hL : zXx h a) (hf : fX0_entry_J73 h a x2 x3 x4 x5 x6 x7 x8 k0 = some y) (hM : ((.inl (some (.int y.1)), y.2) : zX) = zEnd F) : Z F 10 cX0_entry RX0 "entry" (some .int) [(0, 157, 158, 18)] h 73 [(0, .ref a), (2, .int x2), (3, .int x3), (4, .int x4), (5, .int x5), (6, .ref x6), (7, .int x7), (8, .int x8)] [.int k0] := by
  unfold fX0_entry_J73 at hf
  refine z_istore dX0_entry_73 (by decide) (lc' := [(0, .ref a), (2, .int x2), (3, .int x3), (4, .int x4), (5, .int x5), (6, .ref x6), (7, .int x7), (8, .int x8), (9, .int k0)]) rfl ?_
  refine z_aload_n 0 dX0_entry_75 rfl rfl ?_
  refine z_iload 8 dX0_entry_76 rfl ?_
  refine z_if_ne 91 dX0_entry_78 rfl hf (fun _ hf => ?_) (fun _ hf => ?_)
  · exact zX0_entry_J91 hD hL hf hM
  · refine z_aload 5 dX0_entry_81 rfl ?_
    obtain ⟨hK_52, hf⟩ := zck_some hf
    refine z_geti fdX0_203_2 ((hK_52.b 0 rfl).t 0 rfl) dX0_entry_83 ?_
    refine z_bipush 100 dX0_entry_86 rfl ?_
    refine z_icmp_ge 95 dX0_entry_88 rfl hf (fun _ hf => ?_) (fun _ hf => ?_)
    · refine z_iconst 0 dX0_entry_95 rfl ?_
      exact zX0_entry_J96 hD hL hf hM
    · exact zX0_entry_J91 hD hL hf hM
noncomputable def fX0_entry_J48 (h : zH) (a : Nat) (x2 : Int32) (x3 : Int32) (x4 : Int32) (x5 : Int32) (x6 : Nat) (x7 : Int32) (k0 : Int32) : Option (Int32 × zH) := zxv (fX0_need h a k0 ((-1))) (fun h_18 => zck (zTb h_18 x6) (zb1 (fX3_find h_18 x6 x2 x3 x4) (fun v_29 => if v_29 < 0 then (fX0_entry_J73 h_18 a x2 x3 x4 x5 x6 x7 v_29 0) else (fX0_entry_J73 h_18 a x2 x3 x4 x5 x6 x7 v_29 1)))) (fun e_19 h_20 => zck (zT h_20 e_19 = (2, 0)) (zck (zOb 1 h_20 e_19) (zb2 (fX0_answer h_20 a (zI h_20 e_19 6)) (fun v_25 h_26 => some ((v_25, h_26))))))
theorem zX0_entry_J48 {F : zF} {h : zH} {a : Nat} {x2 : Int32} {x3 : Int32} {x4 : Int32} {x5 : Int32} {x6 : Nat} {x7 : Int32} {k0 : Int32} {y : Int32 × zH} (hD : 122 ≤ F.2.1) (hL : zXx h a) (hf : fX0_entry_J48 h a x2 x3 x4 x5 x6 x7 k0 = some y) (hM : ((.inl (some (.int y.1)), y.2) : zX) = zEnd F) : Z F 10 cX0_entry RX0 "entry" (some .int) [(0, 157, 158, 18)] h 48 [(0, .ref a), (2, .int x2), (3, .int x3), (4, .int x4), (5, .int x5), (6, .ref x6), (7, .int x7)] [.int k0, .ref a] := by
  unfold fX0_entry_J48 at hf
  refine z_iconst (-1) dX0_entry_48 rfl ?_
  rcases zxv_some hf with ⟨h_18, hc_16, hf⟩ | ⟨e_19, h_20, hc_21, hf⟩
  rotate_left
  · have hct := ctX0_need (l := F.1) hL hc_21
    refine z_invVt suX0_184_0 hct ((hL.b 0 rfl).t 0 rfl) ⟨Nat.le_trans (by decide) hD, by decide⟩ rfl rfl (Nat.le_of_ble_eq_true rfl) dX0_entry_49 ?_
    have hL := hL.ext hct.1
    obtain ⟨ht_22, hf⟩ := zck_some hf
    refine zt_catch (q := (RX1, TX1, 7)) rfl (by decide) q129 rfl rfl ht_22 ?_
    refine z_astore dX0_entry_158 (by decide) (lc' := [(0, .ref a), (2, .int x2), (3, .int x3), (4, .int x4), (5, .int x5), (6, .ref e_19), (7, .int x7)]) rfl ?_
    refine z_aload_n 0 dX0_entry_160 rfl rfl ?_
    refine z_aload 5 dX0_entry_161 rfl ?_
    obtain ⟨hK_23, hf⟩ := zck_some hf
    refine z_geti fdX0_17_1 ((hK_23.b 0 rfl).t 0 rfl) dX0_entry_163 ?_
    obtain ⟨v_25, h_26, hc_24, hf⟩ := zb2_some hf
    have hct := ctX0_answer (l := F.1) hL hc_24
    refine z_invVi suX0_163_0 hct ((hL.b 0 rfl).t 0 rfl) ⟨Nat.le_trans (by decide) hD, by decide⟩ rfl rfl (Nat.le_of_ble_eq_true rfl) dX0_entry_166 ?_
    have hL := hL.ext hct.1
    have hK_23 := hK_23.ext hct.1
    cases hf
    exact z_iret dX0_entry_169 rfl hM
  have hct := ctX0_need (l := F.1) hL hc_16
  refine z_invVv suX0_184_0 hct ((hL.b 0 rfl).t 0 rfl) ⟨Nat.le_trans (by decide) hD, by decide⟩ rfl rfl (Nat.le_of_ble_eq_true rfl) dX0_entry_49 ?_
  have hL := hL.ext hct.1
  refine z_aload 5 dX0_entry_52 rfl ?_
  refine z_iload_n 1 dX0_entry_54 rfl rfl ?_
  refine z_iload_n 2 dX0_entry_55 rfl rfl ?_
  refine z_iload 3 dX0_entry_56 rfl ?_
  obtain ⟨hK_27, hf⟩ := zck_some hf
  obtain ⟨v_29, hc_28, hf⟩ := zb1_some hf
  refine z_invVi suX0_199_2 (ctX3_find hK_27 hc_28) ((hK_27.b 0 rfl).t 0 rfl) ⟨Nat.le_trans (by decide) hD, by decide⟩ rfl rfl (Nat.le_of_ble_eq_true rfl) dX0_entry_58 ?_
  refine z_istore dX0_entry_61 (by decide) (lc' := [(0, .ref a), (2, .int x2), (3, .int x3), (4, .int x4), (5, .int x5), (6, .ref x6), (7, .int x7), (8, .int v_29)]) rfl ?_
  refine z_iload 7 dX0_entry_63 rfl ?_
  refine z_if_lt 72 dX0_entry_65 rfl hf (fun _ hf => ?_) (fun _ hf => ?_)
  · refine z_iconst 0 dX0_entry_72 rfl ?_
    exact zX0_entry_J73 hD hL hf hM
  · refine z_iconst 1 dX0_entry_68 rfl ?_
    refine z_goto 73 dX0_entry_69 rfl ?_
    exact zX0_entry_J73 hD hL hf hM
noncomputable def fX0_entry_J47 (h : zH) (a : Nat) (x2 : Int32) (x3 : Int32) (x4 : Int32) (x5 : Int32) (x6 : Nat) (x7 : Int32) : Option (Int32 × zH) := fX0_entry_J48 h a x2 x3 x4 x5 x6 x7 0
theorem zX0_entry_J47 {F : zF} {h : zH} {a : Nat} {x2 : Int32} {x3 : Int32} {x4 : Int32} {x5 : Int32} {x6 : Nat} {x7 : Int32} {y : Int32 × zH} (hD : 122 ≤ F.2.1) (hL : zXx h a) (hf : fX0_entry_J47 h a x2 x3 x4 x5 x6 x7 = some y) (hM : ((.inl (some (.int y.1)), y.2) : zX) = zEnd F) : Z F 10 cX0_entry RX0 "entry" (some .int) [(0, 157, 158, 18)] h 47 [(0, .ref a), (2, .int x2), (3, .int x3), (4, .int x4), (5, .int x5), (6, .ref x6), (7, .int x7)] [.ref a] := by
  unfold fX0_entry_J47 at hf
  refine z_iconst 0 dX0_entry_47 rfl ?_
  exact zX0_entry_J48 hD hL hf hM
theorem suX0_195_s : zIs RX0 195 yX0_isPoint (ws_ yX0_isPoint cX0_isPoint 1 (some .boolean)) 1 1 := ⟨(zGood_c q747 q97), (Or.inl q745), q746, ⟨by decide, by decide⟩, by decide +kernel⟩
noncomputable def fX0_entry_J22 (h : zH) (a : Nat) (x2 : Int32) (x3 : Int32) (x4 : Int32) (x5 : Int32) (x6 : Nat) (k0 : Int32) : Option (Int32 × zH) := zb1 (fX0_isText x2 x3 x4) (fun v_14 => if v_14 = 0 then (fX0_entry_J47 h a x2 x3 x4 x5 x6 k0) else (zb1 (fX0_isPoint k0) (fun v_54 => if v_54 = 0 then (fX0_entry_J47 h a x2 x3 x4 x5 x6 k0) else (fX0_entry_J48 h a x2 x3 x4 x5 x6 k0 1))))
theorem zX0_entry_J22 {F : zF} {h : zH} {a : Nat} {x2 : Int32} {x3 : Int32} {x4 : Int32} {x5 : Int32} {x6 : Nat} {k0 : Int32} {y : Int32 × zH} (hD : 122 ≤ F.2.1) (hL : zXx h a) (hf : fX0_entry_J22 h a x2 x3 x4 x5 x6 k0 = some y) (hM : ((.inl (some (.int y.1)), y.2) : zX) = zEnd F) : Z F 10 cX0_entry RX0 "entry" (some .int) [(0, 157, 158, 18)] h 22 [(0, .ref a), (2, .int x2), (3, .int x3), (4, .int x4), (5, .int x5), (6, .ref x6)] [.int k0] := by
  unfold fX0_entry_J22 at hf
  refine z_istore dX0_entry_22 (by decide) (lc' := [(0, .ref a), (2, .int x2), (3, .int x3), (4, .int x4), (5, .int x5), (6, .ref x6), (7, .int k0)]) rfl ?_
  refine z_aload_n 0 dX0_entry_24 rfl rfl ?_
  refine z_iload_n 1 dX0_entry_25 rfl rfl ?_
  refine z_iload_n 2 dX0_entry_26 rfl rfl ?_
  refine z_iload 3 dX0_entry_27 rfl ?_
  obtain ⟨v_14, hc_13, hf⟩ := zb1_some hf
  refine z_invSi suX0_192_s (ctX0_isText hc_13) ⟨Nat.le_trans (by decide) hD, by decide⟩ rfl rfl (Nat.le_of_ble_eq_true rfl) dX0_entry_29 ?_
  refine z_if_eq 47 dX0_entry_32 rfl hf (fun _ hf => ?_) (fun _ hf => ?_)
  · exact zX0_entry_J47 hD hL hf hM
  · refine z_iload 6 dX0_entry_35 rfl ?_
    obtain ⟨v_54, hc_53, hf⟩ := zb1_some hf
    refine z_invSi suX0_195_s (ctX0_isPoint hc_53) ⟨Nat.le_trans (by decide) hD, by decide⟩ rfl rfl (Nat.le_of_ble_eq_true rfl) dX0_entry_37 ?_
    refine z_if_eq 47 dX0_entry_40 rfl hf (fun _ hf => ?_) (fun _ hf => ?_)
    · exact zX0_entry_J47 hD hL hf hM
    · refine z_iconst 1 dX0_entry_43 rfl ?_
      refine z_goto 48 dX0_entry_44 rfl ?_
      exact zX0_entry_J48 hD hL hf hM
noncomputable def fX0_entry (h : zH) (a : Nat) (x1 : Int32) (x2 : Int32) (x3 : Int32) (x4 : Int32) (x5 : Int32) : Option (Int32 × zH) := zxr (fX0_tableAt h a x1 0) (fun v_2 h_3 => zb1 v_2 (fun b_12 => if 0 ≤ x5 then (fX0_entry_J22 h_3 a x2 x3 x4 x5 b_12 x5) else (fX0_entry_J22 h_3 a x2 x3 x4 x5 b_12 (((-1)) - x5)))) (fun e_4 h_5 => zck (zT h_5 e_4 = (2, 0)) (zck (zOb 1 h_5 e_4) (zb2 (fX0_answer h_5 a (zI h_5 e_4 6)) (fun v_10 h_11 => some ((v_10, h_11))))))
theorem zX0_entry {F : zF} {h : zH} {a : Nat} {x1 : Int32} {x2 : Int32} {x3 : Int32} {x4 : Int32} {x5 : Int32} {y : Int32 × zH} (hD : 122 ≤ F.2.1) (hL : zXx h a) (hf : fX0_entry h a x1 x2 x3 x4 x5 = some y) (hM : ((.inl (some (.int y.1)), y.2) : zX) = zEnd F) : Z F 10 cX0_entry RX0 "entry" (some .int) [(0, 157, 158, 18)] h 0 [(0, .ref a), (1, .int x1), (2, .int x2), (3, .int x3), (4, .int x4), (5, .int x5)] [] := by
  unfold fX0_entry at hf
  refine z_aload_n 0 dX0_entry_0 rfl rfl ?_
  refine z_iload_n 1 dX0_entry_1 rfl rfl ?_
  refine z_iconst 0 dX0_entry_2 rfl ?_
  rcases zxr_some hf with ⟨v_2, h_3, hc_1, hf⟩ | ⟨e_4, h_5, hc_6, hf⟩
  rotate_left
  · have hct := ctX0_tableAt (l := F.1) hL hc_6
    refine z_invVt suX0_180_0 hct ((hL.b 0 rfl).t 0 rfl) ⟨Nat.le_trans (by decide) hD, by decide⟩ rfl rfl (Nat.le_of_ble_eq_true rfl) dX0_entry_3 ?_
    have hL := hL.ext hct.1
    obtain ⟨ht_7, hf⟩ := zck_some hf
    refine zt_catch (q := (RX1, TX1, 7)) rfl (by decide) q129 rfl rfl ht_7 ?_
    refine z_astore dX0_entry_158 (by decide) (lc' := [(0, .ref a), (1, .int x1), (2, .int x2), (3, .int x3), (4, .int x4), (5, .int x5), (6, .ref e_4)]) rfl ?_
    refine z_aload_n 0 dX0_entry_160 rfl rfl ?_
    refine z_aload 6 dX0_entry_161 rfl ?_
    obtain ⟨hK_8, hf⟩ := zck_some hf
    refine z_geti fdX0_17_1 ((hK_8.b 0 rfl).t 0 rfl) dX0_entry_163 ?_
    obtain ⟨v_10, h_11, hc_9, hf⟩ := zb2_some hf
    have hct := ctX0_answer (l := F.1) hL hc_9
    refine z_invVi suX0_163_0 hct ((hL.b 0 rfl).t 0 rfl) ⟨Nat.le_trans (by decide) hD, by decide⟩ rfl rfl (Nat.le_of_ble_eq_true rfl) dX0_entry_166 ?_
    have hL := hL.ext hct.1
    have hK_8 := hK_8.ext hct.1
    cases hf
    exact z_iret dX0_entry_169 rfl hM
  have hct := ctX0_tableAt (l := F.1) hL hc_1
  refine z_invVq suX0_180_0 hct ((hL.b 0 rfl).t 0 rfl) ⟨Nat.le_trans (by decide) hD, by decide⟩ rfl rfl (Nat.le_of_ble_eq_true rfl) dX0_entry_3 ?_
  have hL := hL.ext hct.1
  obtain ⟨b_12, e9, hf9⟩ := zb1_some hf
  subst e9
  have hf := hf9
  refine z_astore dX0_entry_6 (by decide) (lc' := [(0, .ref a), (1, .int x1), (2, .int x2), (3, .int x3), (4, .int x4), (5, .int x5), (6, .ref b_12)]) rfl ?_
  refine z_iload 5 dX0_entry_8 rfl ?_
  refine z_if_ge 20 dX0_entry_10 rfl hf (fun _ hf => ?_) (fun _ hf => ?_)
  · refine z_iload 5 dX0_entry_20 rfl ?_
    refine z_sub [0, 2, 3, 4, 5, 6] rfl ?_
    exact zX0_entry_J22 hD hL hf hM
  · refine z_iconst (-1) dX0_entry_13 rfl ?_
    refine z_iload 5 dX0_entry_14 rfl ?_
    refine z_isub dX0_entry_16 ?_
    refine z_goto 22 dX0_entry_17 rfl ?_
    refine z_sub [0, 2, 3, 4, 5, 6] rfl ?_
    exact zX0_entry_J22 hD hL hf hM
theorem ctX0_entry {l : Launch} {h : zH} {a : Nat} {x1 : Int32} {x2 : Int32} {x3 : Int32} {x4 : Int32} {x5 : Int32} {v : Int32} {h' : zH} (hL : zXx h a) (hf : fX0_entry h a x1 x2 x3 x4 x5 = some (v, h')) : zC l yX0_entry (wsW_ yX0_entry cX0_entry 10 (some .int) [(0, 157, 158, 18)]) 122 [.ref a, .int x1, .int x2, .int x3, .int x4, .int x5] h (.inl (some (.int v)), h') :=
  z_startW (by decide) (Nat.le_of_ble_eq_true rfl) (zX0_entry (F := (l, 122, h, (.inl (some (.int v)), h'))) (Nat.le_refl _) hL hf rfl)
theorem suX0_210_2 : zIv RX0 210 yX3_findShift (ws_ yX3_findShift cX3_findShift 4 (some .int)) 4 2 2 := ⟨(zGood_c q763 q103), ⟨_, _, rfl, rfl, q762⟩, (Or.inl q760), q761, ⟨by decide, by decide⟩, by decide +kernel⟩
theorem fdX0_214_2 : zFd RX0 214 2 10 .int false := ⟨_, _, _, rfl, rfl, by decide, rfl, rfl, Or.inr ⟨_, q240⟩, Or.inl rfl⟩
theorem suX0_217_2 : zIv RX0 217 yX3_setShift (ws_ yX3_setShift cX3_setShift 6 none) 6 2 5 := ⟨(zGood_c q737 q103), ⟨_, _, rfl, rfl, q736⟩, (Or.inl q764), q735, ⟨by decide, by decide⟩, by decide +kernel⟩
noncomputable def fX0_shift_J91 (h : zH) (a : Nat) (x2 : Int32) (x3 : Int32) (x4 : Int32) (x5 : Int32) (x6 : Nat) (k0 : Int32) : Option (Int32 × zH) := zxv (fX0_need h a k0 ((-6))) (fun h_45 => zck (zTb h_45 x6) (zb1 (fX3_setShift h_45 x6 (zI h_45 x6 10) x2 x3 x4 x5) (fun h_57 => zlet (zsI h_57 x6 10 ((zI h_57 x6 10) + 1)) (fun h_58 => some ((0, h_58)))))) (fun e_46 h_47 => zck (zT h_47 e_46 = (2, 0)) (zck (zOb 1 h_47 e_46) (zb2 (fX0_answer h_47 a (zI h_47 e_46 6)) (fun v_52 h_53 => some ((v_52, h_53))))))
theorem zX0_shift_J91 {F : zF} {h : zH} {a : Nat} {x2 : Int32} {x3 : Int32} {x4 : Int32} {x5 : Int32} {x6 : Nat} {k0 : Int32} {y : Int32 × zH} (hD : 122 ≤ F.2.1) (hL : zXx h a) (hf : fX0_shift_J91 h a x2 x3 x4 x5 x6 k0 = some y) (hM : ((.inl (some (.int y.1)), y.2) : zX) = zEnd F) : Z F 7 cX0_shift RX0 "shift" (some .int) [(0, 124, 125, 18)] h 91 [(0, .ref a), (2, .int x2), (3, .int x3), (4, .int x4), (5, .int x5), (6, .ref x6)] [.int k0, .ref a] := by
  unfold fX0_shift_J91 at hf
  refine z_bipush (-6) dX0_shift_91 rfl ?_
  rcases zxv_some hf with ⟨h_45, hc_43, hf⟩ | ⟨e_46, h_47, hc_48, hf⟩
  rotate_left
  · have hct := ctX0_need (l := F.1) hL hc_48
    refine z_invVt suX0_184_0 hct ((hL.b 0 rfl).t 0 rfl) ⟨Nat.le_trans (by decide) hD, by decide⟩ rfl rfl (Nat.le_of_ble_eq_true rfl) dX0_shift_93 ?_
    have hL := hL.ext hct.1
    obtain ⟨ht_49, hf⟩ := zck_some hf
    refine zt_catch (q := (RX1, TX1, 7)) rfl (by decide) q129 rfl rfl ht_49 ?_
    refine z_astore dX0_shift_125 (by decide) (lc' := [(0, .ref a), (2, .int x2), (3, .int x3), (4, .int x4), (5, .int x5), (6, .ref e_46)]) rfl ?_
    refine z_aload_n 0 dX0_shift_127 rfl rfl ?_
    refine z_aload 5 dX0_shift_128 rfl ?_
    obtain ⟨hK_50, hf⟩ := zck_some hf
    refine z_geti fdX0_17_1 ((hK_50.b 0 rfl).t 0 rfl) dX0_shift_130 ?_
    obtain ⟨v_52, h_53, hc_51, hf⟩ := zb2_some hf
    have hct := ctX0_answer (l := F.1) hL hc_51
    refine z_invVi suX0_163_0 hct ((hL.b 0 rfl).t 0 rfl) ⟨Nat.le_trans (by decide) hD, by decide⟩ rfl rfl (Nat.le_of_ble_eq_true rfl) dX0_shift_133 ?_
    have hL := hL.ext hct.1
    have hK_50 := hK_50.ext hct.1
    cases hf
    exact z_iret dX0_shift_136 rfl hM
  have hct := ctX0_need (l := F.1) hL hc_43
  refine z_invVv suX0_184_0 hct ((hL.b 0 rfl).t 0 rfl) ⟨Nat.le_trans (by decide) hD, by decide⟩ rfl rfl (Nat.le_of_ble_eq_true rfl) dX0_shift_93 ?_
  have hL := hL.ext hct.1
  refine z_aload 5 dX0_shift_96 rfl ?_
  refine z_aload 5 dX0_shift_98 rfl ?_
  obtain ⟨hK_54, hf⟩ := zck_some hf
  refine z_geti fdX0_214_2 ((hK_54.b 0 rfl).t 0 rfl) dX0_shift_100 ?_
  refine z_iload_n 1 dX0_shift_103 rfl rfl ?_
  refine z_iload_n 2 dX0_shift_104 rfl rfl ?_
  refine z_iload 3 dX0_shift_105 rfl ?_
  refine z_iload 4 dX0_shift_107 rfl ?_
  obtain ⟨h_57, hc_55, hf⟩ := zb1_some hf
  have hct := ctX3_setShift (l := F.1) hK_54 hc_55
  refine z_invVv suX0_217_2 hct ((hK_54.b 0 rfl).t 0 rfl) ⟨Nat.le_trans (by decide) hD, by decide⟩ rfl rfl (Nat.le_of_ble_eq_true rfl) dX0_shift_109 ?_
  have hL := hL.ext hct.1
  have hK_54 := hK_54.ext hct.1
  refine z_aload 5 dX0_shift_112 rfl ?_
  refine z_dup dX0_shift_114 rfl ?_
  refine z_geti fdX0_214_2 ((hK_54.b 0 rfl).t 0 rfl) dX0_shift_115 ?_
  refine z_iconst 1 dX0_shift_118 rfl ?_
  refine z_iadd dX0_shift_119 ?_
  obtain ⟨h_58, he, hf⟩ := zlet_some hf
  refine z_puti fdX0_214_2 ((hK_54.b 0 rfl).t 0 rfl) ((hK_54.b 0 rfl).nz 0) he dX0_shift_120 ?_
  have hL := hL.I he
  have hK_54 := hK_54.I he
  refine z_iconst 0 dX0_shift_123 rfl ?_
  cases hf
  exact z_iret dX0_shift_124 rfl hM
noncomputable def fX0_shift_J70 (h : zH) (a : Nat) (x2 : Int32) (x3 : Int32) (x4 : Int32) (x5 : Int32) (x6 : Nat) (k0 : Int32) : Option (Int32 × zH) := zxv (fX0_need h a k0 ((-7))) (fun h_33 => zck (zTb h_33 x6) (if 10 ≤ (zI h_33 x6 10) then (fX0_shift_J91 h_33 a x2 x3 x4 x5 x6 0) else (fX0_shift_J91 h_33 a x2 x3 x4 x5 x6 1))) (fun e_34 h_35 => zck (zT h_35 e_34 = (2, 0)) (zck (zOb 1 h_35 e_34) (zb2 (fX0_answer h_35 a (zI h_35 e_34 6)) (fun v_40 h_41 => some ((v_40, h_41))))))
theorem zX0_shift_J70 {F : zF} {h : zH} {a : Nat} {x2 : Int32} {x3 : Int32} {x4 : Int32} {x5 : Int32} {x6 : Nat} {k0 : Int32} {y : Int32 × zH} (hD : 122 ≤ F.2.1) (hL : zXx h a) (hf : fX0_shift_J70 h a x2 x3 x4 x5 x6 k0 = some y) (hM : ((.inl (some (.int y.1)), y.2) : zX) = zEnd F) : Z F 7 cX0_shift RX0 "shift" (some .int) [(0, 124, 125, 18)] h 70 [(0, .ref a), (2, .int x2), (3, .int x3), (4, .int x4), (5, .int x5), (6, .ref x6)] [.int k0, .ref a] := by
  unfold fX0_shift_J70 at hf
  refine z_bipush (-7) dX0_shift_70 rfl ?_
  rcases zxv_some hf with ⟨h_33, hc_31, hf⟩ | ⟨e_34, h_35, hc_36, hf⟩
  rotate_left
  · have hct := ctX0_need (l := F.1) hL hc_36
    refine z_invVt suX0_184_0 hct ((hL.b 0 rfl).t 0 rfl) ⟨Nat.le_trans (by decide) hD, by decide⟩ rfl rfl (Nat.le_of_ble_eq_true rfl) dX0_shift_72 ?_
    have hL := hL.ext hct.1
    obtain ⟨ht_37, hf⟩ := zck_some hf
    refine zt_catch (q := (RX1, TX1, 7)) rfl (by decide) q129 rfl rfl ht_37 ?_
    refine z_astore dX0_shift_125 (by decide) (lc' := [(0, .ref a), (2, .int x2), (3, .int x3), (4, .int x4), (5, .int x5), (6, .ref e_34)]) rfl ?_
    refine z_aload_n 0 dX0_shift_127 rfl rfl ?_
    refine z_aload 5 dX0_shift_128 rfl ?_
    obtain ⟨hK_38, hf⟩ := zck_some hf
    refine z_geti fdX0_17_1 ((hK_38.b 0 rfl).t 0 rfl) dX0_shift_130 ?_
    obtain ⟨v_40, h_41, hc_39, hf⟩ := zb2_some hf
    have hct := ctX0_answer (l := F.1) hL hc_39
    refine z_invVi suX0_163_0 hct ((hL.b 0 rfl).t 0 rfl) ⟨Nat.le_trans (by decide) hD, by decide⟩ rfl rfl (Nat.le_of_ble_eq_true rfl) dX0_shift_133 ?_
    have hL := hL.ext hct.1
    have hK_38 := hK_38.ext hct.1
    cases hf
    exact z_iret dX0_shift_136 rfl hM
  have hct := ctX0_need (l := F.1) hL hc_31
  refine z_invVv suX0_184_0 hct ((hL.b 0 rfl).t 0 rfl) ⟨Nat.le_trans (by decide) hD, by decide⟩ rfl rfl (Nat.le_of_ble_eq_true rfl) dX0_shift_72 ?_
  have hL := hL.ext hct.1
  refine z_aload_n 0 dX0_shift_75 rfl rfl ?_
  refine z_aload 5 dX0_shift_76 rfl ?_
  obtain ⟨hK_42, hf⟩ := zck_some hf
  refine z_geti fdX0_214_2 ((hK_42.b 0 rfl).t 0 rfl) dX0_shift_78 ?_
  refine z_bipush 10 dX0_shift_81 rfl ?_
  refine z_icmp_ge 90 dX0_shift_83 rfl hf (fun _ hf => ?_) (fun _ hf => ?_)
  · refine z_iconst 0 dX0_shift_90 rfl ?_
    exact zX0_shift_J91 hD hL hf hM
  · refine z_iconst 1 dX0_shift_86 rfl ?_
    refine z_goto 91 dX0_shift_87 rfl ?_
    exact zX0_shift_J91 hD hL hf hM
noncomputable def fX0_shift_J50 (h : zH) (a : Nat) (x2 : Int32) (x3 : Int32) (x4 : Int32) (x5 : Int32) (x6 : Nat) (k0 : Int32) : Option (Int32 × zH) := zxv (fX0_need h a k0 ((-1))) (fun h_18 => zck (zTb h_18 x6) (zb1 (fX3_findShift h_18 x6 x2 x3) (fun v_29 => if 0 ≤ v_29 then (fX0_shift_J70 h_18 a x2 x3 x4 x5 x6 0) else (fX0_shift_J70 h_18 a x2 x3 x4 x5 x6 1)))) (fun e_19 h_20 => zck (zT h_20 e_19 = (2, 0)) (zck (zOb 1 h_20 e_19) (zb2 (fX0_answer h_20 a (zI h_20 e_19 6)) (fun v_25 h_26 => some ((v_25, h_26))))))
theorem zX0_shift_J50 {F : zF} {h : zH} {a : Nat} {x2 : Int32} {x3 : Int32} {x4 : Int32} {x5 : Int32} {x6 : Nat} {k0 : Int32} {y : Int32 × zH} (hD : 122 ≤ F.2.1) (hL : zXx h a) (hf : fX0_shift_J50 h a x2 x3 x4 x5 x6 k0 = some y) (hM : ((.inl (some (.int y.1)), y.2) : zX) = zEnd F) : Z F 7 cX0_shift RX0 "shift" (some .int) [(0, 124, 125, 18)] h 50 [(0, .ref a), (2, .int x2), (3, .int x3), (4, .int x4), (5, .int x5), (6, .ref x6)] [.int k0, .ref a] := by
  unfold fX0_shift_J50 at hf
  refine z_iconst (-1) dX0_shift_50 rfl ?_
  rcases zxv_some hf with ⟨h_18, hc_16, hf⟩ | ⟨e_19, h_20, hc_21, hf⟩
  rotate_left
  · have hct := ctX0_need (l := F.1) hL hc_21
    refine z_invVt suX0_184_0 hct ((hL.b 0 rfl).t 0 rfl) ⟨Nat.le_trans (by decide) hD, by decide⟩ rfl rfl (Nat.le_of_ble_eq_true rfl) dX0_shift_51 ?_
    have hL := hL.ext hct.1
    obtain ⟨ht_22, hf⟩ := zck_some hf
    refine zt_catch (q := (RX1, TX1, 7)) rfl (by decide) q129 rfl rfl ht_22 ?_
    refine z_astore dX0_shift_125 (by decide) (lc' := [(0, .ref a), (2, .int x2), (3, .int x3), (4, .int x4), (5, .int x5), (6, .ref e_19)]) rfl ?_
    refine z_aload_n 0 dX0_shift_127 rfl rfl ?_
    refine z_aload 5 dX0_shift_128 rfl ?_
    obtain ⟨hK_23, hf⟩ := zck_some hf
    refine z_geti fdX0_17_1 ((hK_23.b 0 rfl).t 0 rfl) dX0_shift_130 ?_
    obtain ⟨v_25, h_26, hc_24, hf⟩ := zb2_some hf
    have hct := ctX0_answer (l := F.1) hL hc_24
    refine z_invVi suX0_163_0 hct ((hL.b 0 rfl).t 0 rfl) ⟨Nat.le_trans (by decide) hD, by decide⟩ rfl rfl (Nat.le_of_ble_eq_true rfl) dX0_shift_133 ?_
    have hL := hL.ext hct.1
    have hK_23 := hK_23.ext hct.1
    cases hf
    exact z_iret dX0_shift_136 rfl hM
  have hct := ctX0_need (l := F.1) hL hc_16
  refine z_invVv suX0_184_0 hct ((hL.b 0 rfl).t 0 rfl) ⟨Nat.le_trans (by decide) hD, by decide⟩ rfl rfl (Nat.le_of_ble_eq_true rfl) dX0_shift_51 ?_
  have hL := hL.ext hct.1
  refine z_aload_n 0 dX0_shift_54 rfl rfl ?_
  refine z_aload 5 dX0_shift_55 rfl ?_
  refine z_iload_n 1 dX0_shift_57 rfl rfl ?_
  refine z_iload_n 2 dX0_shift_58 rfl rfl ?_
  obtain ⟨hK_27, hf⟩ := zck_some hf
  obtain ⟨v_29, hc_28, hf⟩ := zb1_some hf
  refine z_invVi suX0_210_2 (ctX3_findShift hK_27 hc_28) ((hK_27.b 0 rfl).t 0 rfl) ⟨Nat.le_trans (by decide) hD, by decide⟩ rfl rfl (Nat.le_of_ble_eq_true rfl) dX0_shift_59 ?_
  refine z_if_ge 69 dX0_shift_62 rfl hf (fun _ hf => ?_) (fun _ hf => ?_)
  · refine z_iconst 0 dX0_shift_69 rfl ?_
    exact zX0_shift_J70 hD hL hf hM
  · refine z_iconst 1 dX0_shift_65 rfl ?_
    refine z_goto 70 dX0_shift_66 rfl ?_
    exact zX0_shift_J70 hD hL hf hM
noncomputable def fX0_shift_J49 (h : zH) (a : Nat) (x2 : Int32) (x3 : Int32) (x4 : Int32) (x5 : Int32) (x6 : Nat) : Option (Int32 × zH) := fX0_shift_J50 h a x2 x3 x4 x5 x6 0
theorem zX0_shift_J49 {F : zF} {h : zH} {a : Nat} {x2 : Int32} {x3 : Int32} {x4 : Int32} {x5 : Int32} {x6 : Nat} {y : Int32 × zH} (hD : 122 ≤ F.2.1) (hL : zXx h a) (hf : fX0_shift_J49 h a x2 x3 x4 x5 x6 = some y) (hM : ((.inl (some (.int y.1)), y.2) : zX) = zEnd F) : Z F 7 cX0_shift RX0 "shift" (some .int) [(0, 124, 125, 18)] h 49 [(0, .ref a), (2, .int x2), (3, .int x3), (4, .int x4), (5, .int x5), (6, .ref x6)] [.ref a] := by
  unfold fX0_shift_J49 at hf
  refine z_iconst 0 dX0_shift_49 rfl ?_
  exact zX0_shift_J50 hD hL hf hM
noncomputable def fX0_shift (h : zH) (a : Nat) (x1 : Int32) (x2 : Int32) (x3 : Int32) (x4 : Int32) (x5 : Int32) : Option (Int32 × zH) := zxr (fX0_tableAt h a x1 0) (fun v_2 h_3 => zb1 v_2 (fun b_12 => zb1 (fX0_in x2 0 3) (fun v_14 => if v_14 = 0 then (fX0_shift_J49 h_3 a x2 x3 x4 x5 b_12) else (zb1 (fX0_in x4 0 3) (fun v_60 => if v_60 = 0 then (fX0_shift_J49 h_3 a x2 x3 x4 x5 b_12) else (if x2 = x4 then (fX0_shift_J49 h_3 a x2 x3 x4 x5 b_12) else (zb1 (fX0_in x3 0 255) (fun v_63 => if v_63 = 0 then (fX0_shift_J49 h_3 a x2 x3 x4 x5 b_12) else (fX0_shift_J50 h_3 a x2 x3 x4 x5 b_12 1))))))))) (fun e_4 h_5 => zck (zT h_5 e_4 = (2, 0)) (zck (zOb 1 h_5 e_4) (zb2 (fX0_answer h_5 a (zI h_5 e_4 6)) (fun v_10 h_11 => some ((v_10, h_11))))))
theorem zX0_shift {F : zF} {h : zH} {a : Nat} {x1 : Int32} {x2 : Int32} {x3 : Int32} {x4 : Int32} {x5 : Int32} {y : Int32 × zH} (hD : 122 ≤ F.2.1) (hL : zXx h a) (hf : fX0_shift h a x1 x2 x3 x4 x5 = some y) (hM : ((.inl (some (.int y.1)), y.2) : zX) = zEnd F) : Z F 7 cX0_shift RX0 "shift" (some .int) [(0, 124, 125, 18)] h 0 [(0, .ref a), (1, .int x1), (2, .int x2), (3, .int x3), (4, .int x4), (5, .int x5)] [] := by
  unfold fX0_shift at hf
  refine z_aload_n 0 dX0_shift_0 rfl rfl ?_
  refine z_iload_n 1 dX0_shift_1 rfl rfl ?_
  refine z_iconst 0 dX0_shift_2 rfl ?_
  rcases zxr_some hf with ⟨v_2, h_3, hc_1, hf⟩ | ⟨e_4, h_5, hc_6, hf⟩
  rotate_left
  · have hct := ctX0_tableAt (l := F.1) hL hc_6
    refine z_invVt suX0_180_0 hct ((hL.b 0 rfl).t 0 rfl) ⟨Nat.le_trans (by decide) hD, by decide⟩ rfl rfl (Nat.le_of_ble_eq_true rfl) dX0_shift_3 ?_
    have hL := hL.ext hct.1
    obtain ⟨ht_7, hf⟩ := zck_some hf
    refine zt_catch (q := (RX1, TX1, 7)) rfl (by decide) q129 rfl rfl ht_7 ?_
    refine z_astore dX0_shift_125 (by decide) (lc' := [(0, .ref a), (1, .int x1), (2, .int x2), (3, .int x3), (4, .int x4), (5, .int x5), (6, .ref e_4)]) rfl ?_
    refine z_aload_n 0 dX0_shift_127 rfl rfl ?_
    refine z_aload 6 dX0_shift_128 rfl ?_
    obtain ⟨hK_8, hf⟩ := zck_some hf
    refine z_geti fdX0_17_1 ((hK_8.b 0 rfl).t 0 rfl) dX0_shift_130 ?_
    obtain ⟨v_10, h_11, hc_9, hf⟩ := zb2_some hf
    have hct := ctX0_answer (l := F.1) hL hc_9
    refine z_invVi suX0_163_0 hct ((hL.b 0 rfl).t 0 rfl) ⟨Nat.le_trans (by decide) hD, by decide⟩ rfl rfl (Nat.le_of_ble_eq_true rfl) dX0_shift_133 ?_
    have hL := hL.ext hct.1
    have hK_8 := hK_8.ext hct.1
    cases hf
    exact z_iret dX0_shift_136 rfl hM
  have hct := ctX0_tableAt (l := F.1) hL hc_1
  refine z_invVq suX0_180_0 hct ((hL.b 0 rfl).t 0 rfl) ⟨Nat.le_trans (by decide) hD, by decide⟩ rfl rfl (Nat.le_of_ble_eq_true rfl) dX0_shift_3 ?_
  have hL := hL.ext hct.1
  obtain ⟨b_12, e9, hf9⟩ := zb1_some hf
  subst e9
  have hf := hf9
  refine z_astore dX0_shift_6 (by decide) (lc' := [(0, .ref a), (1, .int x1), (2, .int x2), (3, .int x3), (4, .int x4), (5, .int x5), (6, .ref b_12)]) rfl ?_
  refine z_aload_n 0 dX0_shift_8 rfl rfl ?_
  refine z_iload_n 2 dX0_shift_9 rfl rfl ?_
  refine z_iconst 0 dX0_shift_10 rfl ?_
  refine z_iconst 3 dX0_shift_11 rfl ?_
  obtain ⟨v_14, hc_13, hf⟩ := zb1_some hf
  refine z_invSi suX0_4_s (ctX0_in hc_13) ⟨Nat.le_trans (by decide) hD, by decide⟩ rfl rfl (Nat.le_of_ble_eq_true rfl) dX0_shift_12 ?_
  refine z_if_eq 49 dX0_shift_15 rfl hf (fun _ hf => ?_) (fun _ hf => ?_)
  · refine z_sub [0, 2, 3, 4, 5, 6] rfl ?_
    exact zX0_shift_J49 hD hL hf hM
  · refine z_iload 4 dX0_shift_18 rfl ?_
    refine z_iconst 0 dX0_shift_20 rfl ?_
    refine z_iconst 3 dX0_shift_21 rfl ?_
    obtain ⟨v_60, hc_59, hf⟩ := zb1_some hf
    refine z_invSi suX0_4_s (ctX0_in hc_59) ⟨Nat.le_trans (by decide) hD, by decide⟩ rfl rfl (Nat.le_of_ble_eq_true rfl) dX0_shift_22 ?_
    refine z_if_eq 49 dX0_shift_25 rfl hf (fun _ hf => ?_) (fun _ hf => ?_)
    · refine z_sub [0, 2, 3, 4, 5, 6] rfl ?_
      exact zX0_shift_J49 hD hL hf hM
    · refine z_iload_n 2 dX0_shift_28 rfl rfl ?_
      refine z_iload 4 dX0_shift_29 rfl ?_
      refine z_icmp_eq 49 dX0_shift_31 rfl hf (fun _ hf => ?_) (fun _ hf => ?_)
      · refine z_sub [0, 2, 3, 4, 5, 6] rfl ?_
        exact zX0_shift_J49 hD hL hf hM
      · refine z_iload_n 3 dX0_shift_34 rfl rfl ?_
        refine z_iconst 0 dX0_shift_35 rfl ?_
        refine z_sipush 255 dX0_shift_36 rfl ?_
        obtain ⟨v_63, hc_62, hf⟩ := zb1_some hf
        refine z_invSi suX0_4_s (ctX0_in hc_62) ⟨Nat.le_trans (by decide) hD, by decide⟩ rfl rfl (Nat.le_of_ble_eq_true rfl) dX0_shift_39 ?_
        refine z_if_eq 49 dX0_shift_42 rfl hf (fun _ hf => ?_) (fun _ hf => ?_)
        · refine z_sub [0, 2, 3, 4, 5, 6] rfl ?_
          exact zX0_shift_J49 hD hL hf hM
        · refine z_iconst 1 dX0_shift_45 rfl ?_
          refine z_goto 50 dX0_shift_46 rfl ?_
          refine z_sub [0, 2, 3, 4, 5, 6] rfl ?_
          exact zX0_shift_J50 hD hL hf hM
theorem ctX0_shift {l : Launch} {h : zH} {a : Nat} {x1 : Int32} {x2 : Int32} {x3 : Int32} {x4 : Int32} {x5 : Int32} {v : Int32} {h' : zH} (hL : zXx h a) (hf : fX0_shift h a x1 x2 x3 x4 x5 = some (v, h')) : zC l yX0_shift (wsW_ yX0_shift cX0_shift 7 (some .int) [(0, 124, 125, 18)]) 122 [.ref a, .int x1, .int x2, .int x3, .int x4, .int x5] h (.inl (some (.int v)), h') :=
  z_startW (by decide) (Nat.le_of_ble_eq_true rfl) (zX0_shift (F := (l, 122, h, (.inl (some (.int v)), h'))) (Nat.le_refl _) hL hf rfl)
theorem suX0_224_2 : zIv RX0 224 yX3_removeShift (ws_ yX3_removeShift cX3_removeShift 3 none) 3 2 1 := ⟨(zGood_c q776 q103), ⟨_, _, rfl, rfl, q775⟩, (Or.inl q773), q774, ⟨by decide, by decide⟩, by decide +kernel⟩
noncomputable def fX0_drop_J62 (h : zH) (a : Nat) (x5 : Nat) (k0 : Int32) : Option (Int32 × zH) := if k0 < 0 then (zxv (fX0_need h a 0 ((-2))) (fun h_33 => zck (zTb h_33 x5) (zb1 (fX3_removeShift h_33 x5 k0) (fun h_45 => some ((1, h_45))))) (fun e_34 h_35 => zck (zT h_35 e_34 = (2, 0)) (zck (zOb 1 h_35 e_34) (zb2 (fX0_answer h_35 a (zI h_35 e_34 6)) (fun v_40 h_41 => some ((v_40, h_41))))))) else (zxv (fX0_need h a 1 ((-2))) (fun h_48 => zck (zTb h_48 x5) (zb1 (fX3_removeShift h_48 x5 k0) (fun h_60 => some ((1, h_60))))) (fun e_49 h_50 => zck (zT h_50 e_49 = (2, 0)) (zck (zOb 1 h_50 e_49) (zb2 (fX0_answer h_50 a (zI h_50 e_49 6)) (fun v_55 h_56 => some ((v_55, h_56)))))))
theorem zX0_drop_J62 {F : zF} {h : zH} {a : Nat} {x5 : Nat} {k0 : Int32} {y : Int32 × zH} (hD : 122 ≤ F.2.1) (hL : zXx h a) (hf : fX0_drop_J62 h a x5 k0 = some y) (hM : ((.inl (some (.int y.1)), y.2) : zX) = zEnd F) : Z F 7 cX0_drop RX0 "drop" (some .int) [(0, 44, 89, 18), (45, 88, 89, 18)] h 62 [(0, .ref a), (5, .ref x5)] [.int k0] := by
  unfold fX0_drop_J62 at hf
  refine z_istore dX0_drop_62 (by decide) (lc' := [(0, .ref a), (5, .ref x5), (6, .int k0)]) rfl ?_
  refine z_aload_n 0 dX0_drop_64 rfl rfl ?_
  refine z_iload 2 dX0_drop_65 rfl ?_
  refine z_if_lt 74 dX0_drop_67 rfl hf (fun _ hf => ?_) (fun _ hf => ?_)
  · refine z_iconst 0 dX0_drop_74 rfl ?_
    refine z_bipush (-2) dX0_drop_75 rfl ?_
    rcases zxv_some hf with ⟨h_33, hc_31, hf⟩ | ⟨e_34, h_35, hc_36, hf⟩
    rotate_left
    · have hct := ctX0_need (l := F.1) hL hc_36
      refine z_invVt suX0_184_0 hct ((hL.b 0 rfl).t 0 rfl) ⟨Nat.le_trans (by decide) hD, by decide⟩ rfl rfl (Nat.le_of_ble_eq_true rfl) dX0_drop_77 ?_
      have hL := hL.ext hct.1
      obtain ⟨ht_37, hf⟩ := zck_some hf
      refine zt_catch (q := (RX1, TX1, 7)) rfl (by decide) q129 rfl rfl ht_37 ?_
      refine z_astore dX0_drop_89 (by decide) (lc' := [(0, .ref a), (5, .ref e_34), (6, .int k0)]) rfl ?_
      refine z_aload_n 0 dX0_drop_91 rfl rfl ?_
      refine z_aload 1 dX0_drop_92 rfl ?_
      obtain ⟨hK_38, hf⟩ := zck_some hf
      refine z_geti fdX0_17_1 ((hK_38.b 0 rfl).t 0 rfl) dX0_drop_94 ?_
      obtain ⟨v_40, h_41, hc_39, hf⟩ := zb2_some hf
      have hct := ctX0_answer (l := F.1) hL hc_39
      refine z_invVi suX0_163_0 hct ((hL.b 0 rfl).t 0 rfl) ⟨Nat.le_trans (by decide) hD, by decide⟩ rfl rfl (Nat.le_of_ble_eq_true rfl) dX0_drop_97 ?_
      have hL := hL.ext hct.1
      have hK_38 := hK_38.ext hct.1
      cases hf
      exact z_iret dX0_drop_100 rfl hM
    have hct := ctX0_need (l := F.1) hL hc_31
    refine z_invVv suX0_184_0 hct ((hL.b 0 rfl).t 0 rfl) ⟨Nat.le_trans (by decide) hD, by decide⟩ rfl rfl (Nat.le_of_ble_eq_true rfl) dX0_drop_77 ?_
    have hL := hL.ext hct.1
    refine z_aload 1 dX0_drop_80 rfl ?_
    refine z_iload 2 dX0_drop_82 rfl ?_
    obtain ⟨hK_42, hf⟩ := zck_some hf
    obtain ⟨h_45, hc_43, hf⟩ := zb1_some hf
    have hct := ctX3_removeShift (l := F.1) hK_42 hc_43
    refine z_invVv suX0_224_2 hct ((hK_42.b 0 rfl).t 0 rfl) ⟨Nat.le_trans (by decide) hD, by decide⟩ rfl rfl (Nat.le_of_ble_eq_true rfl) dX0_drop_84 ?_
    have hL := hL.ext hct.1
    have hK_42 := hK_42.ext hct.1
    refine z_iconst 1 dX0_drop_87 rfl ?_
    cases hf
    exact z_iret dX0_drop_88 rfl hM
  · refine z_iconst 1 dX0_drop_70 rfl ?_
    refine z_goto 75 dX0_drop_71 rfl ?_
    refine z_bipush (-2) dX0_drop_75 rfl ?_
    rcases zxv_some hf with ⟨h_48, hc_46, hf⟩ | ⟨e_49, h_50, hc_51, hf⟩
    rotate_left
    · have hct := ctX0_need (l := F.1) hL hc_51
      refine z_invVt suX0_184_0 hct ((hL.b 0 rfl).t 0 rfl) ⟨Nat.le_trans (by decide) hD, by decide⟩ rfl rfl (Nat.le_of_ble_eq_true rfl) dX0_drop_77 ?_
      have hL := hL.ext hct.1
      obtain ⟨ht_52, hf⟩ := zck_some hf
      refine zt_catch (q := (RX1, TX1, 7)) rfl (by decide) q129 rfl rfl ht_52 ?_
      refine z_astore dX0_drop_89 (by decide) (lc' := [(0, .ref a), (5, .ref e_49), (6, .int k0)]) rfl ?_
      refine z_aload_n 0 dX0_drop_91 rfl rfl ?_
      refine z_aload 1 dX0_drop_92 rfl ?_
      obtain ⟨hK_53, hf⟩ := zck_some hf
      refine z_geti fdX0_17_1 ((hK_53.b 0 rfl).t 0 rfl) dX0_drop_94 ?_
      obtain ⟨v_55, h_56, hc_54, hf⟩ := zb2_some hf
      have hct := ctX0_answer (l := F.1) hL hc_54
      refine z_invVi suX0_163_0 hct ((hL.b 0 rfl).t 0 rfl) ⟨Nat.le_trans (by decide) hD, by decide⟩ rfl rfl (Nat.le_of_ble_eq_true rfl) dX0_drop_97 ?_
      have hL := hL.ext hct.1
      have hK_53 := hK_53.ext hct.1
      cases hf
      exact z_iret dX0_drop_100 rfl hM
    have hct := ctX0_need (l := F.1) hL hc_46
    refine z_invVv suX0_184_0 hct ((hL.b 0 rfl).t 0 rfl) ⟨Nat.le_trans (by decide) hD, by decide⟩ rfl rfl (Nat.le_of_ble_eq_true rfl) dX0_drop_77 ?_
    have hL := hL.ext hct.1
    refine z_aload 1 dX0_drop_80 rfl ?_
    refine z_iload 2 dX0_drop_82 rfl ?_
    obtain ⟨hK_57, hf⟩ := zck_some hf
    obtain ⟨h_60, hc_58, hf⟩ := zb1_some hf
    have hct := ctX3_removeShift (l := F.1) hK_57 hc_58
    refine z_invVv suX0_224_2 hct ((hK_57.b 0 rfl).t 0 rfl) ⟨Nat.le_trans (by decide) hD, by decide⟩ rfl rfl (Nat.le_of_ble_eq_true rfl) dX0_drop_84 ?_
    have hL := hL.ext hct.1
    have hK_57 := hK_57.ext hct.1
    refine z_iconst 1 dX0_drop_87 rfl ?_
    cases hf
    exact z_iret dX0_drop_88 rfl hM
theorem suX0_221_2 : zIv RX0 221 yX3_remove (ws_ yX3_remove cX3_remove 3 none) 3 2 1 := ⟨(zGood_c q772 q103), ⟨_, _, rfl, rfl, q771⟩, (Or.inl q769), q770, ⟨by decide, by decide⟩, by decide +kernel⟩
noncomputable def fX0_drop (h : zH) (a : Nat) (x1 : Int32) (x2 : Int32) (x3 : Int32) (x4 : Int32) : Option (Int32 × zH) := zxr (fX0_tableAt h a x1 0) (fun v_2 h_3 => zb1 v_2 (fun b_12 => zb1 (fX0_isText x2 x3 x4) (fun v_14 => zxv (fX0_need h_3 a v_14 ((-1))) (fun h_18 => zck (zTb h_18 b_12) (zb1 (fX3_find h_18 b_12 x2 x3 x4) (fun v_29 => if v_29 < 0 then (if x4 = 1 then (zb1 (fX3_findShift h_18 b_12 x2 x3) (fun v_62 => fX0_drop_J62 h_18 a b_12 v_62)) else (fX0_drop_J62 h_18 a b_12 ((-1)))) else (zb1 (fX3_remove h_18 b_12 v_29) (fun h_66 => some ((0, h_66))))))) (fun e_19 h_20 => zck (zT h_20 e_19 = (2, 0)) (zck (zOb 1 h_20 e_19) (zb2 (fX0_answer h_20 a (zI h_20 e_19 6)) (fun v_25 h_26 => some ((v_25, h_26))))))))) (fun e_4 h_5 => zck (zT h_5 e_4 = (2, 0)) (zck (zOb 1 h_5 e_4) (zb2 (fX0_answer h_5 a (zI h_5 e_4 6)) (fun v_10 h_11 => some ((v_10, h_11))))))
theorem zX0_drop {F : zF} {h : zH} {a : Nat} {x1 : Int32} {x2 : Int32} {x3 : Int32} {x4 : Int32} {y : Int32 × zH} (hD : 122 ≤ F.2.1) (hL : zXx h a) (hf : fX0_drop h a x1 x2 x3 x4 = some y) (hM : ((.inl (some (.int y.1)), y.2) : zX) = zEnd F) : Z F 7 cX0_drop RX0 "drop" (some .int) [(0, 44, 89, 18), (45, 88, 89, 18)] h 0 [(0, .ref a), (1, .int x1), (2, .int x2), (3, .int x3), (4, .int x4)] [] := by
  unfold fX0_drop at hf
  refine z_aload_n 0 dX0_drop_0 rfl rfl ?_
  refine z_iload_n 1 dX0_drop_1 rfl rfl ?_
  refine z_iconst 0 dX0_drop_2 rfl ?_
  rcases zxr_some hf with ⟨v_2, h_3, hc_1, hf⟩ | ⟨e_4, h_5, hc_6, hf⟩
  rotate_left
  · have hct := ctX0_tableAt (l := F.1) hL hc_6
    refine z_invVt suX0_180_0 hct ((hL.b 0 rfl).t 0 rfl) ⟨Nat.le_trans (by decide) hD, by decide⟩ rfl rfl (Nat.le_of_ble_eq_true rfl) dX0_drop_3 ?_
    have hL := hL.ext hct.1
    obtain ⟨ht_7, hf⟩ := zck_some hf
    refine zt_catch (q := (RX1, TX1, 7)) rfl (by decide) q129 rfl rfl ht_7 ?_
    refine z_astore dX0_drop_89 (by decide) (lc' := [(0, .ref a), (1, .int x1), (2, .int x2), (3, .int x3), (4, .int x4), (5, .ref e_4)]) rfl ?_
    refine z_aload_n 0 dX0_drop_91 rfl rfl ?_
    refine z_aload 5 dX0_drop_92 rfl ?_
    obtain ⟨hK_8, hf⟩ := zck_some hf
    refine z_geti fdX0_17_1 ((hK_8.b 0 rfl).t 0 rfl) dX0_drop_94 ?_
    obtain ⟨v_10, h_11, hc_9, hf⟩ := zb2_some hf
    have hct := ctX0_answer (l := F.1) hL hc_9
    refine z_invVi suX0_163_0 hct ((hL.b 0 rfl).t 0 rfl) ⟨Nat.le_trans (by decide) hD, by decide⟩ rfl rfl (Nat.le_of_ble_eq_true rfl) dX0_drop_97 ?_
    have hL := hL.ext hct.1
    have hK_8 := hK_8.ext hct.1
    cases hf
    exact z_iret dX0_drop_100 rfl hM
  have hct := ctX0_tableAt (l := F.1) hL hc_1
  refine z_invVq suX0_180_0 hct ((hL.b 0 rfl).t 0 rfl) ⟨Nat.le_trans (by decide) hD, by decide⟩ rfl rfl (Nat.le_of_ble_eq_true rfl) dX0_drop_3 ?_
  have hL := hL.ext hct.1
  obtain ⟨b_12, e9, hf9⟩ := zb1_some hf
  subst e9
  have hf := hf9
  refine z_astore dX0_drop_6 (by decide) (lc' := [(0, .ref a), (1, .int x1), (2, .int x2), (3, .int x3), (4, .int x4), (5, .ref b_12)]) rfl ?_
  refine z_aload_n 0 dX0_drop_8 rfl rfl ?_
  refine z_iload_n 2 dX0_drop_9 rfl rfl ?_
  refine z_iload_n 3 dX0_drop_10 rfl rfl ?_
  refine z_iload 4 dX0_drop_11 rfl ?_
  obtain ⟨v_14, hc_13, hf⟩ := zb1_some hf
  refine z_invSi suX0_192_s (ctX0_isText hc_13) ⟨Nat.le_trans (by decide) hD, by decide⟩ rfl rfl (Nat.le_of_ble_eq_true rfl) dX0_drop_13 ?_
  refine z_iconst (-1) dX0_drop_16 rfl ?_
  rcases zxv_some hf with ⟨h_18, hc_16, hf⟩ | ⟨e_19, h_20, hc_21, hf⟩
  rotate_left
  · have hct := ctX0_need (l := F.1) hL hc_21
    refine z_invVt suX0_184_0 hct ((hL.b 0 rfl).t 0 rfl) ⟨Nat.le_trans (by decide) hD, by decide⟩ rfl rfl (Nat.le_of_ble_eq_true rfl) dX0_drop_17 ?_
    have hL := hL.ext hct.1
    obtain ⟨ht_22, hf⟩ := zck_some hf
    refine zt_catch (q := (RX1, TX1, 7)) rfl (by decide) q129 rfl rfl ht_22 ?_
    refine z_astore dX0_drop_89 (by decide) (lc' := [(0, .ref a), (1, .int x1), (2, .int x2), (3, .int x3), (4, .int x4), (5, .ref e_19)]) rfl ?_
    refine z_aload_n 0 dX0_drop_91 rfl rfl ?_
    refine z_aload 5 dX0_drop_92 rfl ?_
    obtain ⟨hK_23, hf⟩ := zck_some hf
    refine z_geti fdX0_17_1 ((hK_23.b 0 rfl).t 0 rfl) dX0_drop_94 ?_
    obtain ⟨v_25, h_26, hc_24, hf⟩ := zb2_some hf
    have hct := ctX0_answer (l := F.1) hL hc_24
    refine z_invVi suX0_163_0 hct ((hL.b 0 rfl).t 0 rfl) ⟨Nat.le_trans (by decide) hD, by decide⟩ rfl rfl (Nat.le_of_ble_eq_true rfl) dX0_drop_97 ?_
    have hL := hL.ext hct.1
    have hK_23 := hK_23.ext hct.1
    cases hf
    exact z_iret dX0_drop_100 rfl hM
  have hct := ctX0_need (l := F.1) hL hc_16
  refine z_invVv suX0_184_0 hct ((hL.b 0 rfl).t 0 rfl) ⟨Nat.le_trans (by decide) hD, by decide⟩ rfl rfl (Nat.le_of_ble_eq_true rfl) dX0_drop_17 ?_
  have hL := hL.ext hct.1
  refine z_aload 5 dX0_drop_20 rfl ?_
  refine z_iload_n 2 dX0_drop_22 rfl rfl ?_
  refine z_iload_n 3 dX0_drop_23 rfl rfl ?_
  refine z_iload 4 dX0_drop_24 rfl ?_
  obtain ⟨hK_27, hf⟩ := zck_some hf
  obtain ⟨v_29, hc_28, hf⟩ := zb1_some hf
  refine z_invVi suX0_199_2 (ctX3_find hK_27 hc_28) ((hK_27.b 0 rfl).t 0 rfl) ⟨Nat.le_trans (by decide) hD, by decide⟩ rfl rfl (Nat.le_of_ble_eq_true rfl) dX0_drop_26 ?_
  refine z_istore dX0_drop_29 (by decide) (lc' := [(0, .ref a), (1, .int x1), (2, .int x2), (3, .int x3), (4, .int x4), (5, .ref b_12), (6, .int v_29)]) rfl ?_
  refine z_iload 6 dX0_drop_31 rfl ?_
  refine z_if_lt 45 dX0_drop_33 rfl hf (fun _ hf => ?_) (fun _ hf => ?_)
  · refine z_iload 4 dX0_drop_45 rfl ?_
    refine z_iconst 1 dX0_drop_47 rfl ?_
    refine z_icmp_ne 61 dX0_drop_48 rfl hf (fun _ hf => ?_) (fun _ hf => ?_)
    · refine z_iconst (-1) dX0_drop_61 rfl ?_
      refine z_sub [0, 5] rfl ?_
      exact zX0_drop_J62 hD hL hf hM
    · refine z_aload 5 dX0_drop_51 rfl ?_
      refine z_iload_n 2 dX0_drop_53 rfl rfl ?_
      refine z_iload_n 3 dX0_drop_54 rfl rfl ?_
      obtain ⟨v_62, hc_61, hf⟩ := zb1_some hf
      refine z_invVi suX0_210_2 (ctX3_findShift hK_27 hc_61) ((hK_27.b 0 rfl).t 0 rfl) ⟨Nat.le_trans (by decide) hD, by decide⟩ rfl rfl (Nat.le_of_ble_eq_true rfl) dX0_drop_55 ?_
      refine z_goto 62 dX0_drop_58 rfl ?_
      refine z_sub [0, 5] rfl ?_
      exact zX0_drop_J62 hD hL hf hM
  · refine z_aload 5 dX0_drop_36 rfl ?_
    refine z_iload 6 dX0_drop_38 rfl ?_
    obtain ⟨h_66, hc_64, hf⟩ := zb1_some hf
    have hct := ctX3_remove (l := F.1) hK_27 hc_64
    refine z_invVv suX0_221_2 hct ((hK_27.b 0 rfl).t 0 rfl) ⟨Nat.le_trans (by decide) hD, by decide⟩ rfl rfl (Nat.le_of_ble_eq_true rfl) dX0_drop_40 ?_
    have hL := hL.ext hct.1
    have hK_27 := hK_27.ext hct.1
    refine z_iconst 0 dX0_drop_43 rfl ?_
    cases hf
    exact z_iret dX0_drop_44 rfl hM
theorem ctX0_drop {l : Launch} {h : zH} {a : Nat} {x1 : Int32} {x2 : Int32} {x3 : Int32} {x4 : Int32} {v : Int32} {h' : zH} (hL : zXx h a) (hf : fX0_drop h a x1 x2 x3 x4 = some (v, h')) : zC l yX0_drop (wsW_ yX0_drop cX0_drop 7 (some .int) [(0, 44, 89, 18), (45, 88, 89, 18)]) 122 [.ref a, .int x1, .int x2, .int x3, .int x4] h (.inl (some (.int v)), h') :=
  z_startW (by decide) (Nat.le_of_ble_eq_true rfl) (zX0_drop (F := (l, 122, h, (.inl (some (.int v)), h'))) (Nat.le_refl _) hL hf rfl)
theorem suX0_227_2 : zIv RX0 227 yX3_isBad (ws_ yX3_isBad cX3_isBad 1 (some .boolean)) 1 2 0 := ⟨(zGood_c q784 q103), ⟨_, _, rfl, rfl, q783⟩, (Or.inl q781), q782, ⟨by decide, by decide⟩, by decide +kernel⟩
theorem suX0_248_2 : zIv RX0 248 yX3_close (ws_ yX3_close cX3_close 4 none) 4 2 0 := ⟨(zGood_c q847 q103), ⟨_, _, rfl, rfl, q846⟩, (Or.inl q844), q845, ⟨by decide, by decide⟩, by decide +kernel⟩
theorem fdX0_230_2 : zFd RX0 230 2 24 .int false := ⟨_, _, _, rfl, rfl, by decide, rfl, rfl, Or.inl q259, Or.inl rfl⟩
theorem fdX0_233_0 : zFd RX0 233 0 20 .int false := ⟨_, _, _, rfl, rfl, by decide, rfl, rfl, Or.inl q506, Or.inl rfl⟩
theorem fdX0_236_2 : zFd RX0 236 2 25 .int false := ⟨_, _, _, rfl, rfl, by decide, rfl, rfl, Or.inl q261, Or.inl rfl⟩
theorem fdX0_239_0 : zFd RX0 239 0 21 .int false := ⟨_, _, _, rfl, rfl, by decide, rfl, rfl, Or.inl q507, Or.inl rfl⟩
theorem fdX0_242_2 : zFd RX0 242 2 26 .int false := ⟨_, _, _, rfl, rfl, by decide, rfl, rfl, Or.inl q263, Or.inl rfl⟩
theorem fdX0_245_0 : zFd RX0 245 0 22 .int false := ⟨_, _, _, rfl, rfl, by decide, rfl, rfl, Or.inl q508, Or.inl rfl⟩
noncomputable def fX0_close (h : zH) (a : Nat) (x1 : Int32) : Option (Int32 × zH) := zxr (fX0_tableAt h a x1 0) (fun v_2 h_3 => zb1 v_2 (fun b_12 => zck (zTb h_3 b_12) (zb2 (fX3_isBad h_3 b_12) (fun v_15 h_16 => if v_15 = 0 then (zb1 (fX3_close h_16 b_12) (fun h_19 => some ((0, h_19)))) else (zlet (zsI h_16 a 20 (zI h_16 b_12 24)) (fun h_20 => zlet (zsI h_20 a 21 (zI h_20 b_12 25)) (fun h_21 => zlet (zsI h_21 a 22 (zI h_21 b_12 26)) (fun h_22 => zb2 (fX0_refused h_22 a ((-8))) (fun v_24 h_25 => zb1 v_24 (fun b_26 => zck (zT h_25 b_26 = (2, 0)) (zck (zOb 1 h_25 b_26) (zb2 (fX0_answer h_25 a (zI h_25 b_26 6)) (fun v_30 h_31 => some ((v_30, h_31))))))))))))))) (fun e_4 h_5 => zck (zT h_5 e_4 = (2, 0)) (zck (zOb 1 h_5 e_4) (zb2 (fX0_answer h_5 a (zI h_5 e_4 6)) (fun v_10 h_11 => some ((v_10, h_11))))))
theorem zX0_close {F : zF} {h : zH} {a : Nat} {x1 : Int32} {y : Int32 × zH} (hD : 122 ≤ F.2.1) (hL : zXx h a) (hf : fX0_close h a x1 = some y) (hM : ((.inl (some (.int y.1)), y.2) : zX) = zEnd F) : Z F 3 cX0_close RX0 "close" (some .int) [(0, 50, 51, 18)] h 0 [(0, .ref a), (1, .int x1)] [] := by
  unfold fX0_close at hf
  refine z_aload_n 0 dX0_close_0 rfl rfl ?_
  refine z_iload_n 1 dX0_close_1 rfl rfl ?_
  refine z_iconst 0 dX0_close_2 rfl ?_
  rcases zxr_some hf with ⟨v_2, h_3, hc_1, hf⟩ | ⟨e_4, h_5, hc_6, hf⟩
  rotate_left
  · have hct := ctX0_tableAt (l := F.1) hL hc_6
    refine z_invVt suX0_180_0 hct ((hL.b 0 rfl).t 0 rfl) ⟨Nat.le_trans (by decide) hD, by decide⟩ rfl rfl (Nat.le_of_ble_eq_true rfl) dX0_close_3 ?_
    have hL := hL.ext hct.1
    obtain ⟨ht_7, hf⟩ := zck_some hf
    refine zt_catch (q := (RX1, TX1, 7)) rfl (by decide) q129 rfl rfl ht_7 ?_
    refine z_astore_n dX0_close_51 rfl (by decide) (lc' := [(0, .ref a), (1, .int x1), (2, .ref e_4)]) rfl ?_
    refine z_aload_n 0 dX0_close_52 rfl rfl ?_
    refine z_aload_n 2 dX0_close_53 rfl rfl ?_
    obtain ⟨hK_8, hf⟩ := zck_some hf
    refine z_geti fdX0_17_1 ((hK_8.b 0 rfl).t 0 rfl) dX0_close_54 ?_
    obtain ⟨v_10, h_11, hc_9, hf⟩ := zb2_some hf
    have hct := ctX0_answer (l := F.1) hL hc_9
    refine z_invVi suX0_163_0 hct ((hL.b 0 rfl).t 0 rfl) ⟨Nat.le_trans (by decide) hD, by decide⟩ rfl rfl (Nat.le_of_ble_eq_true rfl) dX0_close_57 ?_
    have hL := hL.ext hct.1
    have hK_8 := hK_8.ext hct.1
    cases hf
    exact z_iret dX0_close_60 rfl hM
  have hct := ctX0_tableAt (l := F.1) hL hc_1
  refine z_invVq suX0_180_0 hct ((hL.b 0 rfl).t 0 rfl) ⟨Nat.le_trans (by decide) hD, by decide⟩ rfl rfl (Nat.le_of_ble_eq_true rfl) dX0_close_3 ?_
  have hL := hL.ext hct.1
  obtain ⟨b_12, e9, hf9⟩ := zb1_some hf
  subst e9
  have hf := hf9
  refine z_astore_n dX0_close_6 rfl (by decide) (lc' := [(0, .ref a), (1, .int x1), (2, .ref b_12)]) rfl ?_
  refine z_aload_n 2 dX0_close_7 rfl rfl ?_
  obtain ⟨hK_13, hf⟩ := zck_some hf
  obtain ⟨v_15, h_16, hc_14, hf⟩ := zb2_some hf
  have hct := ctX3_isBad (l := F.1) hK_13 hc_14
  refine z_invVi suX0_227_2 hct ((hK_13.b 0 rfl).t 0 rfl) ⟨Nat.le_trans (by decide) hD, by decide⟩ rfl rfl (Nat.le_of_ble_eq_true rfl) dX0_close_8 ?_
  have hL := hL.ext hct.1
  have hK_13 := hK_13.ext hct.1
  refine z_if_eq 45 dX0_close_11 rfl hf (fun _ hf => ?_) (fun _ hf => ?_)
  · refine z_aload_n 2 dX0_close_45 rfl rfl ?_
    obtain ⟨h_19, hc_17, hf⟩ := zb1_some hf
    have hct := ctX3_close (l := F.1) hK_13 hc_17
    refine z_invVv suX0_248_2 hct ((hK_13.b 0 rfl).t 0 rfl) ⟨Nat.le_trans (by decide) hD, by decide⟩ rfl rfl (Nat.le_of_ble_eq_true rfl) dX0_close_46 ?_
    have hL := hL.ext hct.1
    have hK_13 := hK_13.ext hct.1
    refine z_iconst 0 dX0_close_49 rfl ?_
    cases hf
    exact z_iret dX0_close_50 rfl hM
  · refine z_aload_n 0 dX0_close_14 rfl rfl ?_
    refine z_aload_n 2 dX0_close_15 rfl rfl ?_
    refine z_geti fdX0_230_2 ((hK_13.b 0 rfl).t 0 rfl) dX0_close_16 ?_
    obtain ⟨h_20, he, hf⟩ := zlet_some hf
    refine z_puti fdX0_233_0 ((hL.b 0 rfl).t 0 rfl) ((hL.b 0 rfl).nz 0) he dX0_close_19 ?_
    have hL := hL.I he
    have hK_13 := hK_13.I he
    refine z_aload_n 0 dX0_close_22 rfl rfl ?_
    refine z_aload_n 2 dX0_close_23 rfl rfl ?_
    refine z_geti fdX0_236_2 ((hK_13.b 0 rfl).t 0 rfl) dX0_close_24 ?_
    obtain ⟨h_21, he, hf⟩ := zlet_some hf
    refine z_puti fdX0_239_0 ((hL.b 0 rfl).t 0 rfl) ((hL.b 0 rfl).nz 0) he dX0_close_27 ?_
    have hL := hL.I he
    have hK_13 := hK_13.I he
    refine z_aload_n 0 dX0_close_30 rfl rfl ?_
    refine z_aload_n 2 dX0_close_31 rfl rfl ?_
    refine z_geti fdX0_242_2 ((hK_13.b 0 rfl).t 0 rfl) dX0_close_32 ?_
    obtain ⟨h_22, he, hf⟩ := zlet_some hf
    refine z_puti fdX0_245_0 ((hL.b 0 rfl).t 0 rfl) ((hL.b 0 rfl).nz 0) he dX0_close_35 ?_
    have hL := hL.I he
    have hK_13 := hK_13.I he
    refine z_aload_n 0 dX0_close_38 rfl rfl ?_
    refine z_bipush (-8) dX0_close_39 rfl ?_
    obtain ⟨v_24, h_25, hc_23, hf⟩ := zb2_some hf
    have hct := ctX0_refused (l := F.1) hL hc_23
    refine z_invVq suX0_140_0 hct ((hL.b 0 rfl).t 0 rfl) ⟨Nat.le_trans (by decide) hD, by decide⟩ rfl rfl (Nat.le_of_ble_eq_true rfl) dX0_close_41 ?_
    have hL := hL.ext hct.1
    have hK_13 := hK_13.ext hct.1
    obtain ⟨b_26, e9, hf9⟩ := zb1_some hf
    subst e9
    have hf := hf9
    refine z_athrow dX0_close_44 ?_
    obtain ⟨ht_27, hf⟩ := zck_some hf
    refine zt_catch (q := (RX1, TX1, 7)) rfl (by decide) q129 rfl rfl ht_27 ?_
    refine z_astore_n dX0_close_51 rfl (by decide) (lc' := [(0, .ref a), (1, .int x1), (2, .ref b_26)]) rfl ?_
    refine z_aload_n 0 dX0_close_52 rfl rfl ?_
    refine z_aload_n 2 dX0_close_53 rfl rfl ?_
    obtain ⟨hK_28, hf⟩ := zck_some hf
    refine z_geti fdX0_17_1 ((hK_28.b 0 rfl).t 0 rfl) dX0_close_54 ?_
    obtain ⟨v_30, h_31, hc_29, hf⟩ := zb2_some hf
    have hct := ctX0_answer (l := F.1) hL hc_29
    refine z_invVi suX0_163_0 hct ((hL.b 0 rfl).t 0 rfl) ⟨Nat.le_trans (by decide) hD, by decide⟩ rfl rfl (Nat.le_of_ble_eq_true rfl) dX0_close_57 ?_
    have hL := hL.ext hct.1
    have hK_13 := hK_13.ext hct.1
    have hK_28 := hK_28.ext hct.1
    cases hf
    exact z_iret dX0_close_60 rfl hM
theorem ctX0_close {l : Launch} {h : zH} {a : Nat} {x1 : Int32} {v : Int32} {h' : zH} (hL : zXx h a) (hf : fX0_close h a x1 = some (v, h')) : zC l yX0_close (wsW_ yX0_close cX0_close 3 (some .int) [(0, 50, 51, 18)]) 122 [.ref a, .int x1] h (.inl (some (.int v)), h') :=
  z_startW (by decide) (Nat.le_of_ble_eq_true rfl) (zX0_close (F := (l, 122, h, (.inl (some (.int v)), h'))) (Nat.le_refl _) hL hf rfl)
theorem caX0_150_4 : ∀ ci ∈ [2, 8, 9, 10], zCa RX0 150 ci := by
  intro ci h
  simp only [List.mem_cons, List.not_mem_nil, or_false] at h
  rcases h with rfl | rfl | rfl | rfl
  · exact ⟨_, _, _, rfl, rfl, q856, Or.inr q1966⟩
  · exact ⟨_, _, _, rfl, rfl, q856, Or.inr q1968⟩
  · exact ⟨_, _, _, rfl, rfl, q856, Or.inr q1967⟩
  · exact ⟨_, _, _, rfl, rfl, q856, Or.inr q1965⟩
noncomputable def fX0_pageAt (h : zH) (a : Nat) (x1 : Int32) : Option (zX) := zb2 (fX0_thingAt h a x1) (fun v_2 h_3 => zrq v_2 (zb2 (fX0_refused h_3 a ((-1))) (fun v_6 h_7 => zb1 v_6 (fun b_8 => some ((.inr b_8, h_7))))) (fun b_4 => zck (zPg h_3 b_4) (some ((.inl (some (.ref b_4)), h_3)))))
theorem zX0_pageAt {F : zF} {h : zH} {a : Nat} {x1 : Int32} {y : zX} (hD : 121 ≤ F.2.1) (hL : zXx h a) (hf : fX0_pageAt h a x1 = some y) (hM : (y : zX) = zEnd F) : Z F 3 cX0_pageAt RX0 "pageAt" (some (.object "CodeExchange$Page")) [] h 0 [(0, .ref a), (1, .int x1)] [] := by
  unfold fX0_pageAt at hf
  refine z_aload_n 0 dX0_pageAt_0 rfl rfl ?_
  refine z_iload_n 1 dX0_pageAt_1 rfl rfl ?_
  obtain ⟨v_2, h_3, hc_1, hf⟩ := zb2_some hf
  have hct := ctX0_thingAt (l := F.1) hL hc_1
  refine z_invVq suX0_134_0 hct ((hL.b 0 rfl).t 0 rfl) ⟨Nat.le_trans (by decide) hD, by decide⟩ rfl rfl (Nat.le_of_ble_eq_true rfl) dX0_pageAt_2 ?_
  have hL := hL.ext hct.1
  rcases zrq_some hf with ⟨e9, hf9⟩ | ⟨b_4, e9, hf9⟩
  · subst e9
    have hf := hf9
    refine z_castN dX0_pageAt_5 ?_
    refine z_astore_nq (x := none) dX0_pageAt_8 rfl (by decide) (lc' := [(0, .ref a), (1, .int x1), (2, .null)]) rfl ?_
    refine z_aload_nq (x := none) 2 dX0_pageAt_9 rfl rfl ?_
    refine z_ifnonnullN dX0_pageAt_10 ?_
    refine z_aload_n 0 dX0_pageAt_13 rfl rfl ?_
    refine z_iconst (-1) dX0_pageAt_14 rfl ?_
    obtain ⟨v_6, h_7, hc_5, hf⟩ := zb2_some hf
    have hct := ctX0_refused (l := F.1) hL hc_5
    refine z_invVq suX0_140_0 hct ((hL.b 0 rfl).t 0 rfl) ⟨Nat.le_trans (by decide) hD, by decide⟩ rfl rfl (Nat.le_of_ble_eq_true rfl) dX0_pageAt_15 ?_
    have hL := hL.ext hct.1
    obtain ⟨b_8, e9, hf9⟩ := zb1_some hf
    subst e9
    have hf := hf9
    refine z_athrow dX0_pageAt_18 ?_
    cases hf
    exact zt_out rfl hM
  · subst e9
    have hf := hf9
    obtain ⟨hK_9, hf⟩ := zck_some hf
    refine z_castP caX0_150_4 hK_9 dX0_pageAt_5 ?_
    refine z_astore_n dX0_pageAt_8 rfl (by decide) (lc' := [(0, .ref a), (1, .int x1), (2, .ref b_4)]) rfl ?_
    refine z_aload_n 2 dX0_pageAt_9 rfl rfl ?_
    refine z_ifnonnullR 19 dX0_pageAt_10 rfl ?_
    refine z_aload_n 2 dX0_pageAt_19 rfl rfl ?_
    cases hf
    exact z_aret (o := (some b_4)) dX0_pageAt_20 rfl (Or.inl ⟨_, rfl⟩) hM
theorem ctX0_pageAt {l : Launch} {h : zH} {a : Nat} {x1 : Int32} {y : zX} (hL : zXx h a) (hf : fX0_pageAt h a x1 = some y) : zC l yX0_pageAt (ws_ yX0_pageAt cX0_pageAt 3 (some (.object "CodeExchange$Page"))) 121 [.ref a, .int x1] h y :=
  z_start (by decide) (Nat.le_of_ble_eq_true rfl) (zX0_pageAt (F := (l, 121, h, y)) (Nat.le_refl _) hL hf rfl)
noncomputable def fX11_kind (a : Nat) : Option (Int32) := some 1
theorem zX11_kind {F : zF} {h : zH} {a : Nat} {y : Int32} (hD : 1 ≤ F.2.1) (hL : zOb 8 h a) (hf : fX11_kind a = some y) (hM : ((.inl (some (.int y)), h) : zX) = zEnd F) : Z F 1 cX11_kind RX11 "kind" (some .int) [] h 0 [(0, .ref a)] [] := by
  unfold fX11_kind at hf
  refine z_iconst 1 dX11_kind_0 rfl ?_
  cases hf
  exact z_iret dX11_kind_1 rfl hM
theorem ctX11_kind {l : Launch} {h : zH} {a : Nat} {v : Int32} (hL : zOb 8 h a) (hf : fX11_kind a = some v) : zC l yX11_kind (ws_ yX11_kind cX11_kind 1 (some .int)) 1 [.ref a] h (.inl (some (.int v)), h) :=
  z_start (by decide) (Nat.le_of_ble_eq_true rfl) (zX11_kind (F := (l, 1, h, (.inl (some (.int v)), h))) (Nat.le_refl _) hL hf rfl)
noncomputable def fX12_kind (a : Nat) : Option (Int32) := some 2
theorem zX12_kind {F : zF} {h : zH} {a : Nat} {y : Int32} (hD : 1 ≤ F.2.1) (hL : zOb 9 h a) (hf : fX12_kind a = some y) (hM : ((.inl (some (.int y)), h) : zX) = zEnd F) : Z F 1 cX12_kind RX12 "kind" (some .int) [] h 0 [(0, .ref a)] [] := by
  unfold fX12_kind at hf
  refine z_iconst 2 dX12_kind_0 rfl ?_
  cases hf
  exact z_iret dX12_kind_1 rfl hM
theorem ctX12_kind {l : Launch} {h : zH} {a : Nat} {v : Int32} (hL : zOb 9 h a) (hf : fX12_kind a = some v) : zC l yX12_kind (ws_ yX12_kind cX12_kind 1 (some .int)) 1 [.ref a] h (.inl (some (.int v)), h) :=
  z_start (by decide) (Nat.le_of_ble_eq_true rfl) (zX12_kind (F := (l, 1, h, (.inl (some (.int v)), h))) (Nat.le_refl _) hL hf rfl)
noncomputable def fX13_kind (a : Nat) : Option (Int32) := some 3
theorem zX13_kind {F : zF} {h : zH} {a : Nat} {y : Int32} (hD : 1 ≤ F.2.1) (hL : zOb 10 h a) (hf : fX13_kind a = some y) (hM : ((.inl (some (.int y)), h) : zX) = zEnd F) : Z F 1 cX13_kind RX13 "kind" (some .int) [] h 0 [(0, .ref a)] [] := by
  unfold fX13_kind at hf
  refine z_iconst 3 dX13_kind_0 rfl ?_
  cases hf
  exact z_iret dX13_kind_1 rfl hM
theorem ctX13_kind {l : Launch} {h : zH} {a : Nat} {v : Int32} (hL : zOb 10 h a) (hf : fX13_kind a = some v) : zC l yX13_kind (ws_ yX13_kind cX13_kind 1 (some .int)) 1 [.ref a] h (.inl (some (.int v)), h) :=
  z_start (by decide) (Nat.le_of_ble_eq_true rfl) (zX13_kind (F := (l, 1, h, (.inl (some (.int v)), h))) (Nat.le_refl _) hL hf rfl)
noncomputable def fX10_isClosed_8 (a : Nat) : Option (Int32) := some 1
theorem zX10_isClosed_8 {F : zF} {h : zH} {a : Nat} {y : Int32} (hD : 1 ≤ F.2.1) (hL : zOb 8 h a) (hf : fX10_isClosed_8 a = some y) (hM : ((.inl (some (.int y)), h) : zX) = zEnd F) : Z F 1 cX10_isClosed RX10 "isClosed" (some .boolean) [] h 0 [(0, .ref a)] [] := by
  unfold fX10_isClosed_8 at hf
  refine z_iconst 1 dX10_isClosed_0 rfl ?_
  cases hf
  exact z_zret dX10_isClosed_1 rfl (Or.inr rfl) hM
theorem ctX10_isClosed_8 {l : Launch} {h : zH} {a : Nat} {v : Int32} (hL : zOb 8 h a) (hf : fX10_isClosed_8 a = some v) : zC l yX10_isClosed (ws_ yX10_isClosed cX10_isClosed 1 (some .boolean)) 1 [.ref a] h (.inl (some (.int v)), h) :=
  z_start (by decide) (Nat.le_of_ble_eq_true rfl) (zX10_isClosed_8 (F := (l, 1, h, (.inl (some (.int v)), h))) (Nat.le_refl _) hL hf rfl)
noncomputable def fX10_isClosed_9 (a : Nat) : Option (Int32) := some 1
theorem zX10_isClosed_9 {F : zF} {h : zH} {a : Nat} {y : Int32} (hD : 1 ≤ F.2.1) (hL : zOb 9 h a) (hf : fX10_isClosed_9 a = some y) (hM : ((.inl (some (.int y)), h) : zX) = zEnd F) : Z F 1 cX10_isClosed RX10 "isClosed" (some .boolean) [] h 0 [(0, .ref a)] [] := by
  unfold fX10_isClosed_9 at hf
  refine z_iconst 1 dX10_isClosed_0 rfl ?_
  cases hf
  exact z_zret dX10_isClosed_1 rfl (Or.inr rfl) hM
theorem ctX10_isClosed_9 {l : Launch} {h : zH} {a : Nat} {v : Int32} (hL : zOb 9 h a) (hf : fX10_isClosed_9 a = some v) : zC l yX10_isClosed (ws_ yX10_isClosed cX10_isClosed 1 (some .boolean)) 1 [.ref a] h (.inl (some (.int v)), h) :=
  z_start (by decide) (Nat.le_of_ble_eq_true rfl) (zX10_isClosed_9 (F := (l, 1, h, (.inl (some (.int v)), h))) (Nat.le_refl _) hL hf rfl)
noncomputable def fX10_isClosed_10 (a : Nat) : Option (Int32) := some 1
theorem zX10_isClosed_10 {F : zF} {h : zH} {a : Nat} {y : Int32} (hD : 1 ≤ F.2.1) (hL : zOb 10 h a) (hf : fX10_isClosed_10 a = some y) (hM : ((.inl (some (.int y)), h) : zX) = zEnd F) : Z F 1 cX10_isClosed RX10 "isClosed" (some .boolean) [] h 0 [(0, .ref a)] [] := by
  unfold fX10_isClosed_10 at hf
  refine z_iconst 1 dX10_isClosed_0 rfl ?_
  cases hf
  exact z_zret dX10_isClosed_1 rfl (Or.inr rfl) hM
theorem ctX10_isClosed_10 {l : Launch} {h : zH} {a : Nat} {v : Int32} (hL : zOb 10 h a) (hf : fX10_isClosed_10 a = some v) : zC l yX10_isClosed (ws_ yX10_isClosed cX10_isClosed 1 (some .boolean)) 1 [.ref a] h (.inl (some (.int v)), h) :=
  z_start (by decide) (Nat.le_of_ble_eq_true rfl) (zX10_isClosed_10 (F := (l, 1, h, (.inl (some (.int v)), h))) (Nat.le_refl _) hL hf rfl)
theorem suX0_152_0 : zIv RX0 152 yX0_pageAt (ws_ yX0_pageAt cX0_pageAt 3 (some (.object "CodeExchange$Page"))) 3 0 1 := ⟨(zGood_c q855 q97), ⟨_, _, rfl, rfl, qs21⟩, (Or.inl q852), q854, ⟨by decide, by decide⟩, by decide +kernel⟩
noncomputable def fV_Page_isClosed (h : zH) (b : Nat)  : Option (Int32) := if zT h b = (3, 0) then (zck (zTb h b) (fX3_isClosed h b)) else if zT h b = (9, 0) then (zck (zOb 8 h b) (fX10_isClosed_8 b)) else if zT h b = (10, 0) then (zck (zOb 9 h b) (fX10_isClosed_9 b)) else if zT h b = (11, 0) then (zck (zOb 10 h b) (fX10_isClosed_10 b)) else none
theorem suX0_156_2 : zIu RX0 156 ⟨"CodeExchange$Page", "isClosed", "()Z"⟩ "CodeExchange$Page" yX3_isClosed (ws_ yX3_isClosed cX3_isClosed 1 (some .boolean)) 1 2 0 := ⟨(zGood_c q880 q103), ⟨_, _, rfl, rfl, q878⟩, q872, q874, (Or.inr q873), by decide, q879, by decide +kernel⟩
theorem suX0_156_8 : zIu RX0 156 ⟨"CodeExchange$Page", "isClosed", "()Z"⟩ "CodeExchange$Page" yX10_isClosed (ws_ yX10_isClosed cX10_isClosed 1 (some .boolean)) 1 8 0 := ⟨(zGood_c q877 q110), ⟨_, _, rfl, rfl, q882⟩, q872, q874, (Or.inr q873), by decide, q876, by decide +kernel⟩
theorem suX0_156_9 : zIu RX0 156 ⟨"CodeExchange$Page", "isClosed", "()Z"⟩ "CodeExchange$Page" yX10_isClosed (ws_ yX10_isClosed cX10_isClosed 1 (some .boolean)) 1 9 0 := ⟨(zGood_c q877 q110), ⟨_, _, rfl, rfl, q881⟩, q872, q874, (Or.inr q873), by decide, q876, by decide +kernel⟩
theorem suX0_156_10 : zIu RX0 156 ⟨"CodeExchange$Page", "isClosed", "()Z"⟩ "CodeExchange$Page" yX10_isClosed (ws_ yX10_isClosed cX10_isClosed 1 (some .boolean)) 1 10 0 := ⟨(zGood_c q877 q110), ⟨_, _, rfl, rfl, q875⟩, q872, q874, (Or.inr q873), by decide, q876, by decide +kernel⟩
theorem zVX0_156i {F : zF} {nL : Nat} {cc : ByteArray} {nm : String} {ret : Option FieldType} {hh : List (Nat × Nat × Nat × Nat)} {h : zH} {pc b : Nat} {lc : List (Nat × Value)} {st : List Value}  {v : Int32} (hD : 2 ≤ F.2.1) (hf : fV_Page_isClosed h b  = some v) (hcat : (st.map fun v => v.category).sum ≤ 8) (hd : decode cc pc = .ok (.invokevirtual 156, 3)) (kk : Z F nL cc RX0 nm ret hh h (pc + 3) lc (.int v :: st)) : Z F nL cc RX0 nm ret hh h pc lc (.ref b :: st) := by
  unfold fV_Page_isClosed at hf
  refine zdsp hf (fun e hf => ?_) (fun _ hf => ?_)
  · obtain ⟨hK, hf⟩ := zck_some hf
    have hc := hf
    exact z_invUi suX0_156_2 (ctX3_isClosed hK hc) e ⟨Nat.le_trans (by decide) hD, by decide⟩ rfl rfl hcat hd kk
  refine zdsp hf (fun e hf => ?_) (fun _ hf => ?_)
  · obtain ⟨hK, hf⟩ := zck_some hf
    have hc := hf
    exact z_invUi suX0_156_8 (ctX10_isClosed_8 hK hc) e ⟨Nat.le_trans (by decide) hD, by decide⟩ rfl rfl hcat hd kk
  refine zdsp hf (fun e hf => ?_) (fun _ hf => ?_)
  · obtain ⟨hK, hf⟩ := zck_some hf
    have hc := hf
    exact z_invUi suX0_156_9 (ctX10_isClosed_9 hK hc) e ⟨Nat.le_trans (by decide) hD, by decide⟩ rfl rfl hcat hd kk
  refine zdsp hf (fun e hf => ?_) (fun _ hf => ?_)
  · obtain ⟨hK, hf⟩ := zck_some hf
    have hc := hf
    exact z_invUi suX0_156_10 (ctX10_isClosed_10 hK hc) e ⟨Nat.le_trans (by decide) hD, by decide⟩ rfl rfl hcat hd kk
  cases hf
noncomputable def fV_Page_kind (h : zH) (b : Nat)  : Option (Int32) := if zT h b = (3, 0) then (zck (zTb h b) (fX3_kind b)) else if zT h b = (9, 0) then (zck (zOb 8 h b) (fX11_kind b)) else if zT h b = (10, 0) then (zck (zOb 9 h b) (fX12_kind b)) else if zT h b = (11, 0) then (zck (zOb 10 h b) (fX13_kind b)) else none
theorem suX0_251_2 : zIu RX0 251 ⟨"CodeExchange$Page", "kind", "()I"⟩ "CodeExchange$Page" yX3_kind (ws_ yX3_kind cX3_kind 1 (some .int)) 1 2 0 := ⟨(zGood_c q865 q103), ⟨_, _, rfl, rfl, q863⟩, q857, q859, (Or.inr q858), by decide, q864, by decide +kernel⟩
theorem suX0_251_8 : zIu RX0 251 ⟨"CodeExchange$Page", "kind", "()I"⟩ "CodeExchange$Page" yX11_kind (ws_ yX11_kind cX11_kind 1 (some .int)) 1 8 0 := ⟨(zGood_c q871 q111), ⟨_, _, rfl, rfl, q869⟩, q857, q859, (Or.inr q858), by decide, q870, by decide +kernel⟩
theorem suX0_251_9 : zIu RX0 251 ⟨"CodeExchange$Page", "kind", "()I"⟩ "CodeExchange$Page" yX12_kind (ws_ yX12_kind cX12_kind 1 (some .int)) 1 9 0 := ⟨(zGood_c q868 q112), ⟨_, _, rfl, rfl, q866⟩, q857, q859, (Or.inr q858), by decide, q867, by decide +kernel⟩
theorem suX0_251_10 : zIu RX0 251 ⟨"CodeExchange$Page", "kind", "()I"⟩ "CodeExchange$Page" yX13_kind (ws_ yX13_kind cX13_kind 1 (some .int)) 1 10 0 := ⟨(zGood_c q862 q113), ⟨_, _, rfl, rfl, q860⟩, q857, q859, (Or.inr q858), by decide, q861, by decide +kernel⟩
theorem zVX0_251i {F : zF} {nL : Nat} {cc : ByteArray} {nm : String} {ret : Option FieldType} {hh : List (Nat × Nat × Nat × Nat)} {h : zH} {pc b : Nat} {lc : List (Nat × Value)} {st : List Value}  {v : Int32} (hD : 2 ≤ F.2.1) (hf : fV_Page_kind h b  = some v) (hcat : (st.map fun v => v.category).sum ≤ 8) (hd : decode cc pc = .ok (.invokevirtual 251, 3)) (kk : Z F nL cc RX0 nm ret hh h (pc + 3) lc (.int v :: st)) : Z F nL cc RX0 nm ret hh h pc lc (.ref b :: st) := by
  unfold fV_Page_kind at hf
  refine zdsp hf (fun e hf => ?_) (fun _ hf => ?_)
  · obtain ⟨hK, hf⟩ := zck_some hf
    have hc := hf
    exact z_invUi suX0_251_2 (ctX3_kind hK hc) e ⟨Nat.le_trans (by decide) hD, by decide⟩ rfl rfl hcat hd kk
  refine zdsp hf (fun e hf => ?_) (fun _ hf => ?_)
  · obtain ⟨hK, hf⟩ := zck_some hf
    have hc := hf
    exact z_invUi suX0_251_8 (ctX11_kind hK hc) e ⟨Nat.le_trans (by decide) hD, by decide⟩ rfl rfl hcat hd kk
  refine zdsp hf (fun e hf => ?_) (fun _ hf => ?_)
  · obtain ⟨hK, hf⟩ := zck_some hf
    have hc := hf
    exact z_invUi suX0_251_9 (ctX12_kind hK hc) e ⟨Nat.le_trans (by decide) hD, by decide⟩ rfl rfl hcat hd kk
  refine zdsp hf (fun e hf => ?_) (fun _ hf => ?_)
  · obtain ⟨hK, hf⟩ := zck_some hf
    have hc := hf
    exact z_invUi suX0_251_10 (ctX13_kind hK hc) e ⟨Nat.le_trans (by decide) hD, by decide⟩ rfl rfl hcat hd kk
  cases hf
noncomputable def fX0_size (h : zH) (a : Nat) (x1 : Int32) (x2 : Int32) : Option (Int32 × zH) := zxr (fX0_pageAt h a x1) (fun v_2 h_3 => zb1 v_2 (fun b_12 => zb1 (fX0_in x2 0 3) (fun v_14 => zxv (fX0_need h_3 a v_14 ((-1))) (fun h_18 => zck (zPg h_18 b_12) (if x2 = 0 then (zb1 (fV_Page_kind h_18 b_12) (fun v_34 => some ((v_34, h_18)))) else (if x2 = 1 then (zb1 (fV_Page_isClosed h_18 b_12) (fun v_31 => if v_31 = 0 then (some ((0, h_18))) else (some ((1, h_18))))) else (if ((if zT h_18 b_12 = (3, 0) then 1 else 0 : Int32)) = 0 then (some ((0, h_18))) else (if x2 = 2 then (zck (zTb h_18 b_12) (some ((zI h_18 b_12 4, h_18)))) else (zck (zTb h_18 b_12) (some ((zI h_18 b_12 10, h_18))))))))) (fun e_19 h_20 => zck (zT h_20 e_19 = (2, 0)) (zck (zOb 1 h_20 e_19) (zb2 (fX0_answer h_20 a (zI h_20 e_19 6)) (fun v_25 h_26 => some ((v_25, h_26))))))))) (fun e_4 h_5 => zck (zT h_5 e_4 = (2, 0)) (zck (zOb 1 h_5 e_4) (zb2 (fX0_answer h_5 a (zI h_5 e_4 6)) (fun v_10 h_11 => some ((v_10, h_11))))))
theorem zX0_size {F : zF} {h : zH} {a : Nat} {x1 : Int32} {x2 : Int32} {y : Int32 × zH} (hD : 122 ≤ F.2.1) (hL : zXx h a) (hf : fX0_size h a x1 x2 = some y) (hM : ((.inl (some (.int y.1)), y.2) : zX) = zEnd F) : Z F 5 cX0_size RX0 "size" (some .int) [(0, 85, 86, 18)] h 0 [(0, .ref a), (1, .int x1), (2, .int x2)] [] := by
  unfold fX0_size at hf
  refine z_aload_n 0 dX0_size_0 rfl rfl ?_
  refine z_iload_n 1 dX0_size_1 rfl rfl ?_
  rcases zxr_some hf with ⟨v_2, h_3, hc_1, hf⟩ | ⟨e_4, h_5, hc_6, hf⟩
  rotate_left
  · have hct := ctX0_pageAt (l := F.1) hL hc_6
    refine z_invVt suX0_152_0 hct ((hL.b 0 rfl).t 0 rfl) ⟨Nat.le_trans (by decide) hD, by decide⟩ rfl rfl (Nat.le_of_ble_eq_true rfl) dX0_size_2 ?_
    have hL := hL.ext hct.1
    obtain ⟨ht_7, hf⟩ := zck_some hf
    refine zt_catch (q := (RX1, TX1, 7)) rfl (by decide) q129 rfl rfl ht_7 ?_
    refine z_astore_n dX0_size_86 rfl (by decide) (lc' := [(0, .ref a), (1, .int x1), (2, .int x2), (3, .ref e_4)]) rfl ?_
    refine z_aload_n 0 dX0_size_87 rfl rfl ?_
    refine z_aload_n 3 dX0_size_88 rfl rfl ?_
    obtain ⟨hK_8, hf⟩ := zck_some hf
    refine z_geti fdX0_17_1 ((hK_8.b 0 rfl).t 0 rfl) dX0_size_89 ?_
    obtain ⟨v_10, h_11, hc_9, hf⟩ := zb2_some hf
    have hct := ctX0_answer (l := F.1) hL hc_9
    refine z_invVi suX0_163_0 hct ((hL.b 0 rfl).t 0 rfl) ⟨Nat.le_trans (by decide) hD, by decide⟩ rfl rfl (Nat.le_of_ble_eq_true rfl) dX0_size_92 ?_
    have hL := hL.ext hct.1
    have hK_8 := hK_8.ext hct.1
    cases hf
    exact z_iret dX0_size_95 rfl hM
  have hct := ctX0_pageAt (l := F.1) hL hc_1
  refine z_invVq suX0_152_0 hct ((hL.b 0 rfl).t 0 rfl) ⟨Nat.le_trans (by decide) hD, by decide⟩ rfl rfl (Nat.le_of_ble_eq_true rfl) dX0_size_2 ?_
  have hL := hL.ext hct.1
  obtain ⟨b_12, e9, hf9⟩ := zb1_some hf
  subst e9
  have hf := hf9
  refine z_astore_n dX0_size_5 rfl (by decide) (lc' := [(0, .ref a), (1, .int x1), (2, .int x2), (3, .ref b_12)]) rfl ?_
  refine z_aload_n 0 dX0_size_6 rfl rfl ?_
  refine z_iload_n 2 dX0_size_7 rfl rfl ?_
  refine z_iconst 0 dX0_size_8 rfl ?_
  refine z_iconst 3 dX0_size_9 rfl ?_
  obtain ⟨v_14, hc_13, hf⟩ := zb1_some hf
  refine z_invSi suX0_4_s (ctX0_in hc_13) ⟨Nat.le_trans (by decide) hD, by decide⟩ rfl rfl (Nat.le_of_ble_eq_true rfl) dX0_size_10 ?_
  refine z_iconst (-1) dX0_size_13 rfl ?_
  rcases zxv_some hf with ⟨h_18, hc_16, hf⟩ | ⟨e_19, h_20, hc_21, hf⟩
  rotate_left
  · have hct := ctX0_need (l := F.1) hL hc_21
    refine z_invVt suX0_184_0 hct ((hL.b 0 rfl).t 0 rfl) ⟨Nat.le_trans (by decide) hD, by decide⟩ rfl rfl (Nat.le_of_ble_eq_true rfl) dX0_size_14 ?_
    have hL := hL.ext hct.1
    obtain ⟨ht_22, hf⟩ := zck_some hf
    refine zt_catch (q := (RX1, TX1, 7)) rfl (by decide) q129 rfl rfl ht_22 ?_
    refine z_astore_n dX0_size_86 rfl (by decide) (lc' := [(0, .ref a), (1, .int x1), (2, .int x2), (3, .ref e_19)]) rfl ?_
    refine z_aload_n 0 dX0_size_87 rfl rfl ?_
    refine z_aload_n 3 dX0_size_88 rfl rfl ?_
    obtain ⟨hK_23, hf⟩ := zck_some hf
    refine z_geti fdX0_17_1 ((hK_23.b 0 rfl).t 0 rfl) dX0_size_89 ?_
    obtain ⟨v_25, h_26, hc_24, hf⟩ := zb2_some hf
    have hct := ctX0_answer (l := F.1) hL hc_24
    refine z_invVi suX0_163_0 hct ((hL.b 0 rfl).t 0 rfl) ⟨Nat.le_trans (by decide) hD, by decide⟩ rfl rfl (Nat.le_of_ble_eq_true rfl) dX0_size_92 ?_
    have hL := hL.ext hct.1
    have hK_23 := hK_23.ext hct.1
    cases hf
    exact z_iret dX0_size_95 rfl hM
  have hct := ctX0_need (l := F.1) hL hc_16
  refine z_invVv suX0_184_0 hct ((hL.b 0 rfl).t 0 rfl) ⟨Nat.le_trans (by decide) hD, by decide⟩ rfl rfl (Nat.le_of_ble_eq_true rfl) dX0_size_14 ?_
  have hL := hL.ext hct.1
  refine z_aload_n 3 dX0_size_17 rfl rfl ?_
  obtain ⟨hK_27, hf⟩ := zck_some hf
  refine z_instP q214 hK_27 dX0_size_18 ?_
  refine z_istore dX0_size_21 (by decide) (lc' := [(0, .ref a), (1, .int x1), (2, .int x2), (3, .ref b_12), (4, .int ((if zT h_18 b_12 = (3, 0) then 1 else 0 : Int32)))]) rfl ?_
  refine z_iload_n 2 dX0_size_23 rfl rfl ?_
  refine z_if_ne 34 dX0_size_24 rfl hf (fun _ hf => ?_) (fun _ hf => ?_)
  · refine z_iload_n 2 dX0_size_34 rfl rfl ?_
    refine z_iconst 1 dX0_size_35 rfl ?_
    refine z_icmp_ne 54 dX0_size_36 rfl hf (fun _ hf => ?_) (fun _ hf => ?_)
    · refine z_iload 4 dX0_size_54 rfl ?_
      refine z_if_ne 63 dX0_size_56 rfl hf (fun _ hf => ?_) (fun _ hf => ?_)
      · refine z_iload_n 2 dX0_size_63 rfl rfl ?_
        refine z_iconst 2 dX0_size_64 rfl ?_
        refine z_icmp_ne 78 dX0_size_65 rfl hf (fun _ hf => ?_) (fun _ hf => ?_)
        · refine z_aload_n 3 dX0_size_78 rfl rfl ?_
          obtain ⟨hK_28, hf⟩ := zck_some hf
          refine z_cast caX0_42_1 ((hK_28.b 0 rfl).t 0 rfl) dX0_size_79 ?_
          refine z_geti fdX0_214_2 ((hK_28.b 0 rfl).t 0 rfl) dX0_size_82 ?_
          cases hf
          exact z_iret dX0_size_85 rfl hM
        · refine z_aload_n 3 dX0_size_68 rfl rfl ?_
          obtain ⟨hK_29, hf⟩ := zck_some hf
          refine z_cast caX0_42_1 ((hK_29.b 0 rfl).t 0 rfl) dX0_size_69 ?_
          refine z_geti fdX0_203_2 ((hK_29.b 0 rfl).t 0 rfl) dX0_size_72 ?_
          refine z_goto 85 dX0_size_75 rfl ?_
          cases hf
          exact z_iret dX0_size_85 rfl hM
      · refine z_iconst 0 dX0_size_59 rfl ?_
        refine z_goto 85 dX0_size_60 rfl ?_
        cases hf
        exact z_iret dX0_size_85 rfl hM
    · refine z_aload_n 3 dX0_size_39 rfl rfl ?_
      obtain ⟨v_31, hc_30, hf⟩ := zb1_some hf
      refine zVX0_156i (Nat.le_trans (by decide) hD) hc_30 (Nat.le_of_ble_eq_true rfl) dX0_size_40 ?_
      refine z_if_eq 50 dX0_size_43 rfl hf (fun _ hf => ?_) (fun _ hf => ?_)
      · refine z_iconst 0 dX0_size_50 rfl ?_
        refine z_goto 85 dX0_size_51 rfl ?_
        cases hf
        exact z_iret dX0_size_85 rfl hM
      · refine z_iconst 1 dX0_size_46 rfl ?_
        refine z_goto 85 dX0_size_47 rfl ?_
        cases hf
        exact z_iret dX0_size_85 rfl hM
  · refine z_aload_n 3 dX0_size_27 rfl rfl ?_
    obtain ⟨v_34, hc_33, hf⟩ := zb1_some hf
    refine zVX0_251i (Nat.le_trans (by decide) hD) hc_33 (Nat.le_of_ble_eq_true rfl) dX0_size_28 ?_
    refine z_goto 85 dX0_size_31 rfl ?_
    cases hf
    exact z_iret dX0_size_85 rfl hM
theorem ctX0_size {l : Launch} {h : zH} {a : Nat} {x1 : Int32} {x2 : Int32} {v : Int32} {h' : zH} (hL : zXx h a) (hf : fX0_size h a x1 x2 = some (v, h')) : zC l yX0_size (wsW_ yX0_size cX0_size 5 (some .int) [(0, 85, 86, 18)]) 122 [.ref a, .int x1, .int x2] h (.inl (some (.int v)), h') :=
  z_startW (by decide) (Nat.le_of_ble_eq_true rfl) (zX0_size (F := (l, 122, h, (.inl (some (.int v)), h'))) (Nat.le_refl _) hL hf rfl)
noncomputable def fX0_closedAt (h : zH) (a : Nat) (x1 : Int32) : Option (zX) := zxr (fX0_pageAt h a x1) (fun v_2 h_3 => zb1 v_2 (fun b_7 => zb1 (fV_Page_isClosed h_3 b_7) (fun v_9 => if v_9 = 0 then (zb2 (fX0_refused h_3 a ((-5))) (fun v_12 h_13 => zb1 v_12 (fun b_14 => some ((.inr b_14, h_13))))) else (some ((.inl (some (.ref b_7)), h_3)))))) (fun e_4 h_5 => some ((.inr e_4, h_5)))
theorem zX0_closedAt {F : zF} {h : zH} {a : Nat} {x1 : Int32} {y : zX} (hD : 122 ≤ F.2.1) (hL : zXx h a) (hf : fX0_closedAt h a x1 = some y) (hM : (y : zX) = zEnd F) : Z F 3 cX0_closedAt RX0 "closedAt" (some (.object "CodeExchange$Page")) [] h 0 [(0, .ref a), (1, .int x1)] [] := by
  unfold fX0_closedAt at hf
  refine z_aload_n 0 dX0_closedAt_0 rfl rfl ?_
  refine z_iload_n 1 dX0_closedAt_1 rfl rfl ?_
  rcases zxr_some hf with ⟨v_2, h_3, hc_1, hf⟩ | ⟨e_4, h_5, hc_6, hf⟩
  rotate_left
  · have hct := ctX0_pageAt (l := F.1) hL hc_6
    refine z_invVt suX0_152_0 hct ((hL.b 0 rfl).t 0 rfl) ⟨Nat.le_trans (by decide) hD, by decide⟩ rfl rfl (Nat.le_of_ble_eq_true rfl) dX0_closedAt_2 ?_
    have hL := hL.ext hct.1
    cases hf
    exact zt_out rfl hM
  have hct := ctX0_pageAt (l := F.1) hL hc_1
  refine z_invVq suX0_152_0 hct ((hL.b 0 rfl).t 0 rfl) ⟨Nat.le_trans (by decide) hD, by decide⟩ rfl rfl (Nat.le_of_ble_eq_true rfl) dX0_closedAt_2 ?_
  have hL := hL.ext hct.1
  obtain ⟨b_7, e9, hf9⟩ := zb1_some hf
  subst e9
  have hf := hf9
  refine z_astore_n dX0_closedAt_5 rfl (by decide) (lc' := [(0, .ref a), (1, .int x1), (2, .ref b_7)]) rfl ?_
  refine z_aload_n 2 dX0_closedAt_6 rfl rfl ?_
  obtain ⟨v_9, hc_8, hf⟩ := zb1_some hf
  refine zVX0_156i (Nat.le_trans (by decide) hD) hc_8 (Nat.le_of_ble_eq_true rfl) dX0_closedAt_7 ?_
  refine z_if_ne 20 dX0_closedAt_10 rfl hf (fun _ hf => ?_) (fun _ hf => ?_)
  · refine z_aload_n 2 dX0_closedAt_20 rfl rfl ?_
    cases hf
    exact z_aret (o := (some b_7)) dX0_closedAt_21 rfl (Or.inl ⟨_, rfl⟩) hM
  · refine z_aload_n 0 dX0_closedAt_13 rfl rfl ?_
    refine z_bipush (-5) dX0_closedAt_14 rfl ?_
    obtain ⟨v_12, h_13, hc_11, hf⟩ := zb2_some hf
    have hct := ctX0_refused (l := F.1) hL hc_11
    refine z_invVq suX0_140_0 hct ((hL.b 0 rfl).t 0 rfl) ⟨Nat.le_trans (by decide) hD, by decide⟩ rfl rfl (Nat.le_of_ble_eq_true rfl) dX0_closedAt_16 ?_
    have hL := hL.ext hct.1
    obtain ⟨b_14, e9, hf9⟩ := zb1_some hf
    subst e9
    have hf := hf9
    refine z_athrow dX0_closedAt_19 ?_
    cases hf
    exact zt_out rfl hM
theorem ctX0_closedAt {l : Launch} {h : zH} {a : Nat} {x1 : Int32} {y : zX} (hL : zXx h a) (hf : fX0_closedAt h a x1 = some y) : zC l yX0_closedAt (ws_ yX0_closedAt cX0_closedAt 3 (some (.object "CodeExchange$Page"))) 122 [.ref a, .int x1] h y :=
  z_start (by decide) (Nat.le_of_ble_eq_true rfl) (zX0_closedAt (F := (l, 122, h, y)) (Nat.le_refl _) hL hf rfl)
noncomputable def fX10_told (x0 : Int64) (x2 : Int32) : Option (Int64) := some ((x2.toInt64 <<< ((32 : Int32).toInt64 &&& 63)) ||| x0)
theorem zX10_told {F : zF} {h : zH} {x0 : Int64} {x2 : Int32} {y : Int64} (hD : 1 ≤ F.2.1) (hf : fX10_told x0 x2 = some y) (hM : ((.inl (some (.long y)), h) : zX) = zEnd F) : Z F 3 cX10_told RX10 "told" (some .long) [] h 0 [(0, .long x0), (2, .int x2)] [] := by
  unfold fX10_told at hf
  refine z_iload_n 1 dX10_told_0 rfl rfl ?_
  refine z_i2l dX10_told_1 ?_
  refine z_bipush 32 dX10_told_2 rfl ?_
  refine z_lshl dX10_told_4 ?_
  refine z_lload_n 0 dX10_told_5 rfl rfl ?_
  refine z_lor dX10_told_6 ?_
  cases hf
  exact z_lret dX10_told_7 rfl hM
theorem ctX10_told {l : Launch} {h : zH} {x0 : Int64} {x2 : Int32} {v : Int64} (hf : fX10_told x0 x2 = some v) : zC l yX10_told (ws_ yX10_told cX10_told 3 (some .long)) 1 [.long x0, .int x2] h (.inl (some (.long v)), h) :=
  z_start (by decide) (Nat.le_of_ble_eq_true rfl) (zX10_told (F := (l, 1, h, (.inl (some (.long v)), h))) (Nat.le_refl _) hf rfl)
theorem suX11_34_s : zIsu RX11 34 ⟨"CodeExchange$Wide", "told", "(JI)J"⟩ "CodeExchange$Form" (ws_ yX10_told cX10_told 3 (some .long)) 3 2 := ⟨(zGood_c q900 q110), q925, q926, q899, ⟨by decide, by decide⟩, by decide +kernel⟩
noncomputable def fX11_code (a : Nat) (x1 : Int32) : Option (Int64) := if 65536 ≤ x1 then (zb1 (fX10_told ((((55296 : Int64) + (((x1 - 65536) >>> (10 &&& 31)).toInt64)) <<< ((16 : Int32).toInt64 &&& 63)) ||| (((56320 : Int32) + ((x1 - 65536) &&& 1023)).toInt64)) 4) (fun v_2 => some v_2)) else (zb1 (fX10_told x1.toInt64 2) (fun v_5 => some v_5))
theorem zX11_code {F : zF} {h : zH} {a : Nat} {x1 : Int32} {y : Int64} (hD : 2 ≤ F.2.1) (hL : zOb 8 h a) (hf : fX11_code a x1 = some y) (hM : ((.inl (some (.long y)), h) : zX) = zEnd F) : Z F 2 cX11_code RX11 "code" (some .long) [] h 0 [(0, .ref a), (1, .int x1)] [] := by
  unfold fX11_code at hf
  refine z_iload_n 1 dX11_code_0 rfl rfl ?_
  refine z_ldc q924 dX11_code_1 ?_
  refine z_icmp_ge 15 dX11_code_3 rfl hf (fun _ hf => ?_) (fun _ hf => ?_)
  · refine z_ldc2 q927 dX11_code_15 ?_
    refine z_iload_n 1 dX11_code_18 rfl rfl ?_
    refine z_ldc q924 dX11_code_19 ?_
    refine z_isub dX11_code_21 ?_
    refine z_bipush 10 dX11_code_22 rfl ?_
    refine z_ishr dX11_code_24 ?_
    refine z_i2l dX11_code_25 ?_
    refine z_ladd dX11_code_26 ?_
    refine z_bipush 16 dX11_code_27 rfl ?_
    refine z_lshl dX11_code_29 ?_
    refine z_ldc q928 dX11_code_30 ?_
    refine z_iload_n 1 dX11_code_32 rfl rfl ?_
    refine z_ldc q924 dX11_code_33 ?_
    refine z_isub dX11_code_35 ?_
    refine z_sipush 1023 dX11_code_36 rfl ?_
    refine z_iand dX11_code_39 ?_
    refine z_iadd dX11_code_40 ?_
    refine z_i2l dX11_code_41 ?_
    refine z_lor dX11_code_42 ?_
    refine z_iconst 4 dX11_code_43 rfl ?_
    obtain ⟨v_2, hc_1, hf⟩ := zb1_some hf
    refine z_invSUl suX11_34_s (ctX10_told hc_1) ⟨Nat.le_trans (by decide) hD, by decide⟩ rfl rfl (Nat.le_of_ble_eq_true rfl) dX11_code_44 ?_
    cases hf
    exact z_lret dX11_code_47 rfl hM
  · refine z_iload_n 1 dX11_code_6 rfl rfl ?_
    refine z_i2l dX11_code_7 ?_
    refine z_iconst 2 dX11_code_8 rfl ?_
    obtain ⟨v_5, hc_4, hf⟩ := zb1_some hf
    refine z_invSUl suX11_34_s (ctX10_told hc_4) ⟨Nat.le_trans (by decide) hD, by decide⟩ rfl rfl (Nat.le_of_ble_eq_true rfl) dX11_code_9 ?_
    refine z_goto 47 dX11_code_12 rfl ?_
    cases hf
    exact z_lret dX11_code_47 rfl hM
theorem ctX11_code {l : Launch} {h : zH} {a : Nat} {x1 : Int32} {v : Int64} (hL : zOb 8 h a) (hf : fX11_code a x1 = some v) : zC l yX11_code (ws_ yX11_code cX11_code 2 (some .long)) 2 [.ref a, .int x1] h (.inl (some (.long v)), h) :=
  z_start (by decide) (Nat.le_of_ble_eq_true rfl) (zX11_code (F := (l, 2, h, (.inl (some (.long v)), h))) (Nat.le_refl _) hL hf rfl)
noncomputable def fX11_code_9 (a : Nat) (x1 : Int32) : Option (Int64) := if 65536 ≤ x1 then (zb1 (fX10_told ((((55296 : Int64) + (((x1 - 65536) >>> (10 &&& 31)).toInt64)) <<< ((16 : Int32).toInt64 &&& 63)) ||| (((56320 : Int32) + ((x1 - 65536) &&& 1023)).toInt64)) 4) (fun v_2 => some v_2)) else (zb1 (fX10_told x1.toInt64 2) (fun v_5 => some v_5))
theorem zX11_code_9 {F : zF} {h : zH} {a : Nat} {x1 : Int32} {y : Int64} (hD : 2 ≤ F.2.1) (hL : zOb 9 h a) (hf : fX11_code_9 a x1 = some y) (hM : ((.inl (some (.long y)), h) : zX) = zEnd F) : Z F 2 cX11_code RX11 "code" (some .long) [] h 0 [(0, .ref a), (1, .int x1)] [] := by
  unfold fX11_code_9 at hf
  refine z_iload_n 1 dX11_code_0 rfl rfl ?_
  refine z_ldc q924 dX11_code_1 ?_
  refine z_icmp_ge 15 dX11_code_3 rfl hf (fun _ hf => ?_) (fun _ hf => ?_)
  · refine z_ldc2 q927 dX11_code_15 ?_
    refine z_iload_n 1 dX11_code_18 rfl rfl ?_
    refine z_ldc q924 dX11_code_19 ?_
    refine z_isub dX11_code_21 ?_
    refine z_bipush 10 dX11_code_22 rfl ?_
    refine z_ishr dX11_code_24 ?_
    refine z_i2l dX11_code_25 ?_
    refine z_ladd dX11_code_26 ?_
    refine z_bipush 16 dX11_code_27 rfl ?_
    refine z_lshl dX11_code_29 ?_
    refine z_ldc q928 dX11_code_30 ?_
    refine z_iload_n 1 dX11_code_32 rfl rfl ?_
    refine z_ldc q924 dX11_code_33 ?_
    refine z_isub dX11_code_35 ?_
    refine z_sipush 1023 dX11_code_36 rfl ?_
    refine z_iand dX11_code_39 ?_
    refine z_iadd dX11_code_40 ?_
    refine z_i2l dX11_code_41 ?_
    refine z_lor dX11_code_42 ?_
    refine z_iconst 4 dX11_code_43 rfl ?_
    obtain ⟨v_2, hc_1, hf⟩ := zb1_some hf
    refine z_invSUl suX11_34_s (ctX10_told hc_1) ⟨Nat.le_trans (by decide) hD, by decide⟩ rfl rfl (Nat.le_of_ble_eq_true rfl) dX11_code_44 ?_
    cases hf
    exact z_lret dX11_code_47 rfl hM
  · refine z_iload_n 1 dX11_code_6 rfl rfl ?_
    refine z_i2l dX11_code_7 ?_
    refine z_iconst 2 dX11_code_8 rfl ?_
    obtain ⟨v_5, hc_4, hf⟩ := zb1_some hf
    refine z_invSUl suX11_34_s (ctX10_told hc_4) ⟨Nat.le_trans (by decide) hD, by decide⟩ rfl rfl (Nat.le_of_ble_eq_true rfl) dX11_code_9 ?_
    refine z_goto 47 dX11_code_12 rfl ?_
    cases hf
    exact z_lret dX11_code_47 rfl hM
theorem ctX11_code_9 {l : Launch} {h : zH} {a : Nat} {x1 : Int32} {v : Int64} (hL : zOb 9 h a) (hf : fX11_code_9 a x1 = some v) : zC l yX11_code (ws_ yX11_code cX11_code 2 (some .long)) 2 [.ref a, .int x1] h (.inl (some (.long v)), h) :=
  z_start (by decide) (Nat.le_of_ble_eq_true rfl) (zX11_code_9 (F := (l, 2, h, (.inl (some (.long v)), h))) (Nat.le_refl _) hL hf rfl)
theorem suX12_23_9 : zIz RX12 23 yX11_code (ws_ yX11_code cX11_code 2 (some .long)) 2 1 := ⟨(zGood_c q923 q111), q921, q1962, q619, q922, by decide, ⟨by decide, by decide⟩, by decide +kernel⟩
noncomputable def fX12_code (a : Nat) (x1 : Int32) : Option (Int64) := zb1 (fX11_code_9 a x1) (fun v_2 => some (((v_2 &&& 30064771072) ||| ((v_2 &&& 4278255360) >>> ((8 : Int32).toInt64 &&& 63))) ||| ((v_2 &&& 16711935) <<< ((8 : Int32).toInt64 &&& 63))))
theorem zX12_code {F : zF} {h : zH} {a : Nat} {x1 : Int32} {y : Int64} (hD : 3 ≤ F.2.1) (hL : zOb 9 h a) (hf : fX12_code a x1 = some y) (hM : ((.inl (some (.long y)), h) : zX) = zEnd F) : Z F 4 cX12_code RX12 "code" (some .long) [] h 0 [(0, .ref a), (1, .int x1)] [] := by
  unfold fX12_code at hf
  refine z_aload_n 0 dX12_code_0 rfl rfl ?_
  refine z_iload_n 1 dX12_code_1 rfl rfl ?_
  obtain ⟨v_2, hc_1, hf⟩ := zb1_some hf
  refine z_invZl suX12_23_9 (ctX11_code_9 hL hc_1) rfl rfl ((hL.b 0 rfl).t 0 rfl) ⟨Nat.le_trans (by decide) hD, by decide⟩ rfl rfl (Nat.le_of_ble_eq_true rfl) dX12_code_2 ?_
  refine z_lstore_n dX12_code_5 rfl (by decide) (lc' := [(0, .ref a), (1, .int x1), (2, .long v_2)]) rfl ?_
  refine z_lload_n 2 dX12_code_6 rfl rfl ?_
  refine z_ldc2 q929 dX12_code_7 ?_
  refine z_land dX12_code_10 ?_
  refine z_lload_n 2 dX12_code_11 rfl rfl ?_
  refine z_ldc2 q930 dX12_code_12 ?_
  refine z_land dX12_code_15 ?_
  refine z_bipush 8 dX12_code_16 rfl ?_
  refine z_lshr dX12_code_18 ?_
  refine z_lor dX12_code_19 ?_
  refine z_lload_n 2 dX12_code_20 rfl rfl ?_
  refine z_ldc2 q931 dX12_code_21 ?_
  refine z_land dX12_code_24 ?_
  refine z_bipush 8 dX12_code_25 rfl ?_
  refine z_lshl dX12_code_27 ?_
  refine z_lor dX12_code_28 ?_
  cases hf
  exact z_lret dX12_code_29 rfl hM
theorem ctX12_code {l : Launch} {h : zH} {a : Nat} {x1 : Int32} {v : Int64} (hL : zOb 9 h a) (hf : fX12_code a x1 = some v) : zC l yX12_code (ws_ yX12_code cX12_code 4 (some .long)) 3 [.ref a, .int x1] h (.inl (some (.long v)), h) :=
  z_start (by decide) (Nat.le_of_ble_eq_true rfl) (zX12_code (F := (l, 3, h, (.inl (some (.long v)), h))) (Nat.le_refl _) hL hf rfl)
theorem suX13_27_s : zIsu RX13 27 ⟨"CodeExchange$Few", "told", "(JI)J"⟩ "CodeExchange$Form" (ws_ yX10_told cX10_told 3 (some .long)) 3 2 := ⟨(zGood_c q900 q110), q897, q898, q899, ⟨by decide, by decide⟩, by decide +kernel⟩
noncomputable def fX13_code_L80 (a : Nat) (x1 : Int32) (x2 : Int32) (x3 : Int64) (x5 : Int32) : Option ((Int64 × Int32) ⊕ (Int64)) := if x5 < 0 then (zb1 (fX10_told x3 x2) (fun v_2 => some (.inr v_2))) else (some (.inl ((((x3 <<< ((8 : Int32).toInt64 &&& 63)) ||| 128) ||| (((x1 >>> (((6 : Int32) * x5) &&& 31)) &&& 63).toInt64), x5 + (-1)))))
theorem zX13_code_L80 {F : zF} {h : zH} {a : Nat} {x1 : Int32} {x2 : Int32} {x3 : Int64} {x5 : Int32} {y : (Int64 × Int32) ⊕ (Int64)} (hD : 2 ≤ F.2.1) (hL : zOb 10 h a) (hf : fX13_code_L80 a x1 x2 x3 x5 = some y) (hM : ((∀ s' : Int64 × Int32, y = .inl s' → Z F 6 cX13_code RX13 "code" (some .long) [] h 80 [(1, .int x1), (2, .int x2), (3, .long s'.1), (5, .int s'.2)] []) ∧ ∀ r : Int64, y = .inr r → ((.inl (some (.long r)), h) : zX) = zEnd F)) : Z F 6 cX13_code RX13 "code" (some .long) [] h 80 [(1, .int x1), (2, .int x2), (3, .long x3), (5, .int x5)] [] := by
  unfold fX13_code_L80 at hf
  refine z_iload 3 dX13_code_80 rfl ?_
  refine z_if_lt 112 dX13_code_82 rfl hf (fun _ hf => ?_) (fun _ hf => ?_)
  · refine z_lload_n 2 dX13_code_112 rfl rfl ?_
    refine z_iload_n 1 dX13_code_113 rfl rfl ?_
    obtain ⟨v_2, hc_1, hf⟩ := zb1_some hf
    refine z_invSUl suX13_27_s (ctX10_told hc_1) ⟨Nat.le_trans (by decide) hD, by decide⟩ rfl rfl (Nat.le_of_ble_eq_true rfl) dX13_code_114 ?_
    cases hf
    exact z_lret dX13_code_117 rfl (hM.2 _ rfl)
  · refine z_lload_n 2 dX13_code_85 rfl rfl ?_
    refine z_bipush 8 dX13_code_86 rfl ?_
    refine z_lshl dX13_code_88 ?_
    refine z_ldc2 q905 dX13_code_89 ?_
    refine z_lor dX13_code_92 ?_
    refine z_iload_n 0 dX13_code_93 rfl rfl ?_
    refine z_bipush 6 dX13_code_94 rfl ?_
    refine z_iload 3 dX13_code_96 rfl ?_
    refine z_imul dX13_code_98 ?_
    refine z_ishr dX13_code_99 ?_
    refine z_bipush 63 dX13_code_100 rfl ?_
    refine z_iand dX13_code_102 ?_
    refine z_i2l dX13_code_103 ?_
    refine z_lor dX13_code_104 ?_
    refine z_lstore_n dX13_code_105 rfl (by decide) (lc' := [(1, .int x1), (2, .int x2), (3, .long (((x3 <<< ((8 : Int32).toInt64 &&& 63)) ||| 128) ||| (((x1 >>> (((6 : Int32) * x5) &&& 31)) &&& 63).toInt64))), (5, .int x5)]) rfl ?_
    refine z_iinc 3 (x5 + (-1)) dX13_code_106 rfl rfl (by decide) (lc' := [(1, .int x1), (2, .int x2), (3, .long (((x3 <<< ((8 : Int32).toInt64 &&& 63)) ||| 128) ||| (((x1 >>> (((6 : Int32) * x5) &&& 31)) &&& 63).toInt64))), (5, .int (x5 + (-1)))]) rfl ?_
    refine z_goto 80 dX13_code_109 rfl ?_
    cases hf
    exact (hM.1 _ rfl)
noncomputable def fX13_code_J62 (a : Nat) (x1 : Int32) (x2 : Int32) (k0 : Int64) : Option (Int64) := zlp (fun s => fX13_code_L80 a x1 x2 s.1 s.2) (k0 ||| ((x1 >>> (((6 : Int32) * (x2 - 1)) &&& 31)).toInt64), x2 - 2)
theorem zX13_code_J62 {F : zF} {h : zH} {a : Nat} {x1 : Int32} {x2 : Int32} {k0 : Int64} {y : Int64} (hD : 2 ≤ F.2.1) (hL : zOb 10 h a) (hf : fX13_code_J62 a x1 x2 k0 = some y) (hM : ((.inl (some (.long y)), h) : zX) = zEnd F) : Z F 6 cX13_code RX13 "code" (some .long) [] h 62 [(1, .int x1), (2, .int x2)] [.long k0] := by
  unfold fX13_code_J62 at hf
  refine z_lstore_n dX13_code_62 rfl (by decide) (lc' := [(1, .int x1), (2, .int x2), (3, .long k0)]) rfl ?_
  refine z_lload_n 2 dX13_code_63 rfl rfl ?_
  refine z_iload_n 0 dX13_code_64 rfl rfl ?_
  refine z_bipush 6 dX13_code_65 rfl ?_
  refine z_iload_n 1 dX13_code_67 rfl rfl ?_
  refine z_iconst 1 dX13_code_68 rfl ?_
  refine z_isub dX13_code_69 ?_
  refine z_imul dX13_code_70 ?_
  refine z_ishr dX13_code_71 ?_
  refine z_i2l dX13_code_72 ?_
  refine z_lor dX13_code_73 ?_
  refine z_lstore_n dX13_code_74 rfl (by decide) (lc' := [(1, .int x1), (2, .int x2), (3, .long (k0 ||| ((x1 >>> (((6 : Int32) * (x2 - 1)) &&& 31)).toInt64)))]) rfl ?_
  refine z_iload_n 1 dX13_code_75 rfl rfl ?_
  refine z_iconst 2 dX13_code_76 rfl ?_
  refine z_isub dX13_code_77 ?_
  refine z_istore dX13_code_78 (by decide) (lc' := [(1, .int x1), (2, .int x2), (3, .long (k0 ||| ((x1 >>> (((6 : Int32) * (x2 - 1)) &&& 31)).toInt64))), (5, .int (x2 - 2))]) rfl ?_
  exact z_loop (fun (s : Int64 × Int32) => Z F 6 cX13_code RX13 "code" (some .long) [] h 80 [(1, .int x1), (2, .int x2), (3, .long s.1), (5, .int s.2)] []) (fun (r : Int64) => ((.inl (some (.long r)), h) : zX) = zEnd F) (fun s y hb hs hr => zX13_code_L80 hD hL hb ⟨hs, hr⟩) hf hM
noncomputable def fX13_code_J36 (a : Nat) (x1 : Int32) (k0 : Int32) : Option (Int64) := if k0 = 2 then (fX13_code_J62 a x1 k0 192) else (if k0 = 3 then (fX13_code_J62 a x1 k0 224) else (fX13_code_J62 a x1 k0 240))
theorem zX13_code_J36 {F : zF} {h : zH} {a : Nat} {x1 : Int32} {k0 : Int32} {y : Int64} (hD : 2 ≤ F.2.1) (hL : zOb 10 h a) (hf : fX13_code_J36 a x1 k0 = some y) (hM : ((.inl (some (.long y)), h) : zX) = zEnd F) : Z F 6 cX13_code RX13 "code" (some .long) [] h 36 [(1, .int x1)] [.int k0] := by
  unfold fX13_code_J36 at hf
  refine z_istore_n dX13_code_36 rfl (by decide) (lc' := [(1, .int x1), (2, .int k0)]) rfl ?_
  refine z_iload_n 1 dX13_code_37 rfl rfl ?_
  refine z_iconst 2 dX13_code_38 rfl ?_
  refine z_icmp_ne 48 dX13_code_39 rfl hf (fun _ hf => ?_) (fun _ hf => ?_)
  · refine z_iload_n 1 dX13_code_48 rfl rfl ?_
    refine z_iconst 3 dX13_code_49 rfl ?_
    refine z_icmp_ne 59 dX13_code_50 rfl hf (fun _ hf => ?_) (fun _ hf => ?_)
    · refine z_ldc2 q904 dX13_code_59 ?_
      exact zX13_code_J62 hD hL hf hM
    · refine z_ldc2 q903 dX13_code_53 ?_
      refine z_goto 62 dX13_code_56 rfl ?_
      exact zX13_code_J62 hD hL hf hM
  · refine z_ldc2 q902 dX13_code_42 ?_
    refine z_goto 62 dX13_code_45 rfl ?_
    exact zX13_code_J62 hD hL hf hM
noncomputable def fX13_code (a : Nat) (x1 : Int32) : Option (Int64) := if 128 ≤ x1 then (if 2048 ≤ x1 then (if 65536 ≤ x1 then (fX13_code_J36 a x1 4) else (fX13_code_J36 a x1 3)) else (fX13_code_J36 a x1 2)) else (zb1 (fX10_told x1.toInt64 1) (fun v_5 => some v_5))
theorem zX13_code {F : zF} {h : zH} {a : Nat} {x1 : Int32} {y : Int64} (hD : 2 ≤ F.2.1) (hL : zOb 10 h a) (hf : fX13_code a x1 = some y) (hM : ((.inl (some (.long y)), h) : zX) = zEnd F) : Z F 6 cX13_code RX13 "code" (some .long) [] h 0 [(0, .ref a), (1, .int x1)] [] := by
  unfold fX13_code at hf
  refine z_iload_n 1 dX13_code_0 rfl rfl ?_
  refine z_sipush 128 dX13_code_1 rfl ?_
  refine z_icmp_ge 14 dX13_code_4 rfl hf (fun _ hf => ?_) (fun _ hf => ?_)
  · refine z_iload_n 1 dX13_code_14 rfl rfl ?_
    refine z_sipush 2048 dX13_code_15 rfl ?_
    refine z_icmp_ge 25 dX13_code_18 rfl hf (fun _ hf => ?_) (fun _ hf => ?_)
    · refine z_iload_n 1 dX13_code_25 rfl rfl ?_
      refine z_ldc q901 dX13_code_26 ?_
      refine z_icmp_ge 35 dX13_code_28 rfl hf (fun _ hf => ?_) (fun _ hf => ?_)
      · refine z_iconst 4 dX13_code_35 rfl ?_
        refine z_sub [1] rfl ?_
        exact zX13_code_J36 hD hL hf hM
      · refine z_iconst 3 dX13_code_31 rfl ?_
        refine z_goto 36 dX13_code_32 rfl ?_
        refine z_sub [1] rfl ?_
        exact zX13_code_J36 hD hL hf hM
    · refine z_iconst 2 dX13_code_21 rfl ?_
      refine z_goto 36 dX13_code_22 rfl ?_
      refine z_sub [1] rfl ?_
      exact zX13_code_J36 hD hL hf hM
  · refine z_iload_n 1 dX13_code_7 rfl rfl ?_
    refine z_i2l dX13_code_8 ?_
    refine z_iconst 1 dX13_code_9 rfl ?_
    obtain ⟨v_5, hc_4, hf⟩ := zb1_some hf
    refine z_invSUl suX13_27_s (ctX10_told hc_4) ⟨Nat.le_trans (by decide) hD, by decide⟩ rfl rfl (Nat.le_of_ble_eq_true rfl) dX13_code_10 ?_
    cases hf
    exact z_lret dX13_code_13 rfl hM
theorem ctX13_code {l : Launch} {h : zH} {a : Nat} {x1 : Int32} {v : Int64} (hL : zOb 10 h a) (hf : fX13_code a x1 = some v) : zC l yX13_code (ws_ yX13_code cX13_code 6 (some .long)) 2 [.ref a, .int x1] h (.inl (some (.long v)), h) :=
  z_start (by decide) (Nat.le_of_ble_eq_true rfl) (zX13_code (F := (l, 2, h, (.inl (some (.long v)), h))) (Nat.le_refl _) hL hf rfl)
theorem suX0_255_0 : zIv RX0 255 yX0_closedAt (ws_ yX0_closedAt cX0_closedAt 3 (some (.object "CodeExchange$Page"))) 3 0 1 := ⟨(zGood_c q890 q97), ⟨_, _, rfl, rfl, qs22⟩, (Or.inl q887), q889, ⟨by decide, by decide⟩, by decide +kernel⟩
noncomputable def fV_Page_code (h : zH) (b : Nat) (p0 : Int32) : Option (Int64) := if zT h b = (3, 0) then (zck (zTb h b) (fX3_code h b p0)) else if zT h b = (9, 0) then (zck (zOb 8 h b) (fX11_code b p0)) else if zT h b = (10, 0) then (zck (zOb 9 h b) (fX12_code b p0)) else if zT h b = (11, 0) then (zck (zOb 10 h b) (fX13_code b p0)) else none
theorem suX0_258_2 : zIu RX0 258 ⟨"CodeExchange$Page", "code", "(I)J"⟩ "CodeExchange$Page" yX3_code (ws_ yX3_code cX3_code 3 (some .long)) 3 2 1 := ⟨(zGood_c q908 q103), ⟨_, _, rfl, rfl, q906⟩, q891, q893, (Or.inr q892), by decide, q907, by decide +kernel⟩
theorem suX0_258_8 : zIu RX0 258 ⟨"CodeExchange$Page", "code", "(I)J"⟩ "CodeExchange$Page" yX11_code (ws_ yX11_code cX11_code 2 (some .long)) 2 8 1 := ⟨(zGood_c q923 q111), ⟨_, _, rfl, rfl, q932⟩, q891, q893, (Or.inr q892), by decide, q922, by decide +kernel⟩
theorem suX0_258_9 : zIu RX0 258 ⟨"CodeExchange$Page", "code", "(I)J"⟩ "CodeExchange$Page" yX12_code (ws_ yX12_code cX12_code 4 (some .long)) 4 9 1 := ⟨(zGood_c q920 q112), ⟨_, _, rfl, rfl, q918⟩, q891, q893, (Or.inr q892), by decide, q919, by decide +kernel⟩
theorem suX0_258_10 : zIu RX0 258 ⟨"CodeExchange$Page", "code", "(I)J"⟩ "CodeExchange$Page" yX13_code (ws_ yX13_code cX13_code 6 (some .long)) 6 10 1 := ⟨(zGood_c q896 q113), ⟨_, _, rfl, rfl, q894⟩, q891, q893, (Or.inr q892), by decide, q895, by decide +kernel⟩
theorem zVX0_258l {F : zF} {nL : Nat} {cc : ByteArray} {nm : String} {ret : Option FieldType} {hh : List (Nat × Nat × Nat × Nat)} {h : zH} {pc b : Nat} {lc : List (Nat × Value)} {st : List Value} {p0 : Int32} {v : Int64} (hD : 4 ≤ F.2.1) (hf : fV_Page_code h b p0 = some v) (hcat : (st.map fun v => v.category).sum ≤ 8) (hd : decode cc pc = .ok (.invokevirtual 258, 3)) (kk : Z F nL cc RX0 nm ret hh h (pc + 3) lc (.long v :: st)) : Z F nL cc RX0 nm ret hh h pc lc (.int p0 :: .ref b :: st) := by
  unfold fV_Page_code at hf
  refine zdsp hf (fun e hf => ?_) (fun _ hf => ?_)
  · obtain ⟨hK, hf⟩ := zck_some hf
    have hc := hf
    exact z_invUl suX0_258_2 (ctX3_code hK hc) e ⟨Nat.le_trans (by decide) hD, by decide⟩ rfl rfl hcat hd kk
  refine zdsp hf (fun e hf => ?_) (fun _ hf => ?_)
  · obtain ⟨hK, hf⟩ := zck_some hf
    have hc := hf
    exact z_invUl suX0_258_8 (ctX11_code hK hc) e ⟨Nat.le_trans (by decide) hD, by decide⟩ rfl rfl hcat hd kk
  refine zdsp hf (fun e hf => ?_) (fun _ hf => ?_)
  · obtain ⟨hK, hf⟩ := zck_some hf
    have hc := hf
    exact z_invUl suX0_258_9 (ctX12_code hK hc) e ⟨Nat.le_trans (by decide) hD, by decide⟩ rfl rfl hcat hd kk
  refine zdsp hf (fun e hf => ?_) (fun _ hf => ?_)
  · obtain ⟨hK, hf⟩ := zck_some hf
    have hc := hf
    exact z_invUl suX0_258_10 (ctX13_code hK hc) e ⟨Nat.le_trans (by decide) hD, by decide⟩ rfl rfl hcat hd kk
  cases hf
noncomputable def fX0_code (h : zH) (a : Nat) (x1 : Int32) (x2 : Int32) : Option (Int64 × zH) := zxr (fX0_closedAt h a x1) (fun v_2 h_3 => zb1 v_2 (fun b_12 => zb1 (fX0_isPoint x2) (fun v_14 => zxv (fX0_need h_3 a v_14 ((-1))) (fun h_18 => zb1 (fV_Page_code h_18 b_12 x2) (fun v_28 => if (lg_cmp v_28 0) < 0 then (zxv (fX0_need h_18 a 0 ((-2))) (fun h_32 => some ((v_28, h_32))) (fun e_33 h_34 => zck (zT h_34 e_33 = (2, 0)) (zck (zOb 1 h_34 e_33) (zb2 (fX0_answer h_34 a (zI h_34 e_33 6)) (fun v_39 h_40 => some ((v_39.toInt64, h_40))))))) else (zxv (fX0_need h_18 a 1 ((-2))) (fun h_43 => some ((v_28, h_43))) (fun e_44 h_45 => zck (zT h_45 e_44 = (2, 0)) (zck (zOb 1 h_45 e_44) (zb2 (fX0_answer h_45 a (zI h_45 e_44 6)) (fun v_50 h_51 => some ((v_50.toInt64, h_51))))))))) (fun e_19 h_20 => zck (zT h_20 e_19 = (2, 0)) (zck (zOb 1 h_20 e_19) (zb2 (fX0_answer h_20 a (zI h_20 e_19 6)) (fun v_25 h_26 => some ((v_25.toInt64, h_26))))))))) (fun e_4 h_5 => zck (zT h_5 e_4 = (2, 0)) (zck (zOb 1 h_5 e_4) (zb2 (fX0_answer h_5 a (zI h_5 e_4 6)) (fun v_10 h_11 => some ((v_10.toInt64, h_11))))))
theorem zX0_code {F : zF} {h : zH} {a : Nat} {x1 : Int32} {x2 : Int32} {y : Int64 × zH} (hD : 123 ≤ F.2.1) (hL : zXx h a) (hf : fX0_code h a x1 x2 = some y) (hM : ((.inl (some (.long y.1)), y.2) : zX) = zEnd F) : Z F 6 cX0_code RX0 "code" (some .long) [(0, 42, 43, 18)] h 0 [(0, .ref a), (1, .int x1), (2, .int x2)] [] := by
  unfold fX0_code at hf
  refine z_aload_n 0 dX0_code_0 rfl rfl ?_
  refine z_iload_n 1 dX0_code_1 rfl rfl ?_
  rcases zxr_some hf with ⟨v_2, h_3, hc_1, hf⟩ | ⟨e_4, h_5, hc_6, hf⟩
  rotate_left
  · have hct := ctX0_closedAt (l := F.1) hL hc_6
    refine z_invVt suX0_255_0 hct ((hL.b 0 rfl).t 0 rfl) ⟨Nat.le_trans (by decide) hD, by decide⟩ rfl rfl (Nat.le_of_ble_eq_true rfl) dX0_code_2 ?_
    have hL := hL.ext hct.1
    obtain ⟨ht_7, hf⟩ := zck_some hf
    refine zt_catch (q := (RX1, TX1, 7)) rfl (by decide) q129 rfl rfl ht_7 ?_
    refine z_astore_n dX0_code_43 rfl (by decide) (lc' := [(0, .ref a), (1, .int x1), (2, .int x2), (3, .ref e_4)]) rfl ?_
    refine z_aload_n 0 dX0_code_44 rfl rfl ?_
    refine z_aload_n 3 dX0_code_45 rfl rfl ?_
    obtain ⟨hK_8, hf⟩ := zck_some hf
    refine z_geti fdX0_17_1 ((hK_8.b 0 rfl).t 0 rfl) dX0_code_46 ?_
    obtain ⟨v_10, h_11, hc_9, hf⟩ := zb2_some hf
    have hct := ctX0_answer (l := F.1) hL hc_9
    refine z_invVi suX0_163_0 hct ((hL.b 0 rfl).t 0 rfl) ⟨Nat.le_trans (by decide) hD, by decide⟩ rfl rfl (Nat.le_of_ble_eq_true rfl) dX0_code_49 ?_
    have hL := hL.ext hct.1
    have hK_8 := hK_8.ext hct.1
    refine z_i2l dX0_code_52 ?_
    cases hf
    exact z_lret dX0_code_53 rfl hM
  have hct := ctX0_closedAt (l := F.1) hL hc_1
  refine z_invVq suX0_255_0 hct ((hL.b 0 rfl).t 0 rfl) ⟨Nat.le_trans (by decide) hD, by decide⟩ rfl rfl (Nat.le_of_ble_eq_true rfl) dX0_code_2 ?_
  have hL := hL.ext hct.1
  obtain ⟨b_12, e9, hf9⟩ := zb1_some hf
  subst e9
  have hf := hf9
  refine z_astore_n dX0_code_5 rfl (by decide) (lc' := [(0, .ref a), (1, .int x1), (2, .int x2), (3, .ref b_12)]) rfl ?_
  refine z_aload_n 0 dX0_code_6 rfl rfl ?_
  refine z_iload_n 2 dX0_code_7 rfl rfl ?_
  obtain ⟨v_14, hc_13, hf⟩ := zb1_some hf
  refine z_invSi suX0_195_s (ctX0_isPoint hc_13) ⟨Nat.le_trans (by decide) hD, by decide⟩ rfl rfl (Nat.le_of_ble_eq_true rfl) dX0_code_8 ?_
  refine z_iconst (-1) dX0_code_11 rfl ?_
  rcases zxv_some hf with ⟨h_18, hc_16, hf⟩ | ⟨e_19, h_20, hc_21, hf⟩
  rotate_left
  · have hct := ctX0_need (l := F.1) hL hc_21
    refine z_invVt suX0_184_0 hct ((hL.b 0 rfl).t 0 rfl) ⟨Nat.le_trans (by decide) hD, by decide⟩ rfl rfl (Nat.le_of_ble_eq_true rfl) dX0_code_12 ?_
    have hL := hL.ext hct.1
    obtain ⟨ht_22, hf⟩ := zck_some hf
    refine zt_catch (q := (RX1, TX1, 7)) rfl (by decide) q129 rfl rfl ht_22 ?_
    refine z_astore_n dX0_code_43 rfl (by decide) (lc' := [(0, .ref a), (1, .int x1), (2, .int x2), (3, .ref e_19)]) rfl ?_
    refine z_aload_n 0 dX0_code_44 rfl rfl ?_
    refine z_aload_n 3 dX0_code_45 rfl rfl ?_
    obtain ⟨hK_23, hf⟩ := zck_some hf
    refine z_geti fdX0_17_1 ((hK_23.b 0 rfl).t 0 rfl) dX0_code_46 ?_
    obtain ⟨v_25, h_26, hc_24, hf⟩ := zb2_some hf
    have hct := ctX0_answer (l := F.1) hL hc_24
    refine z_invVi suX0_163_0 hct ((hL.b 0 rfl).t 0 rfl) ⟨Nat.le_trans (by decide) hD, by decide⟩ rfl rfl (Nat.le_of_ble_eq_true rfl) dX0_code_49 ?_
    have hL := hL.ext hct.1
    have hK_23 := hK_23.ext hct.1
    refine z_i2l dX0_code_52 ?_
    cases hf
    exact z_lret dX0_code_53 rfl hM
  have hct := ctX0_need (l := F.1) hL hc_16
  refine z_invVv suX0_184_0 hct ((hL.b 0 rfl).t 0 rfl) ⟨Nat.le_trans (by decide) hD, by decide⟩ rfl rfl (Nat.le_of_ble_eq_true rfl) dX0_code_12 ?_
  have hL := hL.ext hct.1
  refine z_aload_n 3 dX0_code_15 rfl rfl ?_
  refine z_iload_n 2 dX0_code_16 rfl rfl ?_
  obtain ⟨v_28, hc_27, hf⟩ := zb1_some hf
  refine zVX0_258l (Nat.le_trans (by decide) hD) hc_27 (Nat.le_of_ble_eq_true rfl) dX0_code_17 ?_
  refine z_lstore dX0_code_20 (by decide) (lc' := [(0, .ref a), (1, .int x1), (2, .int x2), (3, .ref b_12), (4, .long v_28)]) rfl ?_
  refine z_aload_n 0 dX0_code_22 rfl rfl ?_
  refine z_lload 4 dX0_code_23 rfl ?_
  refine z_lconst 0 dX0_code_25 rfl ?_
  refine z_lcmp dX0_code_26 ?_
  refine z_if_lt 34 dX0_code_27 rfl hf (fun _ hf => ?_) (fun _ hf => ?_)
  · refine z_iconst 0 dX0_code_34 rfl ?_
    refine z_bipush (-2) dX0_code_35 rfl ?_
    rcases zxv_some hf with ⟨h_32, hc_30, hf⟩ | ⟨e_33, h_34, hc_35, hf⟩
    rotate_left
    · have hct := ctX0_need (l := F.1) hL hc_35
      refine z_invVt suX0_184_0 hct ((hL.b 0 rfl).t 0 rfl) ⟨Nat.le_trans (by decide) hD, by decide⟩ rfl rfl (Nat.le_of_ble_eq_true rfl) dX0_code_37 ?_
      have hL := hL.ext hct.1
      obtain ⟨ht_36, hf⟩ := zck_some hf
      refine zt_catch (q := (RX1, TX1, 7)) rfl (by decide) q129 rfl rfl ht_36 ?_
      refine z_astore_n dX0_code_43 rfl (by decide) (lc' := [(0, .ref a), (1, .int x1), (2, .int x2), (3, .ref e_33), (4, .long v_28)]) rfl ?_
      refine z_aload_n 0 dX0_code_44 rfl rfl ?_
      refine z_aload_n 3 dX0_code_45 rfl rfl ?_
      obtain ⟨hK_37, hf⟩ := zck_some hf
      refine z_geti fdX0_17_1 ((hK_37.b 0 rfl).t 0 rfl) dX0_code_46 ?_
      obtain ⟨v_39, h_40, hc_38, hf⟩ := zb2_some hf
      have hct := ctX0_answer (l := F.1) hL hc_38
      refine z_invVi suX0_163_0 hct ((hL.b 0 rfl).t 0 rfl) ⟨Nat.le_trans (by decide) hD, by decide⟩ rfl rfl (Nat.le_of_ble_eq_true rfl) dX0_code_49 ?_
      have hL := hL.ext hct.1
      have hK_37 := hK_37.ext hct.1
      refine z_i2l dX0_code_52 ?_
      cases hf
      exact z_lret dX0_code_53 rfl hM
    have hct := ctX0_need (l := F.1) hL hc_30
    refine z_invVv suX0_184_0 hct ((hL.b 0 rfl).t 0 rfl) ⟨Nat.le_trans (by decide) hD, by decide⟩ rfl rfl (Nat.le_of_ble_eq_true rfl) dX0_code_37 ?_
    have hL := hL.ext hct.1
    refine z_lload 4 dX0_code_40 rfl ?_
    cases hf
    exact z_lret dX0_code_42 rfl hM
  · refine z_iconst 1 dX0_code_30 rfl ?_
    refine z_goto 35 dX0_code_31 rfl ?_
    refine z_bipush (-2) dX0_code_35 rfl ?_
    rcases zxv_some hf with ⟨h_43, hc_41, hf⟩ | ⟨e_44, h_45, hc_46, hf⟩
    rotate_left
    · have hct := ctX0_need (l := F.1) hL hc_46
      refine z_invVt suX0_184_0 hct ((hL.b 0 rfl).t 0 rfl) ⟨Nat.le_trans (by decide) hD, by decide⟩ rfl rfl (Nat.le_of_ble_eq_true rfl) dX0_code_37 ?_
      have hL := hL.ext hct.1
      obtain ⟨ht_47, hf⟩ := zck_some hf
      refine zt_catch (q := (RX1, TX1, 7)) rfl (by decide) q129 rfl rfl ht_47 ?_
      refine z_astore_n dX0_code_43 rfl (by decide) (lc' := [(0, .ref a), (1, .int x1), (2, .int x2), (3, .ref e_44), (4, .long v_28)]) rfl ?_
      refine z_aload_n 0 dX0_code_44 rfl rfl ?_
      refine z_aload_n 3 dX0_code_45 rfl rfl ?_
      obtain ⟨hK_48, hf⟩ := zck_some hf
      refine z_geti fdX0_17_1 ((hK_48.b 0 rfl).t 0 rfl) dX0_code_46 ?_
      obtain ⟨v_50, h_51, hc_49, hf⟩ := zb2_some hf
      have hct := ctX0_answer (l := F.1) hL hc_49
      refine z_invVi suX0_163_0 hct ((hL.b 0 rfl).t 0 rfl) ⟨Nat.le_trans (by decide) hD, by decide⟩ rfl rfl (Nat.le_of_ble_eq_true rfl) dX0_code_49 ?_
      have hL := hL.ext hct.1
      have hK_48 := hK_48.ext hct.1
      refine z_i2l dX0_code_52 ?_
      cases hf
      exact z_lret dX0_code_53 rfl hM
    have hct := ctX0_need (l := F.1) hL hc_41
    refine z_invVv suX0_184_0 hct ((hL.b 0 rfl).t 0 rfl) ⟨Nat.le_trans (by decide) hD, by decide⟩ rfl rfl (Nat.le_of_ble_eq_true rfl) dX0_code_37 ?_
    have hL := hL.ext hct.1
    refine z_lload 4 dX0_code_40 rfl ?_
    cases hf
    exact z_lret dX0_code_42 rfl hM
theorem ctX0_code {l : Launch} {h : zH} {a : Nat} {x1 : Int32} {x2 : Int32} {v : Int64} {h' : zH} (hL : zXx h a) (hf : fX0_code h a x1 x2 = some (v, h')) : zC l yX0_code (wsW_ yX0_code cX0_code 6 (some .long) [(0, 42, 43, 18)]) 123 [.ref a, .int x1, .int x2] h (.inl (some (.long v)), h') :=
  z_startW (by decide) (Nat.le_of_ble_eq_true rfl) (zX0_code (F := (l, 123, h, (.inl (some (.long v)), h'))) (Nat.le_refl _) hL hf rfl)
noncomputable def fX0_bytesIn_J22 (h : zH) (a : Nat) (x3 : Int32) : Option (Int32 × zH) := zb1 (fX0_in x3 1 8) (fun v_5 => if v_5 = 0 then (zb2 (fX0_answer h a ((-1))) (fun v_11 h_12 => some ((v_11, h_12)))) else (zb2 (fX0_answer h a ((-6))) (fun v_8 h_9 => some ((v_8, h_9)))))
theorem zX0_bytesIn_J22 {F : zF} {h : zH} {a : Nat} {x3 : Int32} {y : Int32 × zH} (hD : 2 ≤ F.2.1) (hL : zXx h a) (hf : fX0_bytesIn_J22 h a x3 = some y) (hM : ((.inl (some (.int y.1)), y.2) : zX) = zEnd F) : Z F 5 cX0_bytesIn RX0 "bytesIn" (some .int) [] h 22 [(0, .ref a), (3, .int x3)] [] := by
  unfold fX0_bytesIn_J22 at hf
  refine z_aload_n 0 dX0_bytesIn_22 rfl rfl ?_
  refine z_iload_n 1 dX0_bytesIn_23 rfl rfl ?_
  refine z_iconst 1 dX0_bytesIn_24 rfl ?_
  refine z_bipush 8 dX0_bytesIn_25 rfl ?_
  obtain ⟨v_5, hc_4, hf⟩ := zb1_some hf
  refine z_invSi suX0_4_s (ctX0_in hc_4) ⟨Nat.le_trans (by decide) hD, by decide⟩ rfl rfl (Nat.le_of_ble_eq_true rfl) dX0_bytesIn_27 ?_
  refine z_if_ne 37 dX0_bytesIn_30 rfl hf (fun _ hf => ?_) (fun _ hf => ?_)
  · refine z_bipush (-6) dX0_bytesIn_37 rfl ?_
    obtain ⟨v_8, h_9, hc_7, hf⟩ := zb2_some hf
    have hct := ctX0_answer (l := F.1) hL hc_7
    refine z_invVi suX0_163_0 hct ((hL.b 0 rfl).t 0 rfl) ⟨Nat.le_trans (by decide) hD, by decide⟩ rfl rfl (Nat.le_of_ble_eq_true rfl) dX0_bytesIn_39 ?_
    have hL := hL.ext hct.1
    cases hf
    exact z_iret dX0_bytesIn_42 rfl hM
  · refine z_iconst (-1) dX0_bytesIn_33 rfl ?_
    refine z_goto 39 dX0_bytesIn_34 rfl ?_
    obtain ⟨v_11, h_12, hc_10, hf⟩ := zb2_some hf
    have hct := ctX0_answer (l := F.1) hL hc_10
    refine z_invVi suX0_163_0 hct ((hL.b 0 rfl).t 0 rfl) ⟨Nat.le_trans (by decide) hD, by decide⟩ rfl rfl (Nat.le_of_ble_eq_true rfl) dX0_bytesIn_39 ?_
    have hL := hL.ext hct.1
    cases hf
    exact z_iret dX0_bytesIn_42 rfl hM
theorem fdX0_262_0 : zFd RX0 262 0 5 .int false := ⟨_, _, _, rfl, rfl, by decide, rfl, rfl, Or.inl q486, Or.inl rfl⟩
theorem fdX0_49_0 : zFd RX0 49 0 4 (.array .int) true := ⟨_, _, _, rfl, rfl, by decide, rfl, rfl, Or.inl q485, Or.inl rfl⟩
noncomputable def fX0_bytesIn_L48 (h : zH) (a : Nat) (x1 : Int64) (x4 : Int32) : Option ((zH × Int32) ⊕ ((Int32 × zH))) := if x4 < 0 then (some (.inr ((zI h a 5, h)))) else (zck (vp_in (zI h a 5) 1000) (zlet (zsI h (a + 25) (zI h a 5).toNatClampNeg (((x1 >>> (((8 : Int32) * x4).toInt64 &&& 63)) &&& 255).toInt32)) (fun h_14 => zlet (zsI h_14 a 5 ((zI h_14 a 5) + 1)) (fun h_15 => some (.inl ((h_15, x4 + (-1))))))))
theorem zX0_bytesIn_L48 {F : zF} {h : zH} {a : Nat} {x1 : Int64} {x4 : Int32} {y : (zH × Int32) ⊕ ((Int32 × zH))} (hD : 2 ≤ F.2.1) (hL : zXx h a) (hf : fX0_bytesIn_L48 h a x1 x4 = some y) (hM : ((∀ s' : zH × Int32, y = .inl s' → (zXx s'.1 a → Z F 5 cX0_bytesIn RX0 "bytesIn" (some .int) [] s'.1 48 [(0, .ref a), (1, .long x1), (4, .int s'.2)] [])) ∧ ∀ r : (Int32 × zH), y = .inr r → ((.inl (some (.int r.1)), r.2) : zX) = zEnd F)) : Z F 5 cX0_bytesIn RX0 "bytesIn" (some .int) [] h 48 [(0, .ref a), (1, .long x1), (4, .int x4)] [] := by
  unfold fX0_bytesIn_L48 at hf
  refine z_iload 2 dX0_bytesIn_48 rfl ?_
  refine z_if_lt 90 dX0_bytesIn_50 rfl hf (fun _ hf => ?_) (fun _ hf => ?_)
  · refine z_aload_n 0 dX0_bytesIn_90 rfl rfl ?_
    refine z_geti fdX0_262_0 ((hL.b 0 rfl).t 0 rfl) dX0_bytesIn_91 ?_
    cases hf
    exact z_iret dX0_bytesIn_94 rfl (hM.2 _ rfl)
  · refine z_aload_n 0 dX0_bytesIn_53 rfl rfl ?_
    refine z_getr fdX0_49_0 (Or.inr ⟨_, rfl⟩) ((hL.b 0 rfl).t 0 rfl) ((hL.b 0 rfl).p 2 rfl) dX0_bytesIn_54 ?_
    refine z_aload_n 0 dX0_bytesIn_57 rfl rfl ?_
    refine z_geti fdX0_262_0 ((hL.b 0 rfl).t 0 rfl) dX0_bytesIn_58 ?_
    refine z_lload_n 1 dX0_bytesIn_61 rfl rfl ?_
    refine z_bipush 8 dX0_bytesIn_62 rfl ?_
    refine z_iload 2 dX0_bytesIn_64 rfl ?_
    refine z_imul dX0_bytesIn_66 ?_
    refine z_lshr dX0_bytesIn_67 ?_
    refine z_ldc2 q937 dX0_bytesIn_68 ?_
    refine z_land dX0_bytesIn_71 ?_
    refine z_l2i dX0_bytesIn_72 ?_
    obtain ⟨hi_13, hf⟩ := zck_some hf
    obtain ⟨h_14, he, hf⟩ := zlet_some hf
    refine z_iast ((hL.b 0 rfl).t 25 rfl) ((hL.b 0 rfl).nz 25) hi_13 he dX0_bytesIn_73 ?_
    have hL := hL.I he
    refine z_aload_n 0 dX0_bytesIn_74 rfl rfl ?_
    refine z_dup dX0_bytesIn_75 rfl ?_
    refine z_geti fdX0_262_0 ((hL.b 0 rfl).t 0 rfl) dX0_bytesIn_76 ?_
    refine z_iconst 1 dX0_bytesIn_79 rfl ?_
    refine z_iadd dX0_bytesIn_80 ?_
    obtain ⟨h_15, he, hf⟩ := zlet_some hf
    refine z_puti fdX0_262_0 ((hL.b 0 rfl).t 0 rfl) ((hL.b 0 rfl).nz 0) he dX0_bytesIn_81 ?_
    have hL := hL.I he
    refine z_iinc 2 (x4 + (-1)) dX0_bytesIn_84 rfl rfl (by decide) (lc' := [(0, .ref a), (1, .long x1), (4, .int (x4 + (-1)))]) rfl ?_
    refine z_goto 48 dX0_bytesIn_87 rfl ?_
    cases hf
    exact (hM.1 _ rfl) hL
noncomputable def fX0_bytesIn (h : zH) (a : Nat) (x1 : Int64) (x3 : Int32) : Option (Int32 × zH) := zb1 (fX0_in x3 1 8) (fun v_2 => if v_2 = 0 then (fX0_bytesIn_J22 h a x3) else (if ((zI h a 5) + x3) ≤ 1000 then (zlp (fun s => fX0_bytesIn_L48 s.1 a x1 s.2) (h, x3 - 1)) else (fX0_bytesIn_J22 h a x3)))
theorem zX0_bytesIn {F : zF} {h : zH} {a : Nat} {x1 : Int64} {x3 : Int32} {y : Int32 × zH} (hD : 2 ≤ F.2.1) (hL : zXx h a) (hf : fX0_bytesIn h a x1 x3 = some y) (hM : ((.inl (some (.int y.1)), y.2) : zX) = zEnd F) : Z F 5 cX0_bytesIn RX0 "bytesIn" (some .int) [] h 0 [(0, .ref a), (1, .long x1), (3, .int x3)] [] := by
  unfold fX0_bytesIn at hf
  refine z_iload_n 2 dX0_bytesIn_0 rfl rfl ?_
  refine z_iconst 1 dX0_bytesIn_1 rfl ?_
  refine z_bipush 8 dX0_bytesIn_2 rfl ?_
  obtain ⟨v_2, hc_1, hf⟩ := zb1_some hf
  refine z_invSi suX0_4_s (ctX0_in hc_1) ⟨Nat.le_trans (by decide) hD, by decide⟩ rfl rfl (Nat.le_of_ble_eq_true rfl) dX0_bytesIn_4 ?_
  refine z_if_eq 22 dX0_bytesIn_7 rfl hf (fun _ hf => ?_) (fun _ hf => ?_)
  · refine z_sub [0, 2] rfl ?_
    exact zX0_bytesIn_J22 hD hL hf hM
  · refine z_aload_n 0 dX0_bytesIn_10 rfl rfl ?_
    refine z_geti fdX0_262_0 ((hL.b 0 rfl).t 0 rfl) dX0_bytesIn_11 ?_
    refine z_iload_n 2 dX0_bytesIn_14 rfl rfl ?_
    refine z_iadd dX0_bytesIn_15 ?_
    refine z_sipush 1000 dX0_bytesIn_16 rfl ?_
    refine z_icmp_le 43 dX0_bytesIn_19 rfl hf (fun _ hf => ?_) (fun _ hf => ?_)
    · refine z_iload_n 2 dX0_bytesIn_43 rfl rfl ?_
      refine z_iconst 1 dX0_bytesIn_44 rfl ?_
      refine z_isub dX0_bytesIn_45 ?_
      refine z_istore dX0_bytesIn_46 (by decide) (lc' := [(0, .ref a), (1, .long x1), (3, .int x3), (4, .int (x3 - 1))]) rfl ?_
      refine z_sub [0, 1, 3] rfl ?_
      exact z_loop (fun (s : zH × Int32) => (zXx s.1 a → Z F 5 cX0_bytesIn RX0 "bytesIn" (some .int) [] s.1 48 [(0, .ref a), (1, .long x1), (4, .int s.2)] [])) (fun (r : (Int32 × zH)) => ((.inl (some (.int r.1)), r.2) : zX) = zEnd F) (fun s y hb hs hr hL => zX0_bytesIn_L48 hD hL hb ⟨hs, hr⟩) hf hM hL
    · refine z_sub [0, 2] rfl ?_
      exact zX0_bytesIn_J22 hD hL hf hM
theorem ctX0_bytesIn {l : Launch} {h : zH} {a : Nat} {x1 : Int64} {x3 : Int32} {v : Int32} {h' : zH} (hL : zXx h a) (hf : fX0_bytesIn h a x1 x3 = some (v, h')) : zC l yX0_bytesIn (ws_ yX0_bytesIn cX0_bytesIn 5 (some .int)) 2 [.ref a, .long x1, .int x3] h (.inl (some (.int v)), h') :=
  z_start (by decide) (Nat.le_of_ble_eq_true rfl) (zX0_bytesIn (F := (l, 2, h, (.inl (some (.int v)), h'))) (Nat.le_refl _) hL hf rfl)
noncomputable def fX0_unitsIn_J21 (h : zH) (a : Nat) (x3 : Int32) : Option (Int32 × zH) := zb1 (fX0_in x3 1 4) (fun v_5 => if v_5 = 0 then (zb2 (fX0_answer h a ((-1))) (fun v_11 h_12 => some ((v_11, h_12)))) else (zb2 (fX0_answer h a ((-6))) (fun v_8 h_9 => some ((v_8, h_9)))))
theorem zX0_unitsIn_J21 {F : zF} {h : zH} {a : Nat} {x3 : Int32} {y : Int32 × zH} (hD : 2 ≤ F.2.1) (hL : zXx h a) (hf : fX0_unitsIn_J21 h a x3 = some y) (hM : ((.inl (some (.int y.1)), y.2) : zX) = zEnd F) : Z F 5 cX0_unitsIn RX0 "unitsIn" (some .int) [] h 21 [(0, .ref a), (3, .int x3)] [] := by
  unfold fX0_unitsIn_J21 at hf
  refine z_aload_n 0 dX0_unitsIn_21 rfl rfl ?_
  refine z_iload_n 1 dX0_unitsIn_22 rfl rfl ?_
  refine z_iconst 1 dX0_unitsIn_23 rfl ?_
  refine z_iconst 4 dX0_unitsIn_24 rfl ?_
  obtain ⟨v_5, hc_4, hf⟩ := zb1_some hf
  refine z_invSi suX0_4_s (ctX0_in hc_4) ⟨Nat.le_trans (by decide) hD, by decide⟩ rfl rfl (Nat.le_of_ble_eq_true rfl) dX0_unitsIn_25 ?_
  refine z_if_ne 35 dX0_unitsIn_28 rfl hf (fun _ hf => ?_) (fun _ hf => ?_)
  · refine z_bipush (-6) dX0_unitsIn_35 rfl ?_
    obtain ⟨v_8, h_9, hc_7, hf⟩ := zb2_some hf
    have hct := ctX0_answer (l := F.1) hL hc_7
    refine z_invVi suX0_163_0 hct ((hL.b 0 rfl).t 0 rfl) ⟨Nat.le_trans (by decide) hD, by decide⟩ rfl rfl (Nat.le_of_ble_eq_true rfl) dX0_unitsIn_37 ?_
    have hL := hL.ext hct.1
    cases hf
    exact z_iret dX0_unitsIn_40 rfl hM
  · refine z_iconst (-1) dX0_unitsIn_31 rfl ?_
    refine z_goto 37 dX0_unitsIn_32 rfl ?_
    obtain ⟨v_11, h_12, hc_10, hf⟩ := zb2_some hf
    have hct := ctX0_answer (l := F.1) hL hc_10
    refine z_invVi suX0_163_0 hct ((hL.b 0 rfl).t 0 rfl) ⟨Nat.le_trans (by decide) hD, by decide⟩ rfl rfl (Nat.le_of_ble_eq_true rfl) dX0_unitsIn_37 ?_
    have hL := hL.ext hct.1
    cases hf
    exact z_iret dX0_unitsIn_40 rfl hM
theorem fdX0_267_0 : zFd RX0 267 0 7 .int false := ⟨_, _, _, rfl, rfl, by decide, rfl, rfl, Or.inl q488, Or.inl rfl⟩
theorem fdX0_53_0 : zFd RX0 53 0 6 (.array .int) true := ⟨_, _, _, rfl, rfl, by decide, rfl, rfl, Or.inl q487, Or.inl rfl⟩
noncomputable def fX0_unitsIn_L46 (h : zH) (a : Nat) (x1 : Int64) (x4 : Int32) : Option ((zH × Int32) ⊕ ((Int32 × zH))) := if x4 < 0 then (some (.inr ((zI h a 7, h)))) else (zck (vp_in (zI h a 7) 1000) (zlet (zsI h (a + 26) (zI h a 7).toNatClampNeg (((x1 >>> (((16 : Int32) * x4).toInt64 &&& 63)) &&& 65535).toInt32)) (fun h_14 => zlet (zsI h_14 a 7 ((zI h_14 a 7) + 1)) (fun h_15 => some (.inl ((h_15, x4 + (-1))))))))
theorem zX0_unitsIn_L46 {F : zF} {h : zH} {a : Nat} {x1 : Int64} {x4 : Int32} {y : (zH × Int32) ⊕ ((Int32 × zH))} (hD : 2 ≤ F.2.1) (hL : zXx h a) (hf : fX0_unitsIn_L46 h a x1 x4 = some y) (hM : ((∀ s' : zH × Int32, y = .inl s' → (zXx s'.1 a → Z F 5 cX0_unitsIn RX0 "unitsIn" (some .int) [] s'.1 46 [(0, .ref a), (1, .long x1), (4, .int s'.2)] [])) ∧ ∀ r : (Int32 × zH), y = .inr r → ((.inl (some (.int r.1)), r.2) : zX) = zEnd F)) : Z F 5 cX0_unitsIn RX0 "unitsIn" (some .int) [] h 46 [(0, .ref a), (1, .long x1), (4, .int x4)] [] := by
  unfold fX0_unitsIn_L46 at hf
  refine z_iload 2 dX0_unitsIn_46 rfl ?_
  refine z_if_lt 88 dX0_unitsIn_48 rfl hf (fun _ hf => ?_) (fun _ hf => ?_)
  · refine z_aload_n 0 dX0_unitsIn_88 rfl rfl ?_
    refine z_geti fdX0_267_0 ((hL.b 0 rfl).t 0 rfl) dX0_unitsIn_89 ?_
    cases hf
    exact z_iret dX0_unitsIn_92 rfl (hM.2 _ rfl)
  · refine z_aload_n 0 dX0_unitsIn_51 rfl rfl ?_
    refine z_getr fdX0_53_0 (Or.inr ⟨_, rfl⟩) ((hL.b 0 rfl).t 0 rfl) ((hL.b 0 rfl).p 3 rfl) dX0_unitsIn_52 ?_
    refine z_aload_n 0 dX0_unitsIn_55 rfl rfl ?_
    refine z_geti fdX0_267_0 ((hL.b 0 rfl).t 0 rfl) dX0_unitsIn_56 ?_
    refine z_lload_n 1 dX0_unitsIn_59 rfl rfl ?_
    refine z_bipush 16 dX0_unitsIn_60 rfl ?_
    refine z_iload 2 dX0_unitsIn_62 rfl ?_
    refine z_imul dX0_unitsIn_64 ?_
    refine z_lshr dX0_unitsIn_65 ?_
    refine z_ldc2 q942 dX0_unitsIn_66 ?_
    refine z_land dX0_unitsIn_69 ?_
    refine z_l2i dX0_unitsIn_70 ?_
    obtain ⟨hi_13, hf⟩ := zck_some hf
    obtain ⟨h_14, he, hf⟩ := zlet_some hf
    refine z_iast ((hL.b 0 rfl).t 26 rfl) ((hL.b 0 rfl).nz 26) hi_13 he dX0_unitsIn_71 ?_
    have hL := hL.I he
    refine z_aload_n 0 dX0_unitsIn_72 rfl rfl ?_
    refine z_dup dX0_unitsIn_73 rfl ?_
    refine z_geti fdX0_267_0 ((hL.b 0 rfl).t 0 rfl) dX0_unitsIn_74 ?_
    refine z_iconst 1 dX0_unitsIn_77 rfl ?_
    refine z_iadd dX0_unitsIn_78 ?_
    obtain ⟨h_15, he, hf⟩ := zlet_some hf
    refine z_puti fdX0_267_0 ((hL.b 0 rfl).t 0 rfl) ((hL.b 0 rfl).nz 0) he dX0_unitsIn_79 ?_
    have hL := hL.I he
    refine z_iinc 2 (x4 + (-1)) dX0_unitsIn_82 rfl rfl (by decide) (lc' := [(0, .ref a), (1, .long x1), (4, .int (x4 + (-1)))]) rfl ?_
    refine z_goto 46 dX0_unitsIn_85 rfl ?_
    cases hf
    exact (hM.1 _ rfl) hL
noncomputable def fX0_unitsIn (h : zH) (a : Nat) (x1 : Int64) (x3 : Int32) : Option (Int32 × zH) := zb1 (fX0_in x3 1 4) (fun v_2 => if v_2 = 0 then (fX0_unitsIn_J21 h a x3) else (if ((zI h a 7) + x3) ≤ 1000 then (zlp (fun s => fX0_unitsIn_L46 s.1 a x1 s.2) (h, x3 - 1)) else (fX0_unitsIn_J21 h a x3)))
theorem zX0_unitsIn {F : zF} {h : zH} {a : Nat} {x1 : Int64} {x3 : Int32} {y : Int32 × zH} (hD : 2 ≤ F.2.1) (hL : zXx h a) (hf : fX0_unitsIn h a x1 x3 = some y) (hM : ((.inl (some (.int y.1)), y.2) : zX) = zEnd F) : Z F 5 cX0_unitsIn RX0 "unitsIn" (some .int) [] h 0 [(0, .ref a), (1, .long x1), (3, .int x3)] [] := by
  unfold fX0_unitsIn at hf
  refine z_iload_n 2 dX0_unitsIn_0 rfl rfl ?_
  refine z_iconst 1 dX0_unitsIn_1 rfl ?_
  refine z_iconst 4 dX0_unitsIn_2 rfl ?_
  obtain ⟨v_2, hc_1, hf⟩ := zb1_some hf
  refine z_invSi suX0_4_s (ctX0_in hc_1) ⟨Nat.le_trans (by decide) hD, by decide⟩ rfl rfl (Nat.le_of_ble_eq_true rfl) dX0_unitsIn_3 ?_
  refine z_if_eq 21 dX0_unitsIn_6 rfl hf (fun _ hf => ?_) (fun _ hf => ?_)
  · refine z_sub [0, 2] rfl ?_
    exact zX0_unitsIn_J21 hD hL hf hM
  · refine z_aload_n 0 dX0_unitsIn_9 rfl rfl ?_
    refine z_geti fdX0_267_0 ((hL.b 0 rfl).t 0 rfl) dX0_unitsIn_10 ?_
    refine z_iload_n 2 dX0_unitsIn_13 rfl rfl ?_
    refine z_iadd dX0_unitsIn_14 ?_
    refine z_sipush 1000 dX0_unitsIn_15 rfl ?_
    refine z_icmp_le 41 dX0_unitsIn_18 rfl hf (fun _ hf => ?_) (fun _ hf => ?_)
    · refine z_iload_n 2 dX0_unitsIn_41 rfl rfl ?_
      refine z_iconst 1 dX0_unitsIn_42 rfl ?_
      refine z_isub dX0_unitsIn_43 ?_
      refine z_istore dX0_unitsIn_44 (by decide) (lc' := [(0, .ref a), (1, .long x1), (3, .int x3), (4, .int (x3 - 1))]) rfl ?_
      refine z_sub [0, 1, 3] rfl ?_
      exact z_loop (fun (s : zH × Int32) => (zXx s.1 a → Z F 5 cX0_unitsIn RX0 "unitsIn" (some .int) [] s.1 46 [(0, .ref a), (1, .long x1), (4, .int s.2)] [])) (fun (r : (Int32 × zH)) => ((.inl (some (.int r.1)), r.2) : zX) = zEnd F) (fun s y hb hs hr hL => zX0_unitsIn_L46 hD hL hb ⟨hs, hr⟩) hf hM hL
    · refine z_sub [0, 2] rfl ?_
      exact zX0_unitsIn_J21 hD hL hf hM
theorem ctX0_unitsIn {l : Launch} {h : zH} {a : Nat} {x1 : Int64} {x3 : Int32} {v : Int32} {h' : zH} (hL : zXx h a) (hf : fX0_unitsIn h a x1 x3 = some (v, h')) : zC l yX0_unitsIn (ws_ yX0_unitsIn cX0_unitsIn 5 (some .int)) 2 [.ref a, .long x1, .int x3] h (.inl (some (.int v)), h') :=
  z_start (by decide) (Nat.le_of_ble_eq_true rfl) (zX0_unitsIn (F := (l, 2, h, (.inl (some (.int v)), h'))) (Nat.le_refl _) hL hf rfl)
theorem fdX0_272_0 : zFd RX0 272 0 27 .int false := ⟨_, _, _, rfl, rfl, by decide, rfl, rfl, Or.inl q513, Or.inl rfl⟩
noncomputable def fX0_fill_J79 (h : zH) (a : Nat) (x1 : Int32) : Option (Int32 × zH) := if (zI h a 27) = ((4 : Int32) - x1) then (zb2 (fX0_answer h a ((-6))) (fun v_5 h_6 => some ((v_5, h_6)))) else (zb2 (fX0_answer h a ((-2))) (fun v_8 h_9 => some ((v_8, h_9))))
theorem zX0_fill_J79 {F : zF} {h : zH} {a : Nat} {x1 : Int32} {y : Int32 × zH} (hD : 2 ≤ F.2.1) (hL : zXx h a) (hf : fX0_fill_J79 h a x1 = some y) (hM : ((.inl (some (.int y.1)), y.2) : zX) = zEnd F) : Z F 3 cX0_fill RX0 "fill" (some .int) [] h 79 [(0, .ref a), (1, .int x1)] [] := by
  unfold fX0_fill_J79 at hf
  refine z_aload_n 0 dX0_fill_79 rfl rfl ?_
  refine z_aload_n 0 dX0_fill_80 rfl rfl ?_
  refine z_geti fdX0_272_0 ((hL.b 0 rfl).t 0 rfl) dX0_fill_81 ?_
  refine z_iconst 4 dX0_fill_84 rfl ?_
  refine z_iload_n 1 dX0_fill_85 rfl rfl ?_
  refine z_isub dX0_fill_86 ?_
  refine z_icmp_eq 95 dX0_fill_87 rfl hf (fun _ hf => ?_) (fun _ hf => ?_)
  · refine z_bipush (-6) dX0_fill_95 rfl ?_
    obtain ⟨v_5, h_6, hc_4, hf⟩ := zb2_some hf
    have hct := ctX0_answer (l := F.1) hL hc_4
    refine z_invVi suX0_163_0 hct ((hL.b 0 rfl).t 0 rfl) ⟨Nat.le_trans (by decide) hD, by decide⟩ rfl rfl (Nat.le_of_ble_eq_true rfl) dX0_fill_97 ?_
    have hL := hL.ext hct.1
    cases hf
    exact z_iret dX0_fill_100 rfl hM
  · refine z_bipush (-2) dX0_fill_90 rfl ?_
    refine z_goto 97 dX0_fill_92 rfl ?_
    obtain ⟨v_8, h_9, hc_7, hf⟩ := zb2_some hf
    have hct := ctX0_answer (l := F.1) hL hc_7
    refine z_invVi suX0_163_0 hct ((hL.b 0 rfl).t 0 rfl) ⟨Nat.le_trans (by decide) hD, by decide⟩ rfl rfl (Nat.le_of_ble_eq_true rfl) dX0_fill_97 ?_
    have hL := hL.ext hct.1
    cases hf
    exact z_iret dX0_fill_100 rfl hM
theorem fdX0_275_5 : zFd RX0 275 5 1 .int false := ⟨_, _, _, rfl, rfl, by decide, rfl, rfl, Or.inr ⟨_, q460⟩, Or.inl rfl⟩
theorem fdX0_278_5 : zFd RX0 278 5 0 (.array .int) true := ⟨_, _, _, rfl, rfl, by decide, rfl, rfl, Or.inr ⟨_, q458⟩, Or.inl rfl⟩
noncomputable def fX0_fill_J152 (h : zH) (a : Nat) (x1 : Int32) (x2 : Int32) (k0 : Int32) : Option (Int32 × zH) := zlet (zsI h a 5 k0) (fun h_21 => if x1 = 3 then (zlet (zsI h_21 a 7 x2) (fun h_23 => some ((x2, h_23)))) else (zlet (zsI h_21 a 7 (zI h_21 a 7)) (fun h_22 => some ((x2, h_22)))))
theorem zX0_fill_J152 {F : zF} {h : zH} {a : Nat} {x1 : Int32} {x2 : Int32} {k0 : Int32} {y : Int32 × zH} (hD : 2 ≤ F.2.1) (hL : zXx h a) (hf : fX0_fill_J152 h a x1 x2 k0 = some y) (hM : ((.inl (some (.int y.1)), y.2) : zX) = zEnd F) : Z F 3 cX0_fill RX0 "fill" (some .int) [] h 152 [(0, .ref a), (1, .int x1), (2, .int x2)] [.int k0, .ref a] := by
  unfold fX0_fill_J152 at hf
  obtain ⟨h_21, he, hf⟩ := zlet_some hf
  refine z_puti fdX0_262_0 ((hL.b 0 rfl).t 0 rfl) ((hL.b 0 rfl).nz 0) he dX0_fill_152 ?_
  have hL := hL.I he
  refine z_aload_n 0 dX0_fill_155 rfl rfl ?_
  refine z_iload_n 1 dX0_fill_156 rfl rfl ?_
  refine z_iconst 3 dX0_fill_157 rfl ?_
  refine z_icmp_ne 165 dX0_fill_158 rfl hf (fun _ hf => ?_) (fun _ hf => ?_)
  · refine z_aload_n 0 dX0_fill_165 rfl rfl ?_
    refine z_geti fdX0_267_0 ((hL.b 0 rfl).t 0 rfl) dX0_fill_166 ?_
    obtain ⟨h_22, he, hf⟩ := zlet_some hf
    refine z_puti fdX0_267_0 ((hL.b 0 rfl).t 0 rfl) ((hL.b 0 rfl).nz 0) he dX0_fill_169 ?_
    have hL := hL.I he
    refine z_iload_n 2 dX0_fill_172 rfl rfl ?_
    cases hf
    exact z_iret dX0_fill_173 rfl hM
  · refine z_iload_n 2 dX0_fill_161 rfl rfl ?_
    refine z_goto 169 dX0_fill_162 rfl ?_
    obtain ⟨h_23, he, hf⟩ := zlet_some hf
    refine z_puti fdX0_267_0 ((hL.b 0 rfl).t 0 rfl) ((hL.b 0 rfl).nz 0) he dX0_fill_169 ?_
    have hL := hL.I he
    refine z_iload_n 2 dX0_fill_172 rfl rfl ?_
    cases hf
    exact z_iret dX0_fill_173 rfl hM
noncomputable def fX0_fill_J133 (h : zH) (a : Nat) (x1 : Int32) (x2 : Int32) (k0 : Nat) (k1 : Int32) (k2 : Nat) : Option (Int32 × zH) := zck (zT h k2 = (100, (zT h k2).2) ∧ k2 ≠ 0) (zck (zT h k0 = (100, (zT h k0).2) ∧ k0 ≠ 0) (zck (zcpOk ((zT h k2).2) ((zT h k0).2) k1 (0 : Int32) x2) (zlet (zsC h k0 (va_cpy (zI h k2) (zI h k0) k1.toNatClampNeg (0 : Int32).toNatClampNeg x2.toNatClampNeg)) (fun h_20 => if x1 = 2 then (fX0_fill_J152 h_20 a x1 x2 x2) else (fX0_fill_J152 h_20 a x1 x2 (zI h_20 a 5))))))
theorem zX0_fill_J133 {F : zF} {h : zH} {a : Nat} {x1 : Int32} {x2 : Int32} {k0 : Nat} {k1 : Int32} {k2 : Nat} {y : Int32 × zH} (hD : 2 ≤ F.2.1) (hL : zXx h a) (hf : fX0_fill_J133 h a x1 x2 k0 k1 k2 = some y) (hM : ((.inl (some (.int y.1)), y.2) : zX) = zEnd F) : Z F 3 cX0_fill RX0 "fill" (some .int) [] h 133 [(0, .ref a), (1, .int x1), (2, .int x2)] [.ref k0, .int k1, .ref k2] := by
  unfold fX0_fill_J133 at hf
  refine z_iconst 0 dX0_fill_133 rfl ?_
  refine z_iload_n 2 dX0_fill_134 rfl rfl ?_
  obtain ⟨ht_17, hf⟩ := zck_some hf
  obtain ⟨ht_18, hf⟩ := zck_some hf
  obtain ⟨hk_19, hf⟩ := zck_some hf
  obtain ⟨h_20, he, hf⟩ := zlet_some hf
  refine z_copy q947 q949 q948 q120 ht_17.1 ht_18.1 ht_18.2 hk_19 he (Nat.le_trans (by decide) hD) (Nat.le_of_ble_eq_true rfl) dX0_fill_135 ?_
  have hfx := zLx_C he
  have hL := hL.ext hfx
  refine z_aload_n 0 dX0_fill_138 rfl rfl ?_
  refine z_iload_n 1 dX0_fill_139 rfl rfl ?_
  refine z_iconst 2 dX0_fill_140 rfl ?_
  refine z_icmp_ne 148 dX0_fill_141 rfl hf (fun _ hf => ?_) (fun _ hf => ?_)
  · refine z_aload_n 0 dX0_fill_148 rfl rfl ?_
    refine z_geti fdX0_262_0 ((hL.b 0 rfl).t 0 rfl) dX0_fill_149 ?_
    exact zX0_fill_J152 hD hL hf hM
  · refine z_iload_n 2 dX0_fill_144 rfl rfl ?_
    refine z_goto 152 dX0_fill_145 rfl ?_
    exact zX0_fill_J152 hD hL hf hM
noncomputable def fX0_fill_J30 (h : zH) (a : Nat) (x1 : Int32) (k0 : Int32) : Option (Int32 × zH) := if x1 = 0 then (zlet (zsI h a 5 0) (fun h_25 => some ((k0, h_25)))) else (if x1 = 1 then (zlet (zsI h a 7 0) (fun h_24 => some ((k0, h_24)))) else (if (zI h a 27) = ((4 : Int32) - x1) then (zb1 (zP h a 24) (fun b_10 => zck (zOb 5 h b_10) (if (zI h b_10 1) ≤ 1000 then (zb1 (zP h a 24) (fun b_12 => zck (zOb 5 h b_12) (zb1 (zP h a 24) (fun b_14 => zck (zOb 5 h b_14) (zb1 (zP h b_14 0) (fun b_16 => if x1 = 2 then (fX0_fill_J133 h a x1 (zI h b_12 1) (a + 25) 0 b_16) else (fX0_fill_J133 h a x1 (zI h b_12 1) (a + 26) 0 b_16))))))) else (fX0_fill_J79 h a x1)))) else (fX0_fill_J79 h a x1)))
theorem zX0_fill_J30 {F : zF} {h : zH} {a : Nat} {x1 : Int32} {k0 : Int32} {y : Int32 × zH} (hD : 2 ≤ F.2.1) (hL : zXx h a) (hf : fX0_fill_J30 h a x1 k0 = some y) (hM : ((.inl (some (.int y.1)), y.2) : zX) = zEnd F) : Z F 3 cX0_fill RX0 "fill" (some .int) [] h 30 [(0, .ref a), (1, .int x1)] [.int k0] := by
  unfold fX0_fill_J30 at hf
  refine z_istore_n dX0_fill_30 rfl (by decide) (lc' := [(0, .ref a), (1, .int x1), (2, .int k0)]) rfl ?_
  refine z_iload_n 1 dX0_fill_31 rfl rfl ?_
  refine z_if_ne 43 dX0_fill_32 rfl hf (fun _ hf => ?_) (fun _ hf => ?_)
  · refine z_iload_n 1 dX0_fill_43 rfl rfl ?_
    refine z_iconst 1 dX0_fill_44 rfl ?_
    refine z_icmp_ne 56 dX0_fill_45 rfl hf (fun _ hf => ?_) (fun _ hf => ?_)
    · refine z_aload_n 0 dX0_fill_56 rfl rfl ?_
      refine z_geti fdX0_272_0 ((hL.b 0 rfl).t 0 rfl) dX0_fill_57 ?_
      refine z_iconst 4 dX0_fill_60 rfl ?_
      refine z_iload_n 1 dX0_fill_61 rfl rfl ?_
      refine z_isub dX0_fill_62 ?_
      refine z_icmp_ne 79 dX0_fill_63 rfl hf (fun _ hf => ?_) (fun _ hf => ?_)
      · refine z_sub [0, 1] rfl ?_
        exact zX0_fill_J79 hD hL hf hM
      · refine z_aload_n 0 dX0_fill_66 rfl rfl ?_
        obtain ⟨b_10, hb_10, hf⟩ := zb1_some hf
        refine z_getr fdX0_102_0 (Or.inl ⟨_, rfl⟩) ((hL.b 0 rfl).t 0 rfl) hb_10 dX0_fill_67 ?_
        obtain ⟨hK_11, hf⟩ := zck_some hf
        refine z_geti fdX0_275_5 ((hK_11.b 0 rfl).t 0 rfl) dX0_fill_70 ?_
        refine z_sipush 1000 dX0_fill_73 rfl ?_
        refine z_icmp_le 101 dX0_fill_76 rfl hf (fun _ hf => ?_) (fun _ hf => ?_)
        · refine z_aload_n 0 dX0_fill_101 rfl rfl ?_
          obtain ⟨b_12, hb_12, hf⟩ := zb1_some hf
          refine z_getr fdX0_102_0 (Or.inl ⟨_, rfl⟩) ((hL.b 0 rfl).t 0 rfl) hb_12 dX0_fill_102 ?_
          obtain ⟨hK_13, hf⟩ := zck_some hf
          refine z_geti fdX0_275_5 ((hK_13.b 0 rfl).t 0 rfl) dX0_fill_105 ?_
          refine z_istore_n dX0_fill_108 rfl (by decide) (lc' := [(0, .ref a), (1, .int x1), (2, .int (zI h b_12 1))]) rfl ?_
          refine z_aload_n 0 dX0_fill_109 rfl rfl ?_
          obtain ⟨b_14, hb_14, hf⟩ := zb1_some hf
          refine z_getr fdX0_102_0 (Or.inl ⟨_, rfl⟩) ((hL.b 0 rfl).t 0 rfl) hb_14 dX0_fill_110 ?_
          obtain ⟨hK_15, hf⟩ := zck_some hf
          obtain ⟨b_16, hb_16, hf⟩ := zb1_some hf
          refine z_getr fdX0_278_5 (Or.inr ⟨_, rfl⟩) ((hK_15.b 0 rfl).t 0 rfl) hb_16 dX0_fill_113 ?_
          refine z_iconst 0 dX0_fill_116 rfl ?_
          refine z_iload_n 1 dX0_fill_117 rfl rfl ?_
          refine z_iconst 2 dX0_fill_118 rfl ?_
          refine z_icmp_ne 129 dX0_fill_119 rfl hf (fun _ hf => ?_) (fun _ hf => ?_)
          · refine z_aload_n 0 dX0_fill_129 rfl rfl ?_
            refine z_getr fdX0_53_0 (Or.inr ⟨_, rfl⟩) ((hL.b 0 rfl).t 0 rfl) ((hL.b 0 rfl).p 3 rfl) dX0_fill_130 ?_
            exact zX0_fill_J133 hD hL hf hM
          · refine z_aload_n 0 dX0_fill_122 rfl rfl ?_
            refine z_getr fdX0_49_0 (Or.inr ⟨_, rfl⟩) ((hL.b 0 rfl).t 0 rfl) ((hL.b 0 rfl).p 2 rfl) dX0_fill_123 ?_
            refine z_goto 133 dX0_fill_126 rfl ?_
            exact zX0_fill_J133 hD hL hf hM
        · refine z_sub [0, 1] rfl ?_
          exact zX0_fill_J79 hD hL hf hM
    · refine z_aload_n 0 dX0_fill_48 rfl rfl ?_
      refine z_iconst 0 dX0_fill_49 rfl ?_
      obtain ⟨h_24, he, hf⟩ := zlet_some hf
      refine z_puti fdX0_267_0 ((hL.b 0 rfl).t 0 rfl) ((hL.b 0 rfl).nz 0) he dX0_fill_50 ?_
      have hL := hL.I he
      refine z_goto 172 dX0_fill_53 rfl ?_
      refine z_iload_n 2 dX0_fill_172 rfl rfl ?_
      cases hf
      exact z_iret dX0_fill_173 rfl hM
  · refine z_aload_n 0 dX0_fill_35 rfl rfl ?_
    refine z_iconst 0 dX0_fill_36 rfl ?_
    obtain ⟨h_25, he, hf⟩ := zlet_some hf
    refine z_puti fdX0_262_0 ((hL.b 0 rfl).t 0 rfl) ((hL.b 0 rfl).nz 0) he dX0_fill_37 ?_
    have hL := hL.I he
    refine z_goto 172 dX0_fill_40 rfl ?_
    refine z_iload_n 2 dX0_fill_172 rfl rfl ?_
    cases hf
    exact z_iret dX0_fill_173 rfl hM
noncomputable def fX0_fill (h : zH) (a : Nat) (x1 : Int32) : Option (Int32 × zH) := zb1 (fX0_in x1 0 3) (fun v_2 => if v_2 = 0 then (zb2 (fX0_answer h a ((-1))) (fun v_27 h_28 => some ((v_27, h_28)))) else (if x1 = 0 then (fX0_fill_J30 h a x1 (zI h a 5)) else (fX0_fill_J30 h a x1 (zI h a 7))))
theorem zX0_fill {F : zF} {h : zH} {a : Nat} {x1 : Int32} {y : Int32 × zH} (hD : 2 ≤ F.2.1) (hL : zXx h a) (hf : fX0_fill h a x1 = some y) (hM : ((.inl (some (.int y.1)), y.2) : zX) = zEnd F) : Z F 3 cX0_fill RX0 "fill" (some .int) [] h 0 [(0, .ref a), (1, .int x1)] [] := by
  unfold fX0_fill at hf
  refine z_iload_n 1 dX0_fill_0 rfl rfl ?_
  refine z_iconst 0 dX0_fill_1 rfl ?_
  refine z_iconst 3 dX0_fill_2 rfl ?_
  obtain ⟨v_2, hc_1, hf⟩ := zb1_some hf
  refine z_invSi suX0_4_s (ctX0_in hc_1) ⟨Nat.le_trans (by decide) hD, by decide⟩ rfl rfl (Nat.le_of_ble_eq_true rfl) dX0_fill_3 ?_
  refine z_if_ne 15 dX0_fill_6 rfl hf (fun _ hf => ?_) (fun _ hf => ?_)
  · refine z_iload_n 1 dX0_fill_15 rfl rfl ?_
    refine z_if_ne 26 dX0_fill_16 rfl hf (fun _ hf => ?_) (fun _ hf => ?_)
    · refine z_aload_n 0 dX0_fill_26 rfl rfl ?_
      refine z_geti fdX0_267_0 ((hL.b 0 rfl).t 0 rfl) dX0_fill_27 ?_
      exact zX0_fill_J30 hD hL hf hM
    · refine z_aload_n 0 dX0_fill_19 rfl rfl ?_
      refine z_geti fdX0_262_0 ((hL.b 0 rfl).t 0 rfl) dX0_fill_20 ?_
      refine z_goto 30 dX0_fill_23 rfl ?_
      exact zX0_fill_J30 hD hL hf hM
  · refine z_aload_n 0 dX0_fill_9 rfl rfl ?_
    refine z_iconst (-1) dX0_fill_10 rfl ?_
    obtain ⟨v_27, h_28, hc_26, hf⟩ := zb2_some hf
    have hct := ctX0_answer (l := F.1) hL hc_26
    refine z_invVi suX0_163_0 hct ((hL.b 0 rfl).t 0 rfl) ⟨Nat.le_trans (by decide) hD, by decide⟩ rfl rfl (Nat.le_of_ble_eq_true rfl) dX0_fill_11 ?_
    have hL := hL.ext hct.1
    cases hf
    exact z_iret dX0_fill_14 rfl hM
theorem ctX0_fill {l : Launch} {h : zH} {a : Nat} {x1 : Int32} {v : Int32} {h' : zH} (hL : zXx h a) (hf : fX0_fill h a x1 = some (v, h')) : zC l yX0_fill (ws_ yX0_fill cX0_fill 3 (some .int)) 2 [.ref a, .int x1] h (.inl (some (.int v)), h') :=
  z_start (by decide) (Nat.le_of_ble_eq_true rfl) (zX0_fill (F := (l, 2, h, (.inl (some (.int v)), h'))) (Nat.le_refl _) hL hf rfl)
theorem fdX7_23_5 : zFd RX7 23 5 1 .int false := ⟨_, _, _, rfl, rfl, by decide, rfl, rfl, Or.inl q459, Or.inl rfl⟩
theorem fdX7_19_5 : zFd RX7 19 5 2 .boolean false := ⟨_, _, _, rfl, rfl, by decide, rfl, rfl, Or.inl q461, Or.inl rfl⟩
noncomputable def fX7_begin (h : zH) (a : Nat) (xx : Nat) (x1 : Int32) : Option (zH) := zlet (zsI h a 1 0) (fun h_1 => zck (zB x1) (zlet (zsI h_1 a 2 x1) (fun h_2 => some h_2)))
theorem zX7_begin {F : zF} {h : zH} {a : Nat} {xx : Nat} {x1 : Int32} {y : zH} (hD : 1 ≤ F.2.1) (hL : zRw h a xx) (hf : fX7_begin h a xx x1 = some y) (hM : ((.inl none, y) : zX) = zEnd F) : Z F 2 cX7_begin RX7 "begin" none [] h 0 [(0, .ref a), (1, .int x1)] [] := by
  unfold fX7_begin at hf
  refine z_aload_n 0 dX7_begin_0 rfl rfl ?_
  refine z_iconst 0 dX7_begin_1 rfl ?_
  obtain ⟨h_1, he, hf⟩ := zlet_some hf
  refine z_puti fdX7_23_5 ((hL.b 0 rfl).t 0 rfl) ((hL.b 0 rfl).nz 0) he dX7_begin_2 ?_
  have hL := hL.I he
  refine z_aload_n 0 dX7_begin_5 rfl rfl ?_
  refine z_iload_n 1 dX7_begin_6 rfl rfl ?_
  obtain ⟨hz_3, hf⟩ := zck_some hf
  obtain ⟨h_2, he, hf⟩ := zlet_some hf
  refine z_putz fdX7_19_5 hz_3 ((hL.b 0 rfl).t 0 rfl) ((hL.b 0 rfl).nz 0) he dX7_begin_7 ?_
  have hL := hL.I he
  cases hf
  exact z_vret dX7_begin_10 rfl hM
theorem ctX7_begin {l : Launch} {h : zH} {a : Nat} {xx : Nat} {x1 : Int32} {h' : zH} (hL : zRw h a xx) (hf : fX7_begin h a xx x1 = some h') : zC l yX7_begin (ws_ yX7_begin cX7_begin 2 none) 1 [.ref a, .int x1] h (.inl none, h') :=
  z_start (by decide) (Nat.le_of_ble_eq_true rfl) (zX7_begin (F := (l, 1, h, (.inl none, h'))) (Nat.le_refl _) hL hf rfl)
theorem fdX4_19_3 : zFd RX4 19 3 2 (.object "CodeExchange$Page") false := ⟨_, _, _, rfl, rfl, by decide, rfl, rfl, Or.inl q356, Or.inl rfl⟩
theorem fdX4_23_3 : zFd RX4 23 3 3 .int false := ⟨_, _, _, rfl, rfl, by decide, rfl, rfl, Or.inl q361, Or.inl rfl⟩
theorem fdX4_27_3 : zFd RX4 27 3 1 (.object "CodeExchange$Sink") false := ⟨_, _, _, rfl, rfl, by decide, rfl, rfl, Or.inl q351, Or.inl rfl⟩
theorem fdX4_31_3 : zFd RX4 31 3 4 .int false := ⟨_, _, _, rfl, rfl, by decide, rfl, rfl, Or.inl q366, Or.inl rfl⟩
theorem fdX4_34_3 : zFd RX4 34 3 5 .int false := ⟨_, _, _, rfl, rfl, by decide, rfl, rfl, Or.inl q367, Or.inl rfl⟩
theorem fdX4_37_3 : zFd RX4 37 3 6 .int false := ⟨_, _, _, rfl, rfl, by decide, rfl, rfl, Or.inl q369, Or.inl rfl⟩
theorem fdX4_40_3 : zFd RX4 40 3 7 .int false := ⟨_, _, _, rfl, rfl, by decide, rfl, rfl, Or.inl q376, Or.inl rfl⟩
theorem fdX4_43_3 : zFd RX4 43 3 8 .int false := ⟨_, _, _, rfl, rfl, by decide, rfl, rfl, Or.inl q382, Or.inl rfl⟩
theorem fdX4_46_3 : zFd RX4 46 3 9 .int false := ⟨_, _, _, rfl, rfl, by decide, rfl, rfl, Or.inl q386, Or.inl rfl⟩
theorem fdX4_49_3 : zFd RX4 49 3 10 .int false := ⟨_, _, _, rfl, rfl, by decide, rfl, rfl, Or.inl q387, Or.inl rfl⟩
noncomputable def fX4_begin_3 (h : zH) (a : Nat) (xx : Nat) (x1 : Nat) (x2 : Int32) (x3 : Nat) : Option (zH) := zlet (zsP h a 2 (some x1)) (fun h_1 => zlet (zsI h_1 a 3 x2) (fun h_2 => zlet (zsP h_2 a 1 (some x3)) (fun h_3 => zlet (zsI h_3 a 4 0) (fun h_4 => zlet (zsI h_4 a 5 0) (fun h_5 => zlet (zsI h_5 a 6 0) (fun h_6 => zlet (zsI h_6 a 7 4) (fun h_7 => zlet (zsI h_7 a 8 0) (fun h_8 => zlet (zsI h_8 a 9 0) (fun h_9 => zlet (zsI h_9 a 10 0) (fun h_10 => some h_10))))))))))
theorem zX4_begin_3 {F : zF} {h : zH} {a : Nat} {xx : Nat} {x1 : Nat} {x2 : Int32} {x3 : Nat} {y : zH} (hD : 1 ≤ F.2.1) (hL : zRd h a xx) (hf : fX4_begin_3 h a xx x1 x2 x3 = some y) (hM : ((.inl none, y) : zX) = zEnd F) : Z F 4 cX4_begin RX4 "begin" none [] h 0 [(0, .ref a), (1, .ref x1), (2, .int x2), (3, .ref x3)] [] := by
  unfold fX4_begin_3 at hf
  refine z_aload_n 0 dX4_begin_0 rfl rfl ?_
  refine z_aload_n 1 dX4_begin_1 rfl rfl ?_
  obtain ⟨h_1, he, hf⟩ := zlet_some hf
  have hfn := zFd_fn fdX4_19_3 ((hL.b 0 rfl).t 0 rfl)
  refine z_putr fdX4_19_3 (Or.inl ⟨_, rfl⟩) ((hL.b 0 rfl).t 0 rfl) ((hL.b 0 rfl).nz 0) he dX4_begin_2 ?_
  have hL := hL.P hfn he
  refine z_aload_n 0 dX4_begin_5 rfl rfl ?_
  refine z_iload_n 2 dX4_begin_6 rfl rfl ?_
  obtain ⟨h_2, he, hf⟩ := zlet_some hf
  refine z_puti fdX4_23_3 ((hL.b 0 rfl).t 0 rfl) ((hL.b 0 rfl).nz 0) he dX4_begin_7 ?_
  have hL := hL.I he
  refine z_aload_n 0 dX4_begin_10 rfl rfl ?_
  refine z_aload_n 3 dX4_begin_11 rfl rfl ?_
  obtain ⟨h_3, he, hf⟩ := zlet_some hf
  have hfn := zFd_fn fdX4_27_3 ((hL.b 0 rfl).t 0 rfl)
  refine z_putr fdX4_27_3 (Or.inl ⟨_, rfl⟩) ((hL.b 0 rfl).t 0 rfl) ((hL.b 0 rfl).nz 0) he dX4_begin_12 ?_
  have hL := hL.P hfn he
  refine z_aload_n 0 dX4_begin_15 rfl rfl ?_
  refine z_iconst 0 dX4_begin_16 rfl ?_
  obtain ⟨h_4, he, hf⟩ := zlet_some hf
  refine z_puti fdX4_31_3 ((hL.b 0 rfl).t 0 rfl) ((hL.b 0 rfl).nz 0) he dX4_begin_17 ?_
  have hL := hL.I he
  refine z_aload_n 0 dX4_begin_20 rfl rfl ?_
  refine z_iconst 0 dX4_begin_21 rfl ?_
  obtain ⟨h_5, he, hf⟩ := zlet_some hf
  refine z_puti fdX4_34_3 ((hL.b 0 rfl).t 0 rfl) ((hL.b 0 rfl).nz 0) he dX4_begin_22 ?_
  have hL := hL.I he
  refine z_aload_n 0 dX4_begin_25 rfl rfl ?_
  refine z_iconst 0 dX4_begin_26 rfl ?_
  obtain ⟨h_6, he, hf⟩ := zlet_some hf
  refine z_puti fdX4_37_3 ((hL.b 0 rfl).t 0 rfl) ((hL.b 0 rfl).nz 0) he dX4_begin_27 ?_
  have hL := hL.I he
  refine z_aload_n 0 dX4_begin_30 rfl rfl ?_
  refine z_iconst 4 dX4_begin_31 rfl ?_
  obtain ⟨h_7, he, hf⟩ := zlet_some hf
  refine z_puti fdX4_40_3 ((hL.b 0 rfl).t 0 rfl) ((hL.b 0 rfl).nz 0) he dX4_begin_32 ?_
  have hL := hL.I he
  refine z_aload_n 0 dX4_begin_35 rfl rfl ?_
  refine z_iconst 0 dX4_begin_36 rfl ?_
  obtain ⟨h_8, he, hf⟩ := zlet_some hf
  refine z_puti fdX4_43_3 ((hL.b 0 rfl).t 0 rfl) ((hL.b 0 rfl).nz 0) he dX4_begin_37 ?_
  have hL := hL.I he
  refine z_aload_n 0 dX4_begin_40 rfl rfl ?_
  refine z_iconst 0 dX4_begin_41 rfl ?_
  obtain ⟨h_9, he, hf⟩ := zlet_some hf
  refine z_puti fdX4_46_3 ((hL.b 0 rfl).t 0 rfl) ((hL.b 0 rfl).nz 0) he dX4_begin_42 ?_
  have hL := hL.I he
  refine z_aload_n 0 dX4_begin_45 rfl rfl ?_
  refine z_iconst 0 dX4_begin_46 rfl ?_
  obtain ⟨h_10, he, hf⟩ := zlet_some hf
  refine z_puti fdX4_49_3 ((hL.b 0 rfl).t 0 rfl) ((hL.b 0 rfl).nz 0) he dX4_begin_47 ?_
  have hL := hL.I he
  cases hf
  exact z_vret dX4_begin_50 rfl hM
theorem ctX4_begin_3 {l : Launch} {h : zH} {a : Nat} {xx : Nat} {x1 : Nat} {x2 : Int32} {x3 : Nat} {h' : zH} (hL : zRd h a xx) (hf : fX4_begin_3 h a xx x1 x2 x3 = some h') : zC l yX4_begin (ws_ yX4_begin cX4_begin 4 none) 1 [.ref a, .ref x1, .int x2, .ref x3] h (.inl none, h') :=
  z_start (by decide) (Nat.le_of_ble_eq_true rfl) (zX4_begin_3 (F := (l, 1, h, (.inl none, h'))) (Nat.le_refl _) hL hf rfl)
noncomputable def fX11_unit (h : zH) (a : Nat) (x1 : Nat) (x2 : Int32) : Option (Int32) := zck (zAr h x1 x2) (zck (zAr h x1 (x2 + 1)) (some (((zI h x1 x2.toNatClampNeg) <<< (8 &&& 31)) ||| (zI h x1 (x2 + 1).toNatClampNeg))))
theorem zX11_unit {F : zF} {h : zH} {a : Nat} {x1 : Nat} {x2 : Int32} {y : Int32} (hD : 1 ≤ F.2.1) (hL : zOb 8 h a) (hf : fX11_unit h a x1 x2 = some y) (hM : ((.inl (some (.int y)), h) : zX) = zEnd F) : Z F 3 cX11_unit RX11 "unit" (some .int) [] h 0 [(0, .ref a), (1, .ref x1), (2, .int x2)] [] := by
  unfold fX11_unit at hf
  refine z_aload_n 1 dX11_unit_0 rfl rfl ?_
  refine z_iload_n 2 dX11_unit_1 rfl rfl ?_
  obtain ⟨hi_1, hf⟩ := zck_some hf
  refine z_iald (zAr_t hi_1) hi_1.2 dX11_unit_2 ?_
  refine z_bipush 8 dX11_unit_3 rfl ?_
  refine z_ishl dX11_unit_5 ?_
  refine z_aload_n 1 dX11_unit_6 rfl rfl ?_
  refine z_iload_n 2 dX11_unit_7 rfl rfl ?_
  refine z_iconst 1 dX11_unit_8 rfl ?_
  refine z_iadd dX11_unit_9 ?_
  obtain ⟨hi_2, hf⟩ := zck_some hf
  refine z_iald (zAr_t hi_2) hi_2.2 dX11_unit_10 ?_
  refine z_ior dX11_unit_11 ?_
  cases hf
  exact z_iret dX11_unit_12 rfl hM
theorem ctX11_unit {l : Launch} {h : zH} {a : Nat} {x1 : Nat} {x2 : Int32} {v : Int32} (hL : zOb 8 h a) (hf : fX11_unit h a x1 x2 = some v) : zC l yX11_unit (ws_ yX11_unit cX11_unit 3 (some .int)) 1 [.ref a, .ref x1, .int x2] h (.inl (some (.int v)), h) :=
  z_start (by decide) (Nat.le_of_ble_eq_true rfl) (zX11_unit (F := (l, 1, h, (.inl (some (.int v)), h))) (Nat.le_refl _) hL hf rfl)
noncomputable def fX0_isHigh (x0 : Int32) : Option (Int32) := zb1 (fX0_in x0 55296 56319) (fun v_2 => zck (zB v_2) (some v_2))
theorem zX0_isHigh {F : zF} {h : zH} {x0 : Int32} {y : Int32} (hD : 2 ≤ F.2.1) (hf : fX0_isHigh x0 = some y) (hM : ((.inl (some (.int y)), h) : zX) = zEnd F) : Z F 1 cX0_isHigh RX0 "isHigh" (some .boolean) [] h 0 [(0, .int x0)] [] := by
  unfold fX0_isHigh at hf
  refine z_iload_n 0 dX0_isHigh_0 rfl rfl ?_
  refine z_ldc q749 dX0_isHigh_1 ?_
  refine z_ldc q1021 dX0_isHigh_3 ?_
  obtain ⟨v_2, hc_1, hf⟩ := zb1_some hf
  refine z_invSi suX0_4_s (ctX0_in hc_1) ⟨Nat.le_trans (by decide) hD, by decide⟩ rfl rfl (Nat.le_of_ble_eq_true rfl) dX0_isHigh_5 ?_
  obtain ⟨hz_4, hf⟩ := zck_some hf
  cases hf
  exact z_zret dX0_isHigh_8 rfl hz_4 hM
theorem ctX0_isHigh {l : Launch} {h : zH} {x0 : Int32} {v : Int32} (hf : fX0_isHigh x0 = some v) : zC l yX0_isHigh (ws_ yX0_isHigh cX0_isHigh 1 (some .boolean)) 2 [.int x0] h (.inl (some (.int v)), h) :=
  z_start (by decide) (Nat.le_of_ble_eq_true rfl) (zX0_isHigh (F := (l, 2, h, (.inl (some (.int v)), h))) (Nat.le_refl _) hf rfl)
noncomputable def fX0_isLow (x0 : Int32) : Option (Int32) := zb1 (fX0_in x0 56320 57343) (fun v_2 => zck (zB v_2) (some v_2))
theorem zX0_isLow {F : zF} {h : zH} {x0 : Int32} {y : Int32} (hD : 2 ≤ F.2.1) (hf : fX0_isLow x0 = some y) (hM : ((.inl (some (.int y)), h) : zX) = zEnd F) : Z F 1 cX0_isLow RX0 "isLow" (some .boolean) [] h 0 [(0, .int x0)] [] := by
  unfold fX0_isLow at hf
  refine z_iload_n 0 dX0_isLow_0 rfl rfl ?_
  refine z_ldc q1025 dX0_isLow_1 ?_
  refine z_ldc q750 dX0_isLow_3 ?_
  obtain ⟨v_2, hc_1, hf⟩ := zb1_some hf
  refine z_invSi suX0_4_s (ctX0_in hc_1) ⟨Nat.le_trans (by decide) hD, by decide⟩ rfl rfl (Nat.le_of_ble_eq_true rfl) dX0_isLow_5 ?_
  obtain ⟨hz_4, hf⟩ := zck_some hf
  cases hf
  exact z_zret dX0_isLow_8 rfl hz_4 hM
theorem ctX0_isLow {l : Launch} {h : zH} {x0 : Int32} {v : Int32} (hf : fX0_isLow x0 = some v) : zC l yX0_isLow (ws_ yX0_isLow cX0_isLow 1 (some .boolean)) 2 [.int x0] h (.inl (some (.int v)), h) :=
  z_start (by decide) (Nat.le_of_ble_eq_true rfl) (zX0_isLow (F := (l, 2, h, (.inl (some (.int v)), h))) (Nat.le_refl _) hf rfl)
noncomputable def fX0_paired (x0 : Int32) (x1 : Int32) : Option (Int32) := some ((((65536 : Int32) + ((x0 - 55296) <<< (10 &&& 31))) + x1) - 56320)
theorem zX0_paired {F : zF} {h : zH} {x0 : Int32} {x1 : Int32} {y : Int32} (hD : 1 ≤ F.2.1) (hf : fX0_paired x0 x1 = some y) (hM : ((.inl (some (.int y)), h) : zX) = zEnd F) : Z F 2 cX0_paired RX0 "paired" (some .int) [] h 0 [(0, .int x0), (1, .int x1)] [] := by
  unfold fX0_paired at hf
  refine z_ldc q1029 dX0_paired_0 ?_
  refine z_iload_n 0 dX0_paired_2 rfl rfl ?_
  refine z_ldc q749 dX0_paired_3 ?_
  refine z_isub dX0_paired_5 ?_
  refine z_bipush 10 dX0_paired_6 rfl ?_
  refine z_ishl dX0_paired_8 ?_
  refine z_iadd dX0_paired_9 ?_
  refine z_iload_n 1 dX0_paired_10 rfl rfl ?_
  refine z_iadd dX0_paired_11 ?_
  refine z_ldc q1025 dX0_paired_12 ?_
  refine z_isub dX0_paired_14 ?_
  cases hf
  exact z_iret dX0_paired_15 rfl hM
theorem ctX0_paired {l : Launch} {h : zH} {x0 : Int32} {x1 : Int32} {v : Int32} (hf : fX0_paired x0 x1 = some v) : zC l yX0_paired (ws_ yX0_paired cX0_paired 2 (some .int)) 1 [.int x0, .int x1] h (.inl (some (.int v)), h) :=
  z_start (by decide) (Nat.le_of_ble_eq_true rfl) (zX0_paired (F := (l, 1, h, (.inl (some (.int v)), h))) (Nat.le_refl _) hf rfl)
theorem suX11_7_8 : zIu RX11 7 ⟨"CodeExchange$Wide", "unit", "([II)I"⟩ "CodeExchange$Wide" yX11_unit (ws_ yX11_unit cX11_unit 3 (some .int)) 3 8 2 := ⟨(zGood_c q1016 q111), ⟨_, _, rfl, rfl, q1011⟩, q1009, q1012, (Or.inl ⟨q1010, _, _, _, q1016⟩), by decide, q1010, by decide +kernel⟩
theorem suX11_19_s : zIs RX11 19 yX0_isHigh (ws_ yX0_isHigh cX0_isHigh 1 (some .boolean)) 1 1 := ⟨(zGood_c q1020 q97), (Or.inr ⟨_, q1018⟩), q1019, ⟨by decide, by decide⟩, by decide +kernel⟩
theorem suX11_22_s : zIs RX11 22 yX0_isLow (ws_ yX0_isLow cX0_isLow 1 (some .boolean)) 1 1 := ⟨(zGood_c q1024 q97), (Or.inr ⟨_, q1022⟩), q1023, ⟨by decide, by decide⟩, by decide +kernel⟩
theorem suX11_25_s : zIs RX11 25 yX0_paired (ws_ yX0_paired cX0_paired 2 (some .int)) 2 2 := ⟨(zGood_c q1028 q97), (Or.inr ⟨_, q1026⟩), q1027, ⟨by decide, by decide⟩, by decide +kernel⟩
theorem suX11_13_s : zIs RX11 13 yX0_isPoint (ws_ yX0_isPoint cX0_isPoint 1 (some .boolean)) 1 1 := ⟨(zGood_c q747 q97), (Or.inr ⟨_, q1017⟩), q746, ⟨by decide, by decide⟩, by decide +kernel⟩
noncomputable def fX11_whole (h : zH) (a : Nat) (x1 : Nat) (x2 : Int32) : Option (Int32) := if (x2 - x2 / 2 * 2) = 1 then (some ((-1))) else (zb1 (fX11_unit h a x1 0) (fun v_2 => if x2 = 2 then (zb1 (fX0_isPoint v_2) (fun v_17 => if v_17 = 0 then (some ((-1))) else (some v_2))) else (zb1 (fX11_unit h a x1 2) (fun v_5 => zb1 (fX0_isHigh v_2) (fun v_8 => if v_8 = 0 then (some ((-1))) else (zb1 (fX0_isLow v_5) (fun v_11 => if v_11 = 0 then (some ((-1))) else (zb1 (fX0_paired v_2 v_5) (fun v_14 => some v_14)))))))))
theorem zX11_whole {F : zF} {h : zH} {a : Nat} {x1 : Nat} {x2 : Int32} {y : Int32} (hD : 3 ≤ F.2.1) (hL : zOb 8 h a) (hf : fX11_whole h a x1 x2 = some y) (hM : ((.inl (some (.int y)), h) : zX) = zEnd F) : Z F 5 cX11_whole RX11 "whole" (some .int) [] h 0 [(0, .ref a), (1, .ref x1), (2, .int x2)] [] := by
  unfold fX11_whole at hf
  refine z_iload_n 2 dX11_whole_0 rfl rfl ?_
  refine z_iconst 2 dX11_whole_1 rfl ?_
  refine z_irem dX11_whole_2 (by decide) ?_
  refine z_iconst 1 dX11_whole_3 rfl ?_
  refine z_icmp_ne 9 dX11_whole_4 rfl hf (fun _ hf => ?_) (fun _ hf => ?_)
  · refine z_aload_n 0 dX11_whole_9 rfl rfl ?_
    refine z_aload_n 1 dX11_whole_10 rfl rfl ?_
    refine z_iconst 0 dX11_whole_11 rfl ?_
    obtain ⟨v_2, hc_1, hf⟩ := zb1_some hf
    refine z_invUi suX11_7_8 (ctX11_unit hL hc_1) ((hL.b 0 rfl).t 0 rfl) ⟨Nat.le_trans (by decide) hD, by decide⟩ rfl rfl (Nat.le_of_ble_eq_true rfl) dX11_whole_12 ?_
    refine z_istore_n dX11_whole_15 rfl (by decide) (lc' := [(0, .ref a), (1, .ref x1), (2, .int x2), (3, .int v_2)]) rfl ?_
    refine z_iload_n 2 dX11_whole_16 rfl rfl ?_
    refine z_iconst 2 dX11_whole_17 rfl ?_
    refine z_icmp_ne 34 dX11_whole_18 rfl hf (fun _ hf => ?_) (fun _ hf => ?_)
    · refine z_aload_n 0 dX11_whole_34 rfl rfl ?_
      refine z_aload_n 1 dX11_whole_35 rfl rfl ?_
      refine z_iconst 2 dX11_whole_36 rfl ?_
      obtain ⟨v_5, hc_4, hf⟩ := zb1_some hf
      refine z_invUi suX11_7_8 (ctX11_unit hL hc_4) ((hL.b 0 rfl).t 0 rfl) ⟨Nat.le_trans (by decide) hD, by decide⟩ rfl rfl (Nat.le_of_ble_eq_true rfl) dX11_whole_37 ?_
      refine z_istore dX11_whole_40 (by decide) (lc' := [(0, .ref a), (1, .ref x1), (2, .int x2), (3, .int v_2), (4, .int v_5)]) rfl ?_
      refine z_iload_n 3 dX11_whole_42 rfl rfl ?_
      obtain ⟨v_8, hc_7, hf⟩ := zb1_some hf
      refine z_invSi suX11_19_s (ctX0_isHigh hc_7) ⟨Nat.le_trans (by decide) hD, by decide⟩ rfl rfl (Nat.le_of_ble_eq_true rfl) dX11_whole_43 ?_
      refine z_if_eq 66 dX11_whole_46 rfl hf (fun _ hf => ?_) (fun _ hf => ?_)
      · refine z_iconst (-1) dX11_whole_66 rfl ?_
        cases hf
        exact z_iret dX11_whole_67 rfl hM
      · refine z_iload 4 dX11_whole_49 rfl ?_
        obtain ⟨v_11, hc_10, hf⟩ := zb1_some hf
        refine z_invSi suX11_22_s (ctX0_isLow hc_10) ⟨Nat.le_trans (by decide) hD, by decide⟩ rfl rfl (Nat.le_of_ble_eq_true rfl) dX11_whole_51 ?_
        refine z_if_eq 66 dX11_whole_54 rfl hf (fun _ hf => ?_) (fun _ hf => ?_)
        · refine z_iconst (-1) dX11_whole_66 rfl ?_
          cases hf
          exact z_iret dX11_whole_67 rfl hM
        · refine z_iload_n 3 dX11_whole_57 rfl rfl ?_
          refine z_iload 4 dX11_whole_58 rfl ?_
          obtain ⟨v_14, hc_13, hf⟩ := zb1_some hf
          refine z_invSi suX11_25_s (ctX0_paired hc_13) ⟨Nat.le_trans (by decide) hD, by decide⟩ rfl rfl (Nat.le_of_ble_eq_true rfl) dX11_whole_60 ?_
          refine z_goto 67 dX11_whole_63 rfl ?_
          cases hf
          exact z_iret dX11_whole_67 rfl hM
    · refine z_iload_n 3 dX11_whole_21 rfl rfl ?_
      obtain ⟨v_17, hc_16, hf⟩ := zb1_some hf
      refine z_invSi suX11_13_s (ctX0_isPoint hc_16) ⟨Nat.le_trans (by decide) hD, by decide⟩ rfl rfl (Nat.le_of_ble_eq_true rfl) dX11_whole_22 ?_
      refine z_if_eq 32 dX11_whole_25 rfl hf (fun _ hf => ?_) (fun _ hf => ?_)
      · refine z_iconst (-1) dX11_whole_32 rfl ?_
        cases hf
        exact z_iret dX11_whole_33 rfl hM
      · refine z_iload_n 3 dX11_whole_28 rfl rfl ?_
        refine z_goto 33 dX11_whole_29 rfl ?_
        cases hf
        exact z_iret dX11_whole_33 rfl hM
  · refine z_iconst (-1) dX11_whole_7 rfl ?_
    cases hf
    exact z_iret dX11_whole_8 rfl hM
theorem ctX11_whole {l : Launch} {h : zH} {a : Nat} {x1 : Nat} {x2 : Int32} {v : Int32} (hL : zOb 8 h a) (hf : fX11_whole h a x1 x2 = some v) : zC l yX11_whole (ws_ yX11_whole cX11_whole 5 (some .int)) 3 [.ref a, .ref x1, .int x2] h (.inl (some (.int v)), h) :=
  z_start (by decide) (Nat.le_of_ble_eq_true rfl) (zX11_whole (F := (l, 3, h, (.inl (some (.int v)), h))) (Nat.le_refl _) hL hf rfl)
theorem suX11_29_s : zIs RX11 29 yX0_in (ws_ yX0_in cX0_in 3 (some .boolean)) 3 3 := ⟨(zGood_c q592 q97), (Or.inr ⟨_, q1045⟩), q591, ⟨by decide, by decide⟩, by decide +kernel⟩
noncomputable def fX11_begins (h : zH) (a : Nat) (x1 : Nat) (x2 : Int32) : Option (Int32) := if x2 = 1 then (zck (zAr h x1 0) (zb1 (fX0_in (zI h x1 (0 : Int32).toNatClampNeg) 220 223) (fun v_13 => if v_13 = 0 then (some 1) else (some 0)))) else (zb1 (fX11_unit h a x1 0) (fun v_2 => zb1 (fX0_isHigh v_2) (fun v_5 => if v_5 = 0 then (some 0) else (if x2 = 2 then (some 1) else (zck (zAr h x1 2) (zb1 (fX0_in (zI h x1 (2 : Int32).toNatClampNeg) 220 223) (fun v_9 => if v_9 = 0 then (some 0) else (some 1))))))))
theorem zX11_begins {F : zF} {h : zH} {a : Nat} {x1 : Nat} {x2 : Int32} {y : Int32} (hD : 3 ≤ F.2.1) (hL : zOb 8 h a) (hf : fX11_begins h a x1 x2 = some y) (hM : ((.inl (some (.int y)), h) : zX) = zEnd F) : Z F 3 cX11_begins RX11 "begins" (some .boolean) [] h 0 [(0, .ref a), (1, .ref x1), (2, .int x2)] [] := by
  unfold fX11_begins at hf
  refine z_iload_n 2 dX11_begins_0 rfl rfl ?_
  refine z_iconst 1 dX11_begins_1 rfl ?_
  refine z_icmp_ne 26 dX11_begins_2 rfl hf (fun _ hf => ?_) (fun _ hf => ?_)
  · refine z_aload_n 0 dX11_begins_26 rfl rfl ?_
    refine z_aload_n 1 dX11_begins_27 rfl rfl ?_
    refine z_iconst 0 dX11_begins_28 rfl ?_
    obtain ⟨v_2, hc_1, hf⟩ := zb1_some hf
    refine z_invUi suX11_7_8 (ctX11_unit hL hc_1) ((hL.b 0 rfl).t 0 rfl) ⟨Nat.le_trans (by decide) hD, by decide⟩ rfl rfl (Nat.le_of_ble_eq_true rfl) dX11_begins_29 ?_
    obtain ⟨v_5, hc_4, hf⟩ := zb1_some hf
    refine z_invSi suX11_19_s (ctX0_isHigh hc_4) ⟨Nat.le_trans (by decide) hD, by decide⟩ rfl rfl (Nat.le_of_ble_eq_true rfl) dX11_begins_32 ?_
    refine z_if_eq 62 dX11_begins_35 rfl hf (fun _ hf => ?_) (fun _ hf => ?_)
    · refine z_iconst 0 dX11_begins_62 rfl ?_
      cases hf
      exact z_zret dX11_begins_63 rfl (Or.inl rfl) hM
    · refine z_iload_n 2 dX11_begins_38 rfl rfl ?_
      refine z_iconst 2 dX11_begins_39 rfl ?_
      refine z_icmp_eq 58 dX11_begins_40 rfl hf (fun _ hf => ?_) (fun _ hf => ?_)
      · refine z_iconst 1 dX11_begins_58 rfl ?_
        refine z_goto 63 dX11_begins_59 rfl ?_
        cases hf
        exact z_zret dX11_begins_63 rfl (Or.inr rfl) hM
      · refine z_aload_n 1 dX11_begins_43 rfl rfl ?_
        refine z_iconst 2 dX11_begins_44 rfl ?_
        obtain ⟨hi_7, hf⟩ := zck_some hf
        refine z_iald (zAr_t hi_7) hi_7.2 dX11_begins_45 ?_
        refine z_sipush 220 dX11_begins_46 rfl ?_
        refine z_sipush 223 dX11_begins_49 rfl ?_
        obtain ⟨v_9, hc_8, hf⟩ := zb1_some hf
        refine z_invSi suX11_29_s (ctX0_in hc_8) ⟨Nat.le_trans (by decide) hD, by decide⟩ rfl rfl (Nat.le_of_ble_eq_true rfl) dX11_begins_52 ?_
        refine z_if_eq 62 dX11_begins_55 rfl hf (fun _ hf => ?_) (fun _ hf => ?_)
        · refine z_iconst 0 dX11_begins_62 rfl ?_
          cases hf
          exact z_zret dX11_begins_63 rfl (Or.inl rfl) hM
        · refine z_iconst 1 dX11_begins_58 rfl ?_
          refine z_goto 63 dX11_begins_59 rfl ?_
          cases hf
          exact z_zret dX11_begins_63 rfl (Or.inr rfl) hM
  · refine z_aload_n 1 dX11_begins_5 rfl rfl ?_
    refine z_iconst 0 dX11_begins_6 rfl ?_
    obtain ⟨hi_11, hf⟩ := zck_some hf
    refine z_iald (zAr_t hi_11) hi_11.2 dX11_begins_7 ?_
    refine z_sipush 220 dX11_begins_8 rfl ?_
    refine z_sipush 223 dX11_begins_11 rfl ?_
    obtain ⟨v_13, hc_12, hf⟩ := zb1_some hf
    refine z_invSi suX11_29_s (ctX0_in hc_12) ⟨Nat.le_trans (by decide) hD, by decide⟩ rfl rfl (Nat.le_of_ble_eq_true rfl) dX11_begins_14 ?_
    refine z_if_ne 24 dX11_begins_17 rfl hf (fun _ hf => ?_) (fun _ hf => ?_)
    · refine z_iconst 0 dX11_begins_24 rfl ?_
      cases hf
      exact z_zret dX11_begins_25 rfl (Or.inl rfl) hM
    · refine z_iconst 1 dX11_begins_20 rfl ?_
      refine z_goto 25 dX11_begins_21 rfl ?_
      cases hf
      exact z_zret dX11_begins_25 rfl (Or.inr rfl) hM
theorem ctX11_begins {l : Launch} {h : zH} {a : Nat} {x1 : Nat} {x2 : Int32} {v : Int32} (hL : zOb 8 h a) (hf : fX11_begins h a x1 x2 = some v) : zC l yX11_begins (ws_ yX11_begins cX11_begins 3 (some .boolean)) 3 [.ref a, .ref x1, .int x2] h (.inl (some (.int v)), h) :=
  z_start (by decide) (Nat.le_of_ble_eq_true rfl) (zX11_begins (F := (l, 3, h, (.inl (some (.int v)), h))) (Nat.le_refl _) hL hf rfl)
theorem suX10_7_8 : zIu RX10 7 ⟨"CodeExchange$Form", "whole", "([II)I"⟩ "CodeExchange$Form" yX11_whole (ws_ yX11_whole cX11_whole 5 (some .int)) 5 8 2 := ⟨(zGood_c q1008 q111), ⟨_, _, rfl, rfl, q1030⟩, q990, q992, (Or.inr q991), by decide, q1007, by decide +kernel⟩
theorem fdX10_13_8 : zFd RX10 13 8 0 .int false := ⟨_, _, _, rfl, rfl, by decide, rfl, rfl, Or.inl q264, Or.inr q265⟩
noncomputable def fX10_match_8_L3 (h : zH) (a : Nat) (x3 : Nat) (x4 : Int32) (x5 : Int32) : Option ((zH × Int32) ⊕ ((zH) ⊕ (Int32 × zH))) := if x4 < x5 then (some (.inr (.inl h))) else (if 4 < x5 then (some (.inr (.inl h))) else (zb1 (fX11_whole h a x3 x5) (fun v_2 => zlet (zsI h a 0 v_2) (fun h_4 => if (zI h_4 a 0) < 0 then (some (.inl ((h_4, x5 + 1)))) else (some (.inr (.inr ((x5, h_4)))))))))
theorem zX10_match_8_L3 {F : zF} {h : zH} {a : Nat} {x3 : Nat} {x4 : Int32} {x5 : Int32} {y : (zH × Int32) ⊕ ((zH) ⊕ (Int32 × zH))} (hD : 4 ≤ F.2.1) (hL : zOb 8 h a) (hf : fX10_match_8_L3 h a x3 x4 x5 = some y) (hM : ((∀ s' : zH × Int32, y = .inl s' → (zOb 8 s'.1 a → Z F 6 cX10_match RX10 "match" (some .int) [] s'.1 3 [(0, .ref a), (3, .ref x3), (4, .int x4), (5, .int s'.2)] [])) ∧ ∀ r : (zH) ⊕ (Int32 × zH), y = .inr r → (match r with | .inl t => (zOb 8 t a → Z F 6 cX10_match RX10 "match" (some .int) [] t 43 [(0, .ref a), (3, .ref x3), (4, .int x4)] []) | .inr z => ((.inl (some (.int z.1)), z.2) : zX) = zEnd F))) : Z F 6 cX10_match RX10 "match" (some .int) [] h 3 [(0, .ref a), (3, .ref x3), (4, .int x4), (5, .int x5)] [] := by
  unfold fX10_match_8_L3 at hf
  refine z_iload 3 dX10_match_3 rfl ?_
  refine z_iload 2 dX10_match_5 rfl ?_
  refine z_icmp_gt 43 dX10_match_7 rfl hf (fun _ hf => ?_) (fun _ hf => ?_)
  · cases hf
    refine z_sub [0, 1, 2] rfl ?_
    exact (hM.2 _ rfl) hL
  · refine z_iload 3 dX10_match_10 rfl ?_
    refine z_iconst 4 dX10_match_12 rfl ?_
    refine z_icmp_gt 43 dX10_match_13 rfl hf (fun _ hf => ?_) (fun _ hf => ?_)
    · cases hf
      refine z_sub [0, 1, 2] rfl ?_
      exact (hM.2 _ rfl) hL
    · refine z_aload_n 0 dX10_match_16 rfl rfl ?_
      refine z_aload_n 0 dX10_match_17 rfl rfl ?_
      refine z_aload_n 1 dX10_match_18 rfl rfl ?_
      refine z_iload 3 dX10_match_19 rfl ?_
      obtain ⟨v_2, hc_1, hf⟩ := zb1_some hf
      refine z_invUi suX10_7_8 (ctX11_whole hL hc_1) ((hL.b 0 rfl).t 0 rfl) ⟨Nat.le_trans (by decide) hD, by decide⟩ rfl rfl (Nat.le_of_ble_eq_true rfl) dX10_match_21 ?_
      obtain ⟨h_4, he, hf⟩ := zlet_some hf
      refine z_puti fdX10_13_8 ((hL.b 0 rfl).t 0 rfl) ((hL.b 0 rfl).nz 0) he dX10_match_24 ?_
      have hL := hL.I he
      refine z_aload_n 0 dX10_match_27 rfl rfl ?_
      refine z_geti fdX10_13_8 ((hL.b 0 rfl).t 0 rfl) dX10_match_28 ?_
      refine z_if_lt 37 dX10_match_31 rfl hf (fun _ hf => ?_) (fun _ hf => ?_)
      · refine z_iinc 3 (x5 + 1) dX10_match_37 rfl rfl (by decide) (lc' := [(0, .ref a), (3, .ref x3), (4, .int x4), (5, .int (x5 + 1))]) rfl ?_
        refine z_goto 3 dX10_match_40 rfl ?_
        cases hf
        exact (hM.1 _ rfl) hL
      · refine z_iload 3 dX10_match_34 rfl ?_
        cases hf
        exact z_iret dX10_match_36 rfl (hM.2 _ rfl)
theorem suX10_17_8 : zIu RX10 17 ⟨"CodeExchange$Form", "begins", "([II)Z"⟩ "CodeExchange$Form" yX11_begins (ws_ yX11_begins cX11_begins 3 (some .boolean)) 3 8 2 := ⟨(zGood_c q1044 q111), ⟨_, _, rfl, rfl, q1042⟩, q1031, q1033, (Or.inr q1032), by decide, q1043, by decide +kernel⟩
noncomputable def fX10_match_8_J43 (h : zH) (a : Nat) (x3 : Nat) (x4 : Int32) : Option (Int32 × zH) := if 4 ≤ x4 then (some ((0, h))) else (zb1 (fX11_begins h a x3 x4) (fun v_7 => if v_7 = 0 then (some ((0, h))) else (some (((-1), h)))))
theorem zX10_match_8_J43 {F : zF} {h : zH} {a : Nat} {x3 : Nat} {x4 : Int32} {y : Int32 × zH} (hD : 4 ≤ F.2.1) (hL : zOb 8 h a) (hf : fX10_match_8_J43 h a x3 x4 = some y) (hM : ((.inl (some (.int y.1)), y.2) : zX) = zEnd F) : Z F 6 cX10_match RX10 "match" (some .int) [] h 43 [(0, .ref a), (3, .ref x3), (4, .int x4)] [] := by
  unfold fX10_match_8_J43 at hf
  refine z_iload 2 dX10_match_43 rfl ?_
  refine z_iconst 4 dX10_match_45 rfl ?_
  refine z_icmp_ge 63 dX10_match_46 rfl hf (fun _ hf => ?_) (fun _ hf => ?_)
  · refine z_iconst 0 dX10_match_63 rfl ?_
    cases hf
    exact z_iret dX10_match_64 rfl hM
  · refine z_aload_n 0 dX10_match_49 rfl rfl ?_
    refine z_aload_n 1 dX10_match_50 rfl rfl ?_
    refine z_iload 2 dX10_match_51 rfl ?_
    obtain ⟨v_7, hc_6, hf⟩ := zb1_some hf
    refine z_invUi suX10_17_8 (ctX11_begins hL hc_6) ((hL.b 0 rfl).t 0 rfl) ⟨Nat.le_trans (by decide) hD, by decide⟩ rfl rfl (Nat.le_of_ble_eq_true rfl) dX10_match_53 ?_
    refine z_if_eq 63 dX10_match_56 rfl hf (fun _ hf => ?_) (fun _ hf => ?_)
    · refine z_iconst 0 dX10_match_63 rfl ?_
      cases hf
      exact z_iret dX10_match_64 rfl hM
    · refine z_iconst (-1) dX10_match_59 rfl ?_
      refine z_goto 64 dX10_match_60 rfl ?_
      cases hf
      exact z_iret dX10_match_64 rfl hM
noncomputable def fX10_match_8 (h : zH) (a : Nat) (x1 : Int32) (x2 : Int32) (x3 : Nat) (x4 : Int32) : Option (Int32 × zH) := zlx (zlp (fun s => fX10_match_8_L3 s.1 a x3 x4 s.2) (h, 1)) (fun t_5 => fX10_match_8_J43 t_5 a x3 x4)
theorem zX10_match_8 {F : zF} {h : zH} {a : Nat} {x1 : Int32} {x2 : Int32} {x3 : Nat} {x4 : Int32} {y : Int32 × zH} (hD : 4 ≤ F.2.1) (hL : zOb 8 h a) (hf : fX10_match_8 h a x1 x2 x3 x4 = some y) (hM : ((.inl (some (.int y.1)), y.2) : zX) = zEnd F) : Z F 6 cX10_match RX10 "match" (some .int) [] h 0 [(0, .ref a), (1, .int x1), (2, .int x2), (3, .ref x3), (4, .int x4)] [] := by
  unfold fX10_match_8 at hf
  refine z_iconst 1 dX10_match_0 rfl ?_
  refine z_istore dX10_match_1 (by decide) (lc' := [(0, .ref a), (1, .int x1), (2, .int x2), (3, .ref x3), (4, .int x4), (5, .int 1)]) rfl ?_
  refine z_sub [0, 3, 4, 5] rfl ?_
  obtain ⟨rr, hl, hf⟩ := zlx_some hf
  refine z_loop (fun (s : zH × Int32) => (zOb 8 s.1 a → Z F 6 cX10_match RX10 "match" (some .int) [] s.1 3 [(0, .ref a), (3, .ref x3), (4, .int x4), (5, .int s.2)] [])) (fun (r : (zH) ⊕ (Int32 × zH)) => (match r with | .inl t => (zOb 8 t a → Z F 6 cX10_match RX10 "match" (some .int) [] t 43 [(0, .ref a), (3, .ref x3), (4, .int x4)] []) | .inr z => ((.inl (some (.int z.1)), z.2) : zX) = zEnd F)) (fun s y hb hs hr hL => zX10_match_8_L3 hD hL hb ⟨hs, hr⟩) hl ?_ hL
  rcases hf with ⟨t_5, rfl, hf⟩ | rfl
  · intro hL
    show Z F 6 cX10_match RX10 "match" (some .int) [] t_5 43 [(0, .ref a), (3, .ref x3), (4, .int x4)] []
    exact zX10_match_8_J43 hD hL hf hM
  · exact hM
theorem ctX10_match_8 {l : Launch} {h : zH} {a : Nat} {x1 : Int32} {x2 : Int32} {x3 : Nat} {x4 : Int32} {v : Int32} {h' : zH} (hL : zOb 8 h a) (hf : fX10_match_8 h a x1 x2 x3 x4 = some (v, h')) : zC l yX10_match (ws_ yX10_match cX10_match 6 (some .int)) 4 [.ref a, .int x1, .int x2, .ref x3, .int x4] h (.inl (some (.int v)), h') :=
  z_start (by decide) (Nat.le_of_ble_eq_true rfl) (zX10_match_8 (F := (l, 4, h, (.inl (some (.int v)), h'))) (Nat.le_refl _) hL hf rfl)
noncomputable def fX12_unit (h : zH) (a : Nat) (x1 : Nat) (x2 : Int32) : Option (Int32) := zck (zAr h x1 (x2 + 1)) (zck (zAr h x1 x2) (some (((zI h x1 (x2 + 1).toNatClampNeg) <<< (8 &&& 31)) ||| (zI h x1 x2.toNatClampNeg))))
theorem zX12_unit {F : zF} {h : zH} {a : Nat} {x1 : Nat} {x2 : Int32} {y : Int32} (hD : 1 ≤ F.2.1) (hL : zOb 9 h a) (hf : fX12_unit h a x1 x2 = some y) (hM : ((.inl (some (.int y)), h) : zX) = zEnd F) : Z F 3 cX12_unit RX12 "unit" (some .int) [] h 0 [(0, .ref a), (1, .ref x1), (2, .int x2)] [] := by
  unfold fX12_unit at hf
  refine z_aload_n 1 dX12_unit_0 rfl rfl ?_
  refine z_iload_n 2 dX12_unit_1 rfl rfl ?_
  refine z_iconst 1 dX12_unit_2 rfl ?_
  refine z_iadd dX12_unit_3 ?_
  obtain ⟨hi_1, hf⟩ := zck_some hf
  refine z_iald (zAr_t hi_1) hi_1.2 dX12_unit_4 ?_
  refine z_bipush 8 dX12_unit_5 rfl ?_
  refine z_ishl dX12_unit_7 ?_
  refine z_aload_n 1 dX12_unit_8 rfl rfl ?_
  refine z_iload_n 2 dX12_unit_9 rfl rfl ?_
  obtain ⟨hi_2, hf⟩ := zck_some hf
  refine z_iald (zAr_t hi_2) hi_2.2 dX12_unit_10 ?_
  refine z_ior dX12_unit_11 ?_
  cases hf
  exact z_iret dX12_unit_12 rfl hM
theorem ctX12_unit {l : Launch} {h : zH} {a : Nat} {x1 : Nat} {x2 : Int32} {v : Int32} (hL : zOb 9 h a) (hf : fX12_unit h a x1 x2 = some v) : zC l yX12_unit (ws_ yX12_unit cX12_unit 3 (some .int)) 1 [.ref a, .ref x1, .int x2] h (.inl (some (.int v)), h) :=
  z_start (by decide) (Nat.le_of_ble_eq_true rfl) (zX12_unit (F := (l, 1, h, (.inl (some (.int v)), h))) (Nat.le_refl _) hL hf rfl)
theorem suX11_7_9 : zIu RX11 7 ⟨"CodeExchange$Wide", "unit", "([II)I"⟩ "CodeExchange$Wide" yX12_unit (ws_ yX12_unit cX12_unit 3 (some .int)) 3 9 2 := ⟨(zGood_c q1015 q112), ⟨_, _, rfl, rfl, q1013⟩, q1009, q1012, (Or.inl ⟨q1010, _, _, _, q1016⟩), by decide, q1014, by decide +kernel⟩
noncomputable def fX11_whole_9 (h : zH) (a : Nat) (x1 : Nat) (x2 : Int32) : Option (Int32) := if (x2 - x2 / 2 * 2) = 1 then (some ((-1))) else (zb1 (fX12_unit h a x1 0) (fun v_2 => if x2 = 2 then (zb1 (fX0_isPoint v_2) (fun v_17 => if v_17 = 0 then (some ((-1))) else (some v_2))) else (zb1 (fX12_unit h a x1 2) (fun v_5 => zb1 (fX0_isHigh v_2) (fun v_8 => if v_8 = 0 then (some ((-1))) else (zb1 (fX0_isLow v_5) (fun v_11 => if v_11 = 0 then (some ((-1))) else (zb1 (fX0_paired v_2 v_5) (fun v_14 => some v_14)))))))))
theorem zX11_whole_9 {F : zF} {h : zH} {a : Nat} {x1 : Nat} {x2 : Int32} {y : Int32} (hD : 3 ≤ F.2.1) (hL : zOb 9 h a) (hf : fX11_whole_9 h a x1 x2 = some y) (hM : ((.inl (some (.int y)), h) : zX) = zEnd F) : Z F 5 cX11_whole RX11 "whole" (some .int) [] h 0 [(0, .ref a), (1, .ref x1), (2, .int x2)] [] := by
  unfold fX11_whole_9 at hf
  refine z_iload_n 2 dX11_whole_0 rfl rfl ?_
  refine z_iconst 2 dX11_whole_1 rfl ?_
  refine z_irem dX11_whole_2 (by decide) ?_
  refine z_iconst 1 dX11_whole_3 rfl ?_
  refine z_icmp_ne 9 dX11_whole_4 rfl hf (fun _ hf => ?_) (fun _ hf => ?_)
  · refine z_aload_n 0 dX11_whole_9 rfl rfl ?_
    refine z_aload_n 1 dX11_whole_10 rfl rfl ?_
    refine z_iconst 0 dX11_whole_11 rfl ?_
    obtain ⟨v_2, hc_1, hf⟩ := zb1_some hf
    refine z_invUi suX11_7_9 (ctX12_unit hL hc_1) ((hL.b 0 rfl).t 0 rfl) ⟨Nat.le_trans (by decide) hD, by decide⟩ rfl rfl (Nat.le_of_ble_eq_true rfl) dX11_whole_12 ?_
    refine z_istore_n dX11_whole_15 rfl (by decide) (lc' := [(0, .ref a), (1, .ref x1), (2, .int x2), (3, .int v_2)]) rfl ?_
    refine z_iload_n 2 dX11_whole_16 rfl rfl ?_
    refine z_iconst 2 dX11_whole_17 rfl ?_
    refine z_icmp_ne 34 dX11_whole_18 rfl hf (fun _ hf => ?_) (fun _ hf => ?_)
    · refine z_aload_n 0 dX11_whole_34 rfl rfl ?_
      refine z_aload_n 1 dX11_whole_35 rfl rfl ?_
      refine z_iconst 2 dX11_whole_36 rfl ?_
      obtain ⟨v_5, hc_4, hf⟩ := zb1_some hf
      refine z_invUi suX11_7_9 (ctX12_unit hL hc_4) ((hL.b 0 rfl).t 0 rfl) ⟨Nat.le_trans (by decide) hD, by decide⟩ rfl rfl (Nat.le_of_ble_eq_true rfl) dX11_whole_37 ?_
      refine z_istore dX11_whole_40 (by decide) (lc' := [(0, .ref a), (1, .ref x1), (2, .int x2), (3, .int v_2), (4, .int v_5)]) rfl ?_
      refine z_iload_n 3 dX11_whole_42 rfl rfl ?_
      obtain ⟨v_8, hc_7, hf⟩ := zb1_some hf
      refine z_invSi suX11_19_s (ctX0_isHigh hc_7) ⟨Nat.le_trans (by decide) hD, by decide⟩ rfl rfl (Nat.le_of_ble_eq_true rfl) dX11_whole_43 ?_
      refine z_if_eq 66 dX11_whole_46 rfl hf (fun _ hf => ?_) (fun _ hf => ?_)
      · refine z_iconst (-1) dX11_whole_66 rfl ?_
        cases hf
        exact z_iret dX11_whole_67 rfl hM
      · refine z_iload 4 dX11_whole_49 rfl ?_
        obtain ⟨v_11, hc_10, hf⟩ := zb1_some hf
        refine z_invSi suX11_22_s (ctX0_isLow hc_10) ⟨Nat.le_trans (by decide) hD, by decide⟩ rfl rfl (Nat.le_of_ble_eq_true rfl) dX11_whole_51 ?_
        refine z_if_eq 66 dX11_whole_54 rfl hf (fun _ hf => ?_) (fun _ hf => ?_)
        · refine z_iconst (-1) dX11_whole_66 rfl ?_
          cases hf
          exact z_iret dX11_whole_67 rfl hM
        · refine z_iload_n 3 dX11_whole_57 rfl rfl ?_
          refine z_iload 4 dX11_whole_58 rfl ?_
          obtain ⟨v_14, hc_13, hf⟩ := zb1_some hf
          refine z_invSi suX11_25_s (ctX0_paired hc_13) ⟨Nat.le_trans (by decide) hD, by decide⟩ rfl rfl (Nat.le_of_ble_eq_true rfl) dX11_whole_60 ?_
          refine z_goto 67 dX11_whole_63 rfl ?_
          cases hf
          exact z_iret dX11_whole_67 rfl hM
    · refine z_iload_n 3 dX11_whole_21 rfl rfl ?_
      obtain ⟨v_17, hc_16, hf⟩ := zb1_some hf
      refine z_invSi suX11_13_s (ctX0_isPoint hc_16) ⟨Nat.le_trans (by decide) hD, by decide⟩ rfl rfl (Nat.le_of_ble_eq_true rfl) dX11_whole_22 ?_
      refine z_if_eq 32 dX11_whole_25 rfl hf (fun _ hf => ?_) (fun _ hf => ?_)
      · refine z_iconst (-1) dX11_whole_32 rfl ?_
        cases hf
        exact z_iret dX11_whole_33 rfl hM
      · refine z_iload_n 3 dX11_whole_28 rfl rfl ?_
        refine z_goto 33 dX11_whole_29 rfl ?_
        cases hf
        exact z_iret dX11_whole_33 rfl hM
  · refine z_iconst (-1) dX11_whole_7 rfl ?_
    cases hf
    exact z_iret dX11_whole_8 rfl hM
theorem ctX11_whole_9 {l : Launch} {h : zH} {a : Nat} {x1 : Nat} {x2 : Int32} {v : Int32} (hL : zOb 9 h a) (hf : fX11_whole_9 h a x1 x2 = some v) : zC l yX11_whole (ws_ yX11_whole cX11_whole 5 (some .int)) 3 [.ref a, .ref x1, .int x2] h (.inl (some (.int v)), h) :=
  z_start (by decide) (Nat.le_of_ble_eq_true rfl) (zX11_whole_9 (F := (l, 3, h, (.inl (some (.int v)), h))) (Nat.le_refl _) hL hf rfl)
theorem suX12_7_9 : zIv RX12 7 yX12_unit (ws_ yX12_unit cX12_unit 3 (some .int)) 3 9 2 := ⟨(zGood_c q1015 q112), ⟨_, _, rfl, rfl, q1963⟩, (Or.inl q1040), q1014, ⟨by decide, by decide⟩, by decide +kernel⟩
theorem suX12_13_s : zIs RX12 13 yX0_isHigh (ws_ yX0_isHigh cX0_isHigh 1 (some .boolean)) 1 1 := ⟨(zGood_c q1020 q97), (Or.inr ⟨_, q1041⟩), q1019, ⟨by decide, by decide⟩, by decide +kernel⟩
noncomputable def fX12_begins (h : zH) (a : Nat) (x1 : Nat) (x2 : Int32) : Option (Int32) := if x2 = 1 then (some 1) else (zb1 (fX12_unit h a x1 0) (fun v_2 => zb1 (fX0_isHigh v_2) (fun v_5 => if v_5 = 0 then (some 0) else (some 1))))
theorem zX12_begins {F : zF} {h : zH} {a : Nat} {x1 : Nat} {x2 : Int32} {y : Int32} (hD : 3 ≤ F.2.1) (hL : zOb 9 h a) (hf : fX12_begins h a x1 x2 = some y) (hM : ((.inl (some (.int y)), h) : zX) = zEnd F) : Z F 3 cX12_begins RX12 "begins" (some .boolean) [] h 0 [(0, .ref a), (1, .ref x1), (2, .int x2)] [] := by
  unfold fX12_begins at hf
  refine z_iload_n 2 dX12_begins_0 rfl rfl ?_
  refine z_iconst 1 dX12_begins_1 rfl ?_
  refine z_icmp_eq 17 dX12_begins_2 rfl hf (fun _ hf => ?_) (fun _ hf => ?_)
  · refine z_iconst 1 dX12_begins_17 rfl ?_
    refine z_goto 22 dX12_begins_18 rfl ?_
    cases hf
    exact z_zret dX12_begins_22 rfl (Or.inr rfl) hM
  · refine z_aload_n 0 dX12_begins_5 rfl rfl ?_
    refine z_aload_n 1 dX12_begins_6 rfl rfl ?_
    refine z_iconst 0 dX12_begins_7 rfl ?_
    obtain ⟨v_2, hc_1, hf⟩ := zb1_some hf
    refine z_invVi suX12_7_9 (ctX12_unit hL hc_1) ((hL.b 0 rfl).t 0 rfl) ⟨Nat.le_trans (by decide) hD, by decide⟩ rfl rfl (Nat.le_of_ble_eq_true rfl) dX12_begins_8 ?_
    obtain ⟨v_5, hc_4, hf⟩ := zb1_some hf
    refine z_invSi suX12_13_s (ctX0_isHigh hc_4) ⟨Nat.le_trans (by decide) hD, by decide⟩ rfl rfl (Nat.le_of_ble_eq_true rfl) dX12_begins_11 ?_
    refine z_if_eq 21 dX12_begins_14 rfl hf (fun _ hf => ?_) (fun _ hf => ?_)
    · refine z_iconst 0 dX12_begins_21 rfl ?_
      cases hf
      exact z_zret dX12_begins_22 rfl (Or.inl rfl) hM
    · refine z_iconst 1 dX12_begins_17 rfl ?_
      refine z_goto 22 dX12_begins_18 rfl ?_
      cases hf
      exact z_zret dX12_begins_22 rfl (Or.inr rfl) hM
theorem ctX12_begins {l : Launch} {h : zH} {a : Nat} {x1 : Nat} {x2 : Int32} {v : Int32} (hL : zOb 9 h a) (hf : fX12_begins h a x1 x2 = some v) : zC l yX12_begins (ws_ yX12_begins cX12_begins 3 (some .boolean)) 3 [.ref a, .ref x1, .int x2] h (.inl (some (.int v)), h) :=
  z_start (by decide) (Nat.le_of_ble_eq_true rfl) (zX12_begins (F := (l, 3, h, (.inl (some (.int v)), h))) (Nat.le_refl _) hL hf rfl)
theorem suX10_7_9 : zIu RX10 7 ⟨"CodeExchange$Form", "whole", "([II)I"⟩ "CodeExchange$Form" yX11_whole (ws_ yX11_whole cX11_whole 5 (some .int)) 5 9 2 := ⟨(zGood_c q1008 q111), ⟨_, _, rfl, rfl, q1006⟩, q990, q992, (Or.inr q991), by decide, q1007, by decide +kernel⟩
theorem fdX10_13_9 : zFd RX10 13 9 0 .int false := ⟨_, _, _, rfl, rfl, by decide, rfl, rfl, Or.inl q264, Or.inr q265⟩
noncomputable def fX10_match_9_L3 (h : zH) (a : Nat) (x3 : Nat) (x4 : Int32) (x5 : Int32) : Option ((zH × Int32) ⊕ ((zH) ⊕ (Int32 × zH))) := if x4 < x5 then (some (.inr (.inl h))) else (if 4 < x5 then (some (.inr (.inl h))) else (zb1 (fX11_whole_9 h a x3 x5) (fun v_2 => zlet (zsI h a 0 v_2) (fun h_4 => if (zI h_4 a 0) < 0 then (some (.inl ((h_4, x5 + 1)))) else (some (.inr (.inr ((x5, h_4)))))))))
theorem zX10_match_9_L3 {F : zF} {h : zH} {a : Nat} {x3 : Nat} {x4 : Int32} {x5 : Int32} {y : (zH × Int32) ⊕ ((zH) ⊕ (Int32 × zH))} (hD : 4 ≤ F.2.1) (hL : zOb 9 h a) (hf : fX10_match_9_L3 h a x3 x4 x5 = some y) (hM : ((∀ s' : zH × Int32, y = .inl s' → (zOb 9 s'.1 a → Z F 6 cX10_match RX10 "match" (some .int) [] s'.1 3 [(0, .ref a), (3, .ref x3), (4, .int x4), (5, .int s'.2)] [])) ∧ ∀ r : (zH) ⊕ (Int32 × zH), y = .inr r → (match r with | .inl t => (zOb 9 t a → Z F 6 cX10_match RX10 "match" (some .int) [] t 43 [(0, .ref a), (3, .ref x3), (4, .int x4)] []) | .inr z => ((.inl (some (.int z.1)), z.2) : zX) = zEnd F))) : Z F 6 cX10_match RX10 "match" (some .int) [] h 3 [(0, .ref a), (3, .ref x3), (4, .int x4), (5, .int x5)] [] := by
  unfold fX10_match_9_L3 at hf
  refine z_iload 3 dX10_match_3 rfl ?_
  refine z_iload 2 dX10_match_5 rfl ?_
  refine z_icmp_gt 43 dX10_match_7 rfl hf (fun _ hf => ?_) (fun _ hf => ?_)
  · cases hf
    refine z_sub [0, 1, 2] rfl ?_
    exact (hM.2 _ rfl) hL
  · refine z_iload 3 dX10_match_10 rfl ?_
    refine z_iconst 4 dX10_match_12 rfl ?_
    refine z_icmp_gt 43 dX10_match_13 rfl hf (fun _ hf => ?_) (fun _ hf => ?_)
    · cases hf
      refine z_sub [0, 1, 2] rfl ?_
      exact (hM.2 _ rfl) hL
    · refine z_aload_n 0 dX10_match_16 rfl rfl ?_
      refine z_aload_n 0 dX10_match_17 rfl rfl ?_
      refine z_aload_n 1 dX10_match_18 rfl rfl ?_
      refine z_iload 3 dX10_match_19 rfl ?_
      obtain ⟨v_2, hc_1, hf⟩ := zb1_some hf
      refine z_invUi suX10_7_9 (ctX11_whole_9 hL hc_1) ((hL.b 0 rfl).t 0 rfl) ⟨Nat.le_trans (by decide) hD, by decide⟩ rfl rfl (Nat.le_of_ble_eq_true rfl) dX10_match_21 ?_
      obtain ⟨h_4, he, hf⟩ := zlet_some hf
      refine z_puti fdX10_13_9 ((hL.b 0 rfl).t 0 rfl) ((hL.b 0 rfl).nz 0) he dX10_match_24 ?_
      have hL := hL.I he
      refine z_aload_n 0 dX10_match_27 rfl rfl ?_
      refine z_geti fdX10_13_9 ((hL.b 0 rfl).t 0 rfl) dX10_match_28 ?_
      refine z_if_lt 37 dX10_match_31 rfl hf (fun _ hf => ?_) (fun _ hf => ?_)
      · refine z_iinc 3 (x5 + 1) dX10_match_37 rfl rfl (by decide) (lc' := [(0, .ref a), (3, .ref x3), (4, .int x4), (5, .int (x5 + 1))]) rfl ?_
        refine z_goto 3 dX10_match_40 rfl ?_
        cases hf
        exact (hM.1 _ rfl) hL
      · refine z_iload 3 dX10_match_34 rfl ?_
        cases hf
        exact z_iret dX10_match_36 rfl (hM.2 _ rfl)
theorem suX10_17_9 : zIu RX10 17 ⟨"CodeExchange$Form", "begins", "([II)Z"⟩ "CodeExchange$Form" yX12_begins (ws_ yX12_begins cX12_begins 3 (some .boolean)) 3 9 2 := ⟨(zGood_c q1039 q112), ⟨_, _, rfl, rfl, q1037⟩, q1031, q1033, (Or.inr q1032), by decide, q1038, by decide +kernel⟩
noncomputable def fX10_match_9_J43 (h : zH) (a : Nat) (x3 : Nat) (x4 : Int32) : Option (Int32 × zH) := if 4 ≤ x4 then (some ((0, h))) else (zb1 (fX12_begins h a x3 x4) (fun v_7 => if v_7 = 0 then (some ((0, h))) else (some (((-1), h)))))
theorem zX10_match_9_J43 {F : zF} {h : zH} {a : Nat} {x3 : Nat} {x4 : Int32} {y : Int32 × zH} (hD : 4 ≤ F.2.1) (hL : zOb 9 h a) (hf : fX10_match_9_J43 h a x3 x4 = some y) (hM : ((.inl (some (.int y.1)), y.2) : zX) = zEnd F) : Z F 6 cX10_match RX10 "match" (some .int) [] h 43 [(0, .ref a), (3, .ref x3), (4, .int x4)] [] := by
  unfold fX10_match_9_J43 at hf
  refine z_iload 2 dX10_match_43 rfl ?_
  refine z_iconst 4 dX10_match_45 rfl ?_
  refine z_icmp_ge 63 dX10_match_46 rfl hf (fun _ hf => ?_) (fun _ hf => ?_)
  · refine z_iconst 0 dX10_match_63 rfl ?_
    cases hf
    exact z_iret dX10_match_64 rfl hM
  · refine z_aload_n 0 dX10_match_49 rfl rfl ?_
    refine z_aload_n 1 dX10_match_50 rfl rfl ?_
    refine z_iload 2 dX10_match_51 rfl ?_
    obtain ⟨v_7, hc_6, hf⟩ := zb1_some hf
    refine z_invUi suX10_17_9 (ctX12_begins hL hc_6) ((hL.b 0 rfl).t 0 rfl) ⟨Nat.le_trans (by decide) hD, by decide⟩ rfl rfl (Nat.le_of_ble_eq_true rfl) dX10_match_53 ?_
    refine z_if_eq 63 dX10_match_56 rfl hf (fun _ hf => ?_) (fun _ hf => ?_)
    · refine z_iconst 0 dX10_match_63 rfl ?_
      cases hf
      exact z_iret dX10_match_64 rfl hM
    · refine z_iconst (-1) dX10_match_59 rfl ?_
      refine z_goto 64 dX10_match_60 rfl ?_
      cases hf
      exact z_iret dX10_match_64 rfl hM
noncomputable def fX10_match_9 (h : zH) (a : Nat) (x1 : Int32) (x2 : Int32) (x3 : Nat) (x4 : Int32) : Option (Int32 × zH) := zlx (zlp (fun s => fX10_match_9_L3 s.1 a x3 x4 s.2) (h, 1)) (fun t_5 => fX10_match_9_J43 t_5 a x3 x4)
theorem zX10_match_9 {F : zF} {h : zH} {a : Nat} {x1 : Int32} {x2 : Int32} {x3 : Nat} {x4 : Int32} {y : Int32 × zH} (hD : 4 ≤ F.2.1) (hL : zOb 9 h a) (hf : fX10_match_9 h a x1 x2 x3 x4 = some y) (hM : ((.inl (some (.int y.1)), y.2) : zX) = zEnd F) : Z F 6 cX10_match RX10 "match" (some .int) [] h 0 [(0, .ref a), (1, .int x1), (2, .int x2), (3, .ref x3), (4, .int x4)] [] := by
  unfold fX10_match_9 at hf
  refine z_iconst 1 dX10_match_0 rfl ?_
  refine z_istore dX10_match_1 (by decide) (lc' := [(0, .ref a), (1, .int x1), (2, .int x2), (3, .ref x3), (4, .int x4), (5, .int 1)]) rfl ?_
  refine z_sub [0, 3, 4, 5] rfl ?_
  obtain ⟨rr, hl, hf⟩ := zlx_some hf
  refine z_loop (fun (s : zH × Int32) => (zOb 9 s.1 a → Z F 6 cX10_match RX10 "match" (some .int) [] s.1 3 [(0, .ref a), (3, .ref x3), (4, .int x4), (5, .int s.2)] [])) (fun (r : (zH) ⊕ (Int32 × zH)) => (match r with | .inl t => (zOb 9 t a → Z F 6 cX10_match RX10 "match" (some .int) [] t 43 [(0, .ref a), (3, .ref x3), (4, .int x4)] []) | .inr z => ((.inl (some (.int z.1)), z.2) : zX) = zEnd F)) (fun s y hb hs hr hL => zX10_match_9_L3 hD hL hb ⟨hs, hr⟩) hl ?_ hL
  rcases hf with ⟨t_5, rfl, hf⟩ | rfl
  · intro hL
    show Z F 6 cX10_match RX10 "match" (some .int) [] t_5 43 [(0, .ref a), (3, .ref x3), (4, .int x4)] []
    exact zX10_match_9_J43 hD hL hf hM
  · exact hM
theorem ctX10_match_9 {l : Launch} {h : zH} {a : Nat} {x1 : Int32} {x2 : Int32} {x3 : Nat} {x4 : Int32} {v : Int32} {h' : zH} (hL : zOb 9 h a) (hf : fX10_match_9 h a x1 x2 x3 x4 = some (v, h')) : zC l yX10_match (ws_ yX10_match cX10_match 6 (some .int)) 4 [.ref a, .int x1, .int x2, .ref x3, .int x4] h (.inl (some (.int v)), h') :=
  z_start (by decide) (Nat.le_of_ble_eq_true rfl) (zX10_match_9 (F := (l, 4, h, (.inl (some (.int v)), h'))) (Nat.le_refl _) hL hf rfl)
theorem suX12_19_9 : zIzu RX12 19 ⟨"CodeExchange$Wide", "match", "(II[II)I"⟩ "CodeExchange$Form" (ws_ yX10_match cX10_match 6 (some .int)) 6 4 := ⟨(zGood_c q989 q110), q1052, q1053, q619, q609, q988, by decide, ⟨by decide, by decide⟩, by decide +kernel⟩
noncomputable def fX12_match (h : zH) (a : Nat) (x1 : Int32) (x2 : Int32) (x3 : Nat) (x4 : Int32) : Option (Int32 × zH) := zb2 (fX10_match_9 h a x1 x2 x3 x4) (fun v_2 h_3 => some ((v_2, h_3)))
theorem zX12_match {F : zF} {h : zH} {a : Nat} {x1 : Int32} {x2 : Int32} {x3 : Nat} {x4 : Int32} {y : Int32 × zH} (hD : 5 ≤ F.2.1) (hL : zOb 9 h a) (hf : fX12_match h a x1 x2 x3 x4 = some y) (hM : ((.inl (some (.int y.1)), y.2) : zX) = zEnd F) : Z F 5 cX12_match RX12 "match" (some .int) [] h 0 [(0, .ref a), (1, .int x1), (2, .int x2), (3, .ref x3), (4, .int x4)] [] := by
  unfold fX12_match at hf
  refine z_aload_n 0 dX12_match_0 rfl rfl ?_
  refine z_iload_n 1 dX12_match_1 rfl rfl ?_
  refine z_iload_n 2 dX12_match_2 rfl rfl ?_
  refine z_aload_n 3 dX12_match_3 rfl rfl ?_
  refine z_iload 4 dX12_match_4 rfl ?_
  obtain ⟨v_2, h_3, hc_1, hf⟩ := zb2_some hf
  have hct := ctX10_match_9 (l := F.1) hL hc_1
  refine z_invZUi suX12_19_9 hct rfl rfl ((hL.b 0 rfl).t 0 rfl) ⟨Nat.le_trans (by decide) hD, by decide⟩ rfl rfl (Nat.le_of_ble_eq_true rfl) dX12_match_6 ?_
  have hL := hL.ext hct.1
  cases hf
  exact z_iret dX12_match_9 rfl hM
theorem ctX12_match {l : Launch} {h : zH} {a : Nat} {x1 : Int32} {x2 : Int32} {x3 : Nat} {x4 : Int32} {v : Int32} {h' : zH} (hL : zOb 9 h a) (hf : fX12_match h a x1 x2 x3 x4 = some (v, h')) : zC l yX12_match (ws_ yX12_match cX12_match 5 (some .int)) 5 [.ref a, .int x1, .int x2, .ref x3, .int x4] h (.inl (some (.int v)), h') :=
  z_start (by decide) (Nat.le_of_ble_eq_true rfl) (zX12_match (F := (l, 5, h, (.inl (some (.int v)), h'))) (Nat.le_refl _) hL hf rfl)
noncomputable def fX13_length (x0 : Int32) : Option (Int32) := if 128 ≤ x0 then (if 194 ≤ x0 then (if 224 ≤ x0 then (if 240 ≤ x0 then (if 245 ≤ x0 then (some 0) else (some 4)) else (some 3)) else (some 2)) else (some 0)) else (some 1)
theorem zX13_length {F : zF} {h : zH} {x0 : Int32} {y : Int32} (hD : 1 ≤ F.2.1) (hf : fX13_length x0 = some y) (hM : ((.inl (some (.int y)), h) : zX) = zEnd F) : Z F 1 cX13_length RX13 "length" (some .int) [] h 0 [(0, .int x0)] [] := by
  unfold fX13_length at hf
  refine z_iload_n 0 dX13_length_0 rfl rfl ?_
  refine z_sipush 128 dX13_length_1 rfl ?_
  refine z_icmp_ge 11 dX13_length_4 rfl hf (fun _ hf => ?_) (fun _ hf => ?_)
  · refine z_iload_n 0 dX13_length_11 rfl rfl ?_
    refine z_sipush 194 dX13_length_12 rfl ?_
    refine z_icmp_ge 22 dX13_length_15 rfl hf (fun _ hf => ?_) (fun _ hf => ?_)
    · refine z_iload_n 0 dX13_length_22 rfl rfl ?_
      refine z_sipush 224 dX13_length_23 rfl ?_
      refine z_icmp_ge 33 dX13_length_26 rfl hf (fun _ hf => ?_) (fun _ hf => ?_)
      · refine z_iload_n 0 dX13_length_33 rfl rfl ?_
        refine z_sipush 240 dX13_length_34 rfl ?_
        refine z_icmp_ge 44 dX13_length_37 rfl hf (fun _ hf => ?_) (fun _ hf => ?_)
        · refine z_iload_n 0 dX13_length_44 rfl rfl ?_
          refine z_sipush 245 dX13_length_45 rfl ?_
          refine z_icmp_ge 55 dX13_length_48 rfl hf (fun _ hf => ?_) (fun _ hf => ?_)
          · refine z_iconst 0 dX13_length_55 rfl ?_
            cases hf
            exact z_iret dX13_length_56 rfl hM
          · refine z_iconst 4 dX13_length_51 rfl ?_
            refine z_goto 56 dX13_length_52 rfl ?_
            cases hf
            exact z_iret dX13_length_56 rfl hM
        · refine z_iconst 3 dX13_length_40 rfl ?_
          refine z_goto 56 dX13_length_41 rfl ?_
          cases hf
          exact z_iret dX13_length_56 rfl hM
      · refine z_iconst 2 dX13_length_29 rfl ?_
        refine z_goto 56 dX13_length_30 rfl ?_
        cases hf
        exact z_iret dX13_length_56 rfl hM
    · refine z_iconst 0 dX13_length_18 rfl ?_
      refine z_goto 56 dX13_length_19 rfl ?_
      cases hf
      exact z_iret dX13_length_56 rfl hM
  · refine z_iconst 1 dX13_length_7 rfl ?_
    refine z_goto 56 dX13_length_8 rfl ?_
    cases hf
    exact z_iret dX13_length_56 rfl hM
theorem ctX13_length {l : Launch} {h : zH} {x0 : Int32} {v : Int32} (hf : fX13_length x0 = some v) : zC l yX13_length (ws_ yX13_length cX13_length 1 (some .int)) 1 [.int x0] h (.inl (some (.int v)), h) :=
  z_start (by decide) (Nat.le_of_ble_eq_true rfl) (zX13_length (F := (l, 1, h, (.inl (some (.int v)), h))) (Nat.le_refl _) hf rfl)
theorem suX13_7_s : zIs RX13 7 yX0_in (ws_ yX0_in cX0_in 3 (some .boolean)) 3 3 := ⟨(zGood_c q592 q97), (Or.inr ⟨_, q1005⟩), q591, ⟨by decide, by decide⟩, by decide +kernel⟩
noncomputable def fX13_isSecond_J29 (x0 : Int32) (x1 : Int32) (k0 : Int32) : Option (Int32) := if x0 = 237 then (zb1 (fX0_in x1 k0 159) (fun v_10 => zck (zB v_10) (some v_10))) else (if x0 = 244 then (zb1 (fX0_in x1 k0 143) (fun v_6 => zck (zB v_6) (some v_6))) else (zb1 (fX0_in x1 k0 191) (fun v_2 => zck (zB v_2) (some v_2))))
theorem zX13_isSecond_J29 {F : zF} {h : zH} {x0 : Int32} {x1 : Int32} {k0 : Int32} {y : Int32} (hD : 2 ≤ F.2.1) (hf : fX13_isSecond_J29 x0 x1 k0 = some y) (hM : ((.inl (some (.int y)), h) : zX) = zEnd F) : Z F 4 cX13_isSecond RX13 "isSecond" (some .boolean) [] h 29 [(0, .int x0), (1, .int x1)] [.int k0] := by
  unfold fX13_isSecond_J29 at hf
  refine z_istore_n dX13_isSecond_29 rfl (by decide) (lc' := [(0, .int x0), (1, .int x1), (2, .int k0)]) rfl ?_
  refine z_iload_n 0 dX13_isSecond_30 rfl rfl ?_
  refine z_sipush 237 dX13_isSecond_31 rfl ?_
  refine z_icmp_ne 43 dX13_isSecond_34 rfl hf (fun _ hf => ?_) (fun _ hf => ?_)
  · refine z_iload_n 0 dX13_isSecond_43 rfl rfl ?_
    refine z_sipush 244 dX13_isSecond_44 rfl ?_
    refine z_icmp_ne 56 dX13_isSecond_47 rfl hf (fun _ hf => ?_) (fun _ hf => ?_)
    · refine z_sipush 191 dX13_isSecond_56 rfl ?_
      refine z_istore_n dX13_isSecond_59 rfl (by decide) (lc' := [(0, .int x0), (1, .int x1), (2, .int k0), (3, .int 191)]) rfl ?_
      refine z_iload_n 1 dX13_isSecond_60 rfl rfl ?_
      refine z_iload_n 2 dX13_isSecond_61 rfl rfl ?_
      refine z_iload_n 3 dX13_isSecond_62 rfl rfl ?_
      obtain ⟨v_2, hc_1, hf⟩ := zb1_some hf
      refine z_invSi suX13_7_s (ctX0_in hc_1) ⟨Nat.le_trans (by decide) hD, by decide⟩ rfl rfl (Nat.le_of_ble_eq_true rfl) dX13_isSecond_63 ?_
      obtain ⟨hz_4, hf⟩ := zck_some hf
      cases hf
      exact z_zret dX13_isSecond_66 rfl hz_4 hM
    · refine z_sipush 143 dX13_isSecond_50 rfl ?_
      refine z_goto 59 dX13_isSecond_53 rfl ?_
      refine z_istore_n dX13_isSecond_59 rfl (by decide) (lc' := [(0, .int x0), (1, .int x1), (2, .int k0), (3, .int 143)]) rfl ?_
      refine z_iload_n 1 dX13_isSecond_60 rfl rfl ?_
      refine z_iload_n 2 dX13_isSecond_61 rfl rfl ?_
      refine z_iload_n 3 dX13_isSecond_62 rfl rfl ?_
      obtain ⟨v_6, hc_5, hf⟩ := zb1_some hf
      refine z_invSi suX13_7_s (ctX0_in hc_5) ⟨Nat.le_trans (by decide) hD, by decide⟩ rfl rfl (Nat.le_of_ble_eq_true rfl) dX13_isSecond_63 ?_
      obtain ⟨hz_8, hf⟩ := zck_some hf
      cases hf
      exact z_zret dX13_isSecond_66 rfl hz_8 hM
  · refine z_sipush 159 dX13_isSecond_37 rfl ?_
    refine z_goto 59 dX13_isSecond_40 rfl ?_
    refine z_istore_n dX13_isSecond_59 rfl (by decide) (lc' := [(0, .int x0), (1, .int x1), (2, .int k0), (3, .int 159)]) rfl ?_
    refine z_iload_n 1 dX13_isSecond_60 rfl rfl ?_
    refine z_iload_n 2 dX13_isSecond_61 rfl rfl ?_
    refine z_iload_n 3 dX13_isSecond_62 rfl rfl ?_
    obtain ⟨v_10, hc_9, hf⟩ := zb1_some hf
    refine z_invSi suX13_7_s (ctX0_in hc_9) ⟨Nat.le_trans (by decide) hD, by decide⟩ rfl rfl (Nat.le_of_ble_eq_true rfl) dX13_isSecond_63 ?_
    obtain ⟨hz_12, hf⟩ := zck_some hf
    cases hf
    exact z_zret dX13_isSecond_66 rfl hz_12 hM
noncomputable def fX13_isSecond (x0 : Int32) (x1 : Int32) : Option (Int32) := if x0 = 224 then (fX13_isSecond_J29 x0 x1 160) else (if x0 = 240 then (fX13_isSecond_J29 x0 x1 144) else (fX13_isSecond_J29 x0 x1 128))
theorem zX13_isSecond {F : zF} {h : zH} {x0 : Int32} {x1 : Int32} {y : Int32} (hD : 2 ≤ F.2.1) (hf : fX13_isSecond x0 x1 = some y) (hM : ((.inl (some (.int y)), h) : zX) = zEnd F) : Z F 4 cX13_isSecond RX13 "isSecond" (some .boolean) [] h 0 [(0, .int x0), (1, .int x1)] [] := by
  unfold fX13_isSecond at hf
  refine z_iload_n 0 dX13_isSecond_0 rfl rfl ?_
  refine z_sipush 224 dX13_isSecond_1 rfl ?_
  refine z_icmp_ne 13 dX13_isSecond_4 rfl hf (fun _ hf => ?_) (fun _ hf => ?_)
  · refine z_iload_n 0 dX13_isSecond_13 rfl rfl ?_
    refine z_sipush 240 dX13_isSecond_14 rfl ?_
    refine z_icmp_ne 26 dX13_isSecond_17 rfl hf (fun _ hf => ?_) (fun _ hf => ?_)
    · refine z_sipush 128 dX13_isSecond_26 rfl ?_
      exact zX13_isSecond_J29 hD hf hM
    · refine z_sipush 144 dX13_isSecond_20 rfl ?_
      refine z_goto 29 dX13_isSecond_23 rfl ?_
      exact zX13_isSecond_J29 hD hf hM
  · refine z_sipush 160 dX13_isSecond_7 rfl ?_
    refine z_goto 29 dX13_isSecond_10 rfl ?_
    exact zX13_isSecond_J29 hD hf hM
theorem ctX13_isSecond {l : Launch} {h : zH} {x0 : Int32} {x1 : Int32} {v : Int32} (hf : fX13_isSecond x0 x1 = some v) : zC l yX13_isSecond (ws_ yX13_isSecond cX13_isSecond 4 (some .boolean)) 2 [.int x0, .int x1] h (.inl (some (.int v)), h) :=
  z_start (by decide) (Nat.le_of_ble_eq_true rfl) (zX13_isSecond (F := (l, 2, h, (.inl (some (.int v)), h))) (Nat.le_refl _) hf rfl)
noncomputable def fX13_isFine_L25 (h : zH) (x0 : Nat) (x1 : Int32) (x2 : Int32) (x3 : Int32) : Option ((Int32 × Int32) ⊕ (Int32)) := if x1 ≤ x3 then (zck (zB x2) (some (.inr x2))) else (if x2 = 0 then (zck (zB x2) (some (.inr x2))) else (zck (zAr h x0 x3) (zb1 (fX0_in (zI h x0 x3.toNatClampNeg) 128 191) (fun v_5 => some (.inl ((v_5, x3 + 1)))))))
theorem zX13_isFine_L25 {F : zF} {h : zH} {x0 : Nat} {x1 : Int32} {x2 : Int32} {x3 : Int32} {y : (Int32 × Int32) ⊕ (Int32)} (hD : 3 ≤ F.2.1) (hf : fX13_isFine_L25 h x0 x1 x2 x3 = some y) (hM : ((∀ s' : Int32 × Int32, y = .inl s' → Z F 4 cX13_isFine RX13 "isFine" (some .boolean) [] h 25 [(0, .ref x0), (1, .int x1), (2, .int s'.1), (3, .int s'.2)] []) ∧ ∀ r : Int32, y = .inr r → ((.inl (some (.int r)), h) : zX) = zEnd F)) : Z F 4 cX13_isFine RX13 "isFine" (some .boolean) [] h 25 [(0, .ref x0), (1, .int x1), (2, .int x2), (3, .int x3)] [] := by
  unfold fX13_isFine_L25 at hf
  refine z_iload_n 3 dX13_isFine_25 rfl rfl ?_
  refine z_iload_n 1 dX13_isFine_26 rfl rfl ?_
  refine z_icmp_ge 53 dX13_isFine_27 rfl hf (fun _ hf => ?_) (fun _ hf => ?_)
  · refine z_iload_n 2 dX13_isFine_53 rfl rfl ?_
    obtain ⟨hz_1, hf⟩ := zck_some hf
    cases hf
    exact z_zret dX13_isFine_54 rfl hz_1 (hM.2 _ rfl)
  · refine z_iload_n 2 dX13_isFine_30 rfl rfl ?_
    refine z_if_eq 53 dX13_isFine_31 rfl hf (fun _ hf => ?_) (fun _ hf => ?_)
    · refine z_iload_n 2 dX13_isFine_53 rfl rfl ?_
      obtain ⟨hz_2, hf⟩ := zck_some hf
      cases hf
      exact z_zret dX13_isFine_54 rfl hz_2 (hM.2 _ rfl)
    · refine z_aload_n 0 dX13_isFine_34 rfl rfl ?_
      refine z_iload_n 3 dX13_isFine_35 rfl rfl ?_
      obtain ⟨hi_3, hf⟩ := zck_some hf
      refine z_iald (zAr_t hi_3) hi_3.2 dX13_isFine_36 ?_
      refine z_sipush 128 dX13_isFine_37 rfl ?_
      refine z_sipush 191 dX13_isFine_40 rfl ?_
      obtain ⟨v_5, hc_4, hf⟩ := zb1_some hf
      refine z_invSi suX13_7_s (ctX0_in hc_4) ⟨Nat.le_trans (by decide) hD, by decide⟩ rfl rfl (Nat.le_of_ble_eq_true rfl) dX13_isFine_43 ?_
      refine z_istore_n dX13_isFine_46 rfl (by decide) (lc' := [(0, .ref x0), (1, .int x1), (2, .int v_5), (3, .int x3)]) rfl ?_
      refine z_iinc 3 (x3 + 1) dX13_isFine_47 rfl rfl (by decide) (lc' := [(0, .ref x0), (1, .int x1), (2, .int v_5), (3, .int (x3 + 1))]) rfl ?_
      refine z_goto 25 dX13_isFine_50 rfl ?_
      cases hf
      exact (hM.1 _ rfl)
noncomputable def fX13_isFine_J22 (h : zH) (x0 : Nat) (x1 : Int32) (k0 : Int32) : Option (Int32) := zlp (fun s => fX13_isFine_L25 h x0 x1 s.1 s.2) (k0, 2)
theorem zX13_isFine_J22 {F : zF} {h : zH} {x0 : Nat} {x1 : Int32} {k0 : Int32} {y : Int32} (hD : 3 ≤ F.2.1) (hf : fX13_isFine_J22 h x0 x1 k0 = some y) (hM : ((.inl (some (.int y)), h) : zX) = zEnd F) : Z F 4 cX13_isFine RX13 "isFine" (some .boolean) [] h 22 [(0, .ref x0), (1, .int x1)] [.int k0] := by
  unfold fX13_isFine_J22 at hf
  refine z_istore_n dX13_isFine_22 rfl (by decide) (lc' := [(0, .ref x0), (1, .int x1), (2, .int k0)]) rfl ?_
  refine z_iconst 2 dX13_isFine_23 rfl ?_
  refine z_istore_n dX13_isFine_24 rfl (by decide) (lc' := [(0, .ref x0), (1, .int x1), (2, .int k0), (3, .int 2)]) rfl ?_
  exact z_loop (fun (s : Int32 × Int32) => Z F 4 cX13_isFine RX13 "isFine" (some .boolean) [] h 25 [(0, .ref x0), (1, .int x1), (2, .int s.1), (3, .int s.2)] []) (fun (r : Int32) => ((.inl (some (.int r)), h) : zX) = zEnd F) (fun s y hb hs hr => zX13_isFine_L25 hD hb ⟨hs, hr⟩) hf hM
noncomputable def fX13_isFine_J17 (h : zH) (x0 : Nat) (x1 : Int32) : Option (Int32) := fX13_isFine_J22 h x0 x1 1
theorem zX13_isFine_J17 {F : zF} {h : zH} {x0 : Nat} {x1 : Int32} {y : Int32} (hD : 3 ≤ F.2.1) (hf : fX13_isFine_J17 h x0 x1 = some y) (hM : ((.inl (some (.int y)), h) : zX) = zEnd F) : Z F 4 cX13_isFine RX13 "isFine" (some .boolean) [] h 17 [(0, .ref x0), (1, .int x1)] [] := by
  unfold fX13_isFine_J17 at hf
  refine z_iconst 1 dX13_isFine_17 rfl ?_
  refine z_goto 22 dX13_isFine_18 rfl ?_
  exact zX13_isFine_J22 hD hf hM
theorem suX13_13_s : zIs RX13 13 yX13_isSecond (ws_ yX13_isSecond cX13_isSecond 4 (some .boolean)) 4 2 := ⟨(zGood_c q1004 q113), (Or.inl q1002), q1003, ⟨by decide, by decide⟩, by decide +kernel⟩
noncomputable def fX13_isFine (h : zH) (x0 : Nat) (x1 : Int32) : Option (Int32) := if x1 < 2 then (fX13_isFine_J17 h x0 x1) else (zck (zAr h x0 0) (zck (zAr h x0 1) (zb1 (fX13_isSecond (zI h x0 (0 : Int32).toNatClampNeg) (zI h x0 (1 : Int32).toNatClampNeg)) (fun v_10 => if v_10 = 0 then (fX13_isFine_J22 h x0 x1 0) else (fX13_isFine_J17 h x0 x1)))))
theorem zX13_isFine {F : zF} {h : zH} {x0 : Nat} {x1 : Int32} {y : Int32} (hD : 3 ≤ F.2.1) (hf : fX13_isFine h x0 x1 = some y) (hM : ((.inl (some (.int y)), h) : zX) = zEnd F) : Z F 4 cX13_isFine RX13 "isFine" (some .boolean) [] h 0 [(0, .ref x0), (1, .int x1)] [] := by
  unfold fX13_isFine at hf
  refine z_iload_n 1 dX13_isFine_0 rfl rfl ?_
  refine z_iconst 2 dX13_isFine_1 rfl ?_
  refine z_icmp_lt 17 dX13_isFine_2 rfl hf (fun _ hf => ?_) (fun _ hf => ?_)
  · exact zX13_isFine_J17 hD hf hM
  · refine z_aload_n 0 dX13_isFine_5 rfl rfl ?_
    refine z_iconst 0 dX13_isFine_6 rfl ?_
    obtain ⟨hi_7, hf⟩ := zck_some hf
    refine z_iald (zAr_t hi_7) hi_7.2 dX13_isFine_7 ?_
    refine z_aload_n 0 dX13_isFine_8 rfl rfl ?_
    refine z_iconst 1 dX13_isFine_9 rfl ?_
    obtain ⟨hi_8, hf⟩ := zck_some hf
    refine z_iald (zAr_t hi_8) hi_8.2 dX13_isFine_10 ?_
    obtain ⟨v_10, hc_9, hf⟩ := zb1_some hf
    refine z_invSi suX13_13_s (ctX13_isSecond hc_9) ⟨Nat.le_trans (by decide) hD, by decide⟩ rfl rfl (Nat.le_of_ble_eq_true rfl) dX13_isFine_11 ?_
    refine z_if_eq 21 dX13_isFine_14 rfl hf (fun _ hf => ?_) (fun _ hf => ?_)
    · refine z_iconst 0 dX13_isFine_21 rfl ?_
      exact zX13_isFine_J22 hD hf hM
    · exact zX13_isFine_J17 hD hf hM
theorem ctX13_isFine {l : Launch} {h : zH} {x0 : Nat} {x1 : Int32} {v : Int32} (hf : fX13_isFine h x0 x1 = some v) : zC l yX13_isFine (ws_ yX13_isFine cX13_isFine 4 (some .boolean)) 3 [.ref x0, .int x1] h (.inl (some (.int v)), h) :=
  z_start (by decide) (Nat.le_of_ble_eq_true rfl) (zX13_isFine (F := (l, 3, h, (.inl (some (.int v)), h))) (Nat.le_refl _) hf rfl)
theorem suX13_19_s : zIs RX13 19 yX13_length (ws_ yX13_length cX13_length 1 (some .int)) 1 1 := ⟨(zGood_c q998 q113), (Or.inl q996), q997, ⟨by decide, by decide⟩, by decide +kernel⟩
theorem suX13_23_s : zIs RX13 23 yX13_isFine (ws_ yX13_isFine cX13_isFine 4 (some .boolean)) 4 2 := ⟨(zGood_c q1001 q113), (Or.inl q999), q1000, ⟨by decide, by decide⟩, by decide +kernel⟩
noncomputable def fX13_whole_L47 (h : zH) (a : Nat) (x1 : Nat) (x2 : Int32) (x3 : Int32) (x4 : Int32) : Option ((Int32 × Int32) ⊕ (Int32)) := if x2 ≤ x4 then (some (.inr x3)) else (zck (zAr h x1 x4) (some (.inl (((x3 <<< (6 &&& 31)) ||| ((zI h x1 x4.toNatClampNeg) &&& 63), x4 + 1)))))
theorem zX13_whole_L47 {F : zF} {h : zH} {a : Nat} {x1 : Nat} {x2 : Int32} {x3 : Int32} {x4 : Int32} {y : (Int32 × Int32) ⊕ (Int32)} (hD : 4 ≤ F.2.1) (hL : zOb 10 h a) (hf : fX13_whole_L47 h a x1 x2 x3 x4 = some y) (hM : ((∀ s' : Int32 × Int32, y = .inl s' → Z F 5 cX13_whole RX13 "whole" (some .int) [] h 47 [(1, .ref x1), (2, .int x2), (3, .int s'.1), (4, .int s'.2)] []) ∧ ∀ r : Int32, y = .inr r → ((.inl (some (.int r)), h) : zX) = zEnd F)) : Z F 5 cX13_whole RX13 "whole" (some .int) [] h 47 [(1, .ref x1), (2, .int x2), (3, .int x3), (4, .int x4)] [] := by
  unfold fX13_whole_L47 at hf
  refine z_iload 3 dX13_whole_47 rfl ?_
  refine z_iload_n 1 dX13_whole_49 rfl rfl ?_
  refine z_icmp_ge 72 dX13_whole_50 rfl hf (fun _ hf => ?_) (fun _ hf => ?_)
  · refine z_iload_n 2 dX13_whole_72 rfl rfl ?_
    cases hf
    exact z_iret dX13_whole_73 rfl (hM.2 _ rfl)
  · refine z_iload_n 2 dX13_whole_53 rfl rfl ?_
    refine z_bipush 6 dX13_whole_54 rfl ?_
    refine z_ishl dX13_whole_56 ?_
    refine z_aload_n 0 dX13_whole_57 rfl rfl ?_
    refine z_iload 3 dX13_whole_58 rfl ?_
    obtain ⟨hi_9, hf⟩ := zck_some hf
    refine z_iald (zAr_t hi_9) hi_9.2 dX13_whole_60 ?_
    refine z_bipush 63 dX13_whole_61 rfl ?_
    refine z_iand dX13_whole_63 ?_
    refine z_ior dX13_whole_64 ?_
    refine z_istore_n dX13_whole_65 rfl (by decide) (lc' := [(1, .ref x1), (2, .int x2), (3, .int ((x3 <<< (6 &&& 31)) ||| ((zI h x1 x4.toNatClampNeg) &&& 63))), (4, .int x4)]) rfl ?_
    refine z_iinc 3 (x4 + 1) dX13_whole_66 rfl rfl (by decide) (lc' := [(1, .ref x1), (2, .int x2), (3, .int ((x3 <<< (6 &&& 31)) ||| ((zI h x1 x4.toNatClampNeg) &&& 63))), (4, .int (x4 + 1))]) rfl ?_
    refine z_goto 47 dX13_whole_69 rfl ?_
    cases hf
    exact (hM.1 _ rfl)
noncomputable def fX13_whole_J43 (h : zH) (a : Nat) (x1 : Nat) (x2 : Int32) (k0 : Int32) : Option (Int32) := zlp (fun s => fX13_whole_L47 h a x1 x2 s.1 s.2) (k0, 1)
theorem zX13_whole_J43 {F : zF} {h : zH} {a : Nat} {x1 : Nat} {x2 : Int32} {k0 : Int32} {y : Int32} (hD : 4 ≤ F.2.1) (hL : zOb 10 h a) (hf : fX13_whole_J43 h a x1 x2 k0 = some y) (hM : ((.inl (some (.int y)), h) : zX) = zEnd F) : Z F 5 cX13_whole RX13 "whole" (some .int) [] h 43 [(1, .ref x1), (2, .int x2)] [.int k0] := by
  unfold fX13_whole_J43 at hf
  refine z_istore_n dX13_whole_43 rfl (by decide) (lc' := [(1, .ref x1), (2, .int x2), (3, .int k0)]) rfl ?_
  refine z_iconst 1 dX13_whole_44 rfl ?_
  refine z_istore dX13_whole_45 (by decide) (lc' := [(1, .ref x1), (2, .int x2), (3, .int k0), (4, .int 1)]) rfl ?_
  exact z_loop (fun (s : Int32 × Int32) => Z F 5 cX13_whole RX13 "whole" (some .int) [] h 47 [(1, .ref x1), (2, .int x2), (3, .int s.1), (4, .int s.2)] []) (fun (r : Int32) => ((.inl (some (.int r)), h) : zX) = zEnd F) (fun s y hb hs hr => zX13_whole_L47 hD hL hb ⟨hs, hr⟩) hf hM
noncomputable def fX13_whole (h : zH) (a : Nat) (x1 : Nat) (x2 : Int32) : Option (Int32) := zck (zAr h x1 0) (zb1 (fX13_length (zI h x1 (0 : Int32).toNatClampNeg)) (fun v_3 => if v_3 = x2 then (zb1 (fX13_isFine h x1 x2) (fun v_6 => if v_6 = 0 then (some ((-1))) else (if x2 = 1 then (zck (zAr h x1 0) (fX13_whole_J43 h a x1 x2 (zI h x1 (0 : Int32).toNatClampNeg))) else (zck (zAr h x1 0) (fX13_whole_J43 h a x1 x2 ((zI h x1 (0 : Int32).toNatClampNeg) &&& (((1 : Int32) <<< (((7 : Int32) - x2) &&& 31)) - 1))))))) else (some ((-1)))))
theorem zX13_whole {F : zF} {h : zH} {a : Nat} {x1 : Nat} {x2 : Int32} {y : Int32} (hD : 4 ≤ F.2.1) (hL : zOb 10 h a) (hf : fX13_whole h a x1 x2 = some y) (hM : ((.inl (some (.int y)), h) : zX) = zEnd F) : Z F 5 cX13_whole RX13 "whole" (some .int) [] h 0 [(0, .ref a), (1, .ref x1), (2, .int x2)] [] := by
  unfold fX13_whole at hf
  refine z_aload_n 1 dX13_whole_0 rfl rfl ?_
  refine z_iconst 0 dX13_whole_1 rfl ?_
  obtain ⟨hi_1, hf⟩ := zck_some hf
  refine z_iald (zAr_t hi_1) hi_1.2 dX13_whole_2 ?_
  obtain ⟨v_3, hc_2, hf⟩ := zb1_some hf
  refine z_invSi suX13_19_s (ctX13_length hc_2) ⟨Nat.le_trans (by decide) hD, by decide⟩ rfl rfl (Nat.le_of_ble_eq_true rfl) dX13_whole_3 ?_
  refine z_iload_n 2 dX13_whole_6 rfl rfl ?_
  refine z_icmp_ne 18 dX13_whole_7 rfl hf (fun _ hf => ?_) (fun _ hf => ?_)
  · refine z_iconst (-1) dX13_whole_18 rfl ?_
    cases hf
    exact z_iret dX13_whole_19 rfl hM
  · refine z_aload_n 1 dX13_whole_10 rfl rfl ?_
    refine z_iload_n 2 dX13_whole_11 rfl rfl ?_
    obtain ⟨v_6, hc_5, hf⟩ := zb1_some hf
    refine z_invSi suX13_23_s (ctX13_isFine hc_5) ⟨Nat.le_trans (by decide) hD, by decide⟩ rfl rfl (Nat.le_of_ble_eq_true rfl) dX13_whole_12 ?_
    refine z_if_ne 20 dX13_whole_15 rfl hf (fun _ hf => ?_) (fun _ hf => ?_)
    · refine z_iload_n 2 dX13_whole_20 rfl rfl ?_
      refine z_iconst 1 dX13_whole_21 rfl ?_
      refine z_icmp_ne 31 dX13_whole_22 rfl hf (fun _ hf => ?_) (fun _ hf => ?_)
      · refine z_aload_n 1 dX13_whole_31 rfl rfl ?_
        refine z_iconst 0 dX13_whole_32 rfl ?_
        obtain ⟨hi_8, hf⟩ := zck_some hf
        refine z_iald (zAr_t hi_8) hi_8.2 dX13_whole_33 ?_
        refine z_iconst 1 dX13_whole_34 rfl ?_
        refine z_bipush 7 dX13_whole_35 rfl ?_
        refine z_iload_n 2 dX13_whole_37 rfl rfl ?_
        refine z_isub dX13_whole_38 ?_
        refine z_ishl dX13_whole_39 ?_
        refine z_iconst 1 dX13_whole_40 rfl ?_
        refine z_isub dX13_whole_41 ?_
        refine z_iand dX13_whole_42 ?_
        refine z_sub [1, 2] rfl ?_
        exact zX13_whole_J43 hD hL hf hM
      · refine z_aload_n 1 dX13_whole_25 rfl rfl ?_
        refine z_iconst 0 dX13_whole_26 rfl ?_
        obtain ⟨hi_10, hf⟩ := zck_some hf
        refine z_iald (zAr_t hi_10) hi_10.2 dX13_whole_27 ?_
        refine z_goto 43 dX13_whole_28 rfl ?_
        refine z_sub [1, 2] rfl ?_
        exact zX13_whole_J43 hD hL hf hM
    · refine z_iconst (-1) dX13_whole_18 rfl ?_
      cases hf
      exact z_iret dX13_whole_19 rfl hM
theorem ctX13_whole {l : Launch} {h : zH} {a : Nat} {x1 : Nat} {x2 : Int32} {v : Int32} (hL : zOb 10 h a) (hf : fX13_whole h a x1 x2 = some v) : zC l yX13_whole (ws_ yX13_whole cX13_whole 5 (some .int)) 4 [.ref a, .ref x1, .int x2] h (.inl (some (.int v)), h) :=
  z_start (by decide) (Nat.le_of_ble_eq_true rfl) (zX13_whole (F := (l, 4, h, (.inl (some (.int v)), h))) (Nat.le_refl _) hL hf rfl)
noncomputable def fX13_begins (h : zH) (a : Nat) (x1 : Nat) (x2 : Int32) : Option (Int32) := zck (zAr h x1 0) (zb1 (fX13_length (zI h x1 (0 : Int32).toNatClampNeg)) (fun v_3 => if v_3 ≤ x2 then (some 0) else (zb1 (fX13_isFine h x1 x2) (fun v_6 => if v_6 = 0 then (some 0) else (some 1)))))
theorem zX13_begins {F : zF} {h : zH} {a : Nat} {x1 : Nat} {x2 : Int32} {y : Int32} (hD : 4 ≤ F.2.1) (hL : zOb 10 h a) (hf : fX13_begins h a x1 x2 = some y) (hM : ((.inl (some (.int y)), h) : zX) = zEnd F) : Z F 3 cX13_begins RX13 "begins" (some .boolean) [] h 0 [(0, .ref a), (1, .ref x1), (2, .int x2)] [] := by
  unfold fX13_begins at hf
  refine z_aload_n 1 dX13_begins_0 rfl rfl ?_
  refine z_iconst 0 dX13_begins_1 rfl ?_
  obtain ⟨hi_1, hf⟩ := zck_some hf
  refine z_iald (zAr_t hi_1) hi_1.2 dX13_begins_2 ?_
  obtain ⟨v_3, hc_2, hf⟩ := zb1_some hf
  refine z_invSi suX13_19_s (ctX13_length hc_2) ⟨Nat.le_trans (by decide) hD, by decide⟩ rfl rfl (Nat.le_of_ble_eq_true rfl) dX13_begins_3 ?_
  refine z_iload_n 2 dX13_begins_6 rfl rfl ?_
  refine z_icmp_le 22 dX13_begins_7 rfl hf (fun _ hf => ?_) (fun _ hf => ?_)
  · refine z_iconst 0 dX13_begins_22 rfl ?_
    cases hf
    exact z_zret dX13_begins_23 rfl (Or.inl rfl) hM
  · refine z_aload_n 1 dX13_begins_10 rfl rfl ?_
    refine z_iload_n 2 dX13_begins_11 rfl rfl ?_
    obtain ⟨v_6, hc_5, hf⟩ := zb1_some hf
    refine z_invSi suX13_23_s (ctX13_isFine hc_5) ⟨Nat.le_trans (by decide) hD, by decide⟩ rfl rfl (Nat.le_of_ble_eq_true rfl) dX13_begins_12 ?_
    refine z_if_eq 22 dX13_begins_15 rfl hf (fun _ hf => ?_) (fun _ hf => ?_)
    · refine z_iconst 0 dX13_begins_22 rfl ?_
      cases hf
      exact z_zret dX13_begins_23 rfl (Or.inl rfl) hM
    · refine z_iconst 1 dX13_begins_18 rfl ?_
      refine z_goto 23 dX13_begins_19 rfl ?_
      cases hf
      exact z_zret dX13_begins_23 rfl (Or.inr rfl) hM
theorem ctX13_begins {l : Launch} {h : zH} {a : Nat} {x1 : Nat} {x2 : Int32} {v : Int32} (hL : zOb 10 h a) (hf : fX13_begins h a x1 x2 = some v) : zC l yX13_begins (ws_ yX13_begins cX13_begins 3 (some .boolean)) 4 [.ref a, .ref x1, .int x2] h (.inl (some (.int v)), h) :=
  z_start (by decide) (Nat.le_of_ble_eq_true rfl) (zX13_begins (F := (l, 4, h, (.inl (some (.int v)), h))) (Nat.le_refl _) hL hf rfl)
theorem suX10_7_10 : zIu RX10 7 ⟨"CodeExchange$Form", "whole", "([II)I"⟩ "CodeExchange$Form" yX13_whole (ws_ yX13_whole cX13_whole 5 (some .int)) 5 10 2 := ⟨(zGood_c q995 q113), ⟨_, _, rfl, rfl, q993⟩, q990, q992, (Or.inr q991), by decide, q994, by decide +kernel⟩
theorem fdX10_13_10 : zFd RX10 13 10 0 .int false := ⟨_, _, _, rfl, rfl, by decide, rfl, rfl, Or.inl q264, Or.inr q265⟩
noncomputable def fX10_match_10_L3 (h : zH) (a : Nat) (x3 : Nat) (x4 : Int32) (x5 : Int32) : Option ((zH × Int32) ⊕ ((zH) ⊕ (Int32 × zH))) := if x4 < x5 then (some (.inr (.inl h))) else (if 4 < x5 then (some (.inr (.inl h))) else (zb1 (fX13_whole h a x3 x5) (fun v_2 => zlet (zsI h a 0 v_2) (fun h_4 => if (zI h_4 a 0) < 0 then (some (.inl ((h_4, x5 + 1)))) else (some (.inr (.inr ((x5, h_4)))))))))
theorem zX10_match_10_L3 {F : zF} {h : zH} {a : Nat} {x3 : Nat} {x4 : Int32} {x5 : Int32} {y : (zH × Int32) ⊕ ((zH) ⊕ (Int32 × zH))} (hD : 5 ≤ F.2.1) (hL : zOb 10 h a) (hf : fX10_match_10_L3 h a x3 x4 x5 = some y) (hM : ((∀ s' : zH × Int32, y = .inl s' → (zOb 10 s'.1 a → Z F 6 cX10_match RX10 "match" (some .int) [] s'.1 3 [(0, .ref a), (3, .ref x3), (4, .int x4), (5, .int s'.2)] [])) ∧ ∀ r : (zH) ⊕ (Int32 × zH), y = .inr r → (match r with | .inl t => (zOb 10 t a → Z F 6 cX10_match RX10 "match" (some .int) [] t 43 [(0, .ref a), (3, .ref x3), (4, .int x4)] []) | .inr z => ((.inl (some (.int z.1)), z.2) : zX) = zEnd F))) : Z F 6 cX10_match RX10 "match" (some .int) [] h 3 [(0, .ref a), (3, .ref x3), (4, .int x4), (5, .int x5)] [] := by
  unfold fX10_match_10_L3 at hf
  refine z_iload 3 dX10_match_3 rfl ?_
  refine z_iload 2 dX10_match_5 rfl ?_
  refine z_icmp_gt 43 dX10_match_7 rfl hf (fun _ hf => ?_) (fun _ hf => ?_)
  · cases hf
    refine z_sub [0, 1, 2] rfl ?_
    exact (hM.2 _ rfl) hL
  · refine z_iload 3 dX10_match_10 rfl ?_
    refine z_iconst 4 dX10_match_12 rfl ?_
    refine z_icmp_gt 43 dX10_match_13 rfl hf (fun _ hf => ?_) (fun _ hf => ?_)
    · cases hf
      refine z_sub [0, 1, 2] rfl ?_
      exact (hM.2 _ rfl) hL
    · refine z_aload_n 0 dX10_match_16 rfl rfl ?_
      refine z_aload_n 0 dX10_match_17 rfl rfl ?_
      refine z_aload_n 1 dX10_match_18 rfl rfl ?_
      refine z_iload 3 dX10_match_19 rfl ?_
      obtain ⟨v_2, hc_1, hf⟩ := zb1_some hf
      refine z_invUi suX10_7_10 (ctX13_whole hL hc_1) ((hL.b 0 rfl).t 0 rfl) ⟨Nat.le_trans (by decide) hD, by decide⟩ rfl rfl (Nat.le_of_ble_eq_true rfl) dX10_match_21 ?_
      obtain ⟨h_4, he, hf⟩ := zlet_some hf
      refine z_puti fdX10_13_10 ((hL.b 0 rfl).t 0 rfl) ((hL.b 0 rfl).nz 0) he dX10_match_24 ?_
      have hL := hL.I he
      refine z_aload_n 0 dX10_match_27 rfl rfl ?_
      refine z_geti fdX10_13_10 ((hL.b 0 rfl).t 0 rfl) dX10_match_28 ?_
      refine z_if_lt 37 dX10_match_31 rfl hf (fun _ hf => ?_) (fun _ hf => ?_)
      · refine z_iinc 3 (x5 + 1) dX10_match_37 rfl rfl (by decide) (lc' := [(0, .ref a), (3, .ref x3), (4, .int x4), (5, .int (x5 + 1))]) rfl ?_
        refine z_goto 3 dX10_match_40 rfl ?_
        cases hf
        exact (hM.1 _ rfl) hL
      · refine z_iload 3 dX10_match_34 rfl ?_
        cases hf
        exact z_iret dX10_match_36 rfl (hM.2 _ rfl)
theorem suX10_17_10 : zIu RX10 17 ⟨"CodeExchange$Form", "begins", "([II)Z"⟩ "CodeExchange$Form" yX13_begins (ws_ yX13_begins cX13_begins 3 (some .boolean)) 3 10 2 := ⟨(zGood_c q1036 q113), ⟨_, _, rfl, rfl, q1034⟩, q1031, q1033, (Or.inr q1032), by decide, q1035, by decide +kernel⟩
noncomputable def fX10_match_10_J43 (h : zH) (a : Nat) (x3 : Nat) (x4 : Int32) : Option (Int32 × zH) := if 4 ≤ x4 then (some ((0, h))) else (zb1 (fX13_begins h a x3 x4) (fun v_7 => if v_7 = 0 then (some ((0, h))) else (some (((-1), h)))))
theorem zX10_match_10_J43 {F : zF} {h : zH} {a : Nat} {x3 : Nat} {x4 : Int32} {y : Int32 × zH} (hD : 5 ≤ F.2.1) (hL : zOb 10 h a) (hf : fX10_match_10_J43 h a x3 x4 = some y) (hM : ((.inl (some (.int y.1)), y.2) : zX) = zEnd F) : Z F 6 cX10_match RX10 "match" (some .int) [] h 43 [(0, .ref a), (3, .ref x3), (4, .int x4)] [] := by
  unfold fX10_match_10_J43 at hf
  refine z_iload 2 dX10_match_43 rfl ?_
  refine z_iconst 4 dX10_match_45 rfl ?_
  refine z_icmp_ge 63 dX10_match_46 rfl hf (fun _ hf => ?_) (fun _ hf => ?_)
  · refine z_iconst 0 dX10_match_63 rfl ?_
    cases hf
    exact z_iret dX10_match_64 rfl hM
  · refine z_aload_n 0 dX10_match_49 rfl rfl ?_
    refine z_aload_n 1 dX10_match_50 rfl rfl ?_
    refine z_iload 2 dX10_match_51 rfl ?_
    obtain ⟨v_7, hc_6, hf⟩ := zb1_some hf
    refine z_invUi suX10_17_10 (ctX13_begins hL hc_6) ((hL.b 0 rfl).t 0 rfl) ⟨Nat.le_trans (by decide) hD, by decide⟩ rfl rfl (Nat.le_of_ble_eq_true rfl) dX10_match_53 ?_
    refine z_if_eq 63 dX10_match_56 rfl hf (fun _ hf => ?_) (fun _ hf => ?_)
    · refine z_iconst 0 dX10_match_63 rfl ?_
      cases hf
      exact z_iret dX10_match_64 rfl hM
    · refine z_iconst (-1) dX10_match_59 rfl ?_
      refine z_goto 64 dX10_match_60 rfl ?_
      cases hf
      exact z_iret dX10_match_64 rfl hM
noncomputable def fX10_match_10 (h : zH) (a : Nat) (x1 : Int32) (x2 : Int32) (x3 : Nat) (x4 : Int32) : Option (Int32 × zH) := zlx (zlp (fun s => fX10_match_10_L3 s.1 a x3 x4 s.2) (h, 1)) (fun t_5 => fX10_match_10_J43 t_5 a x3 x4)
theorem zX10_match_10 {F : zF} {h : zH} {a : Nat} {x1 : Int32} {x2 : Int32} {x3 : Nat} {x4 : Int32} {y : Int32 × zH} (hD : 5 ≤ F.2.1) (hL : zOb 10 h a) (hf : fX10_match_10 h a x1 x2 x3 x4 = some y) (hM : ((.inl (some (.int y.1)), y.2) : zX) = zEnd F) : Z F 6 cX10_match RX10 "match" (some .int) [] h 0 [(0, .ref a), (1, .int x1), (2, .int x2), (3, .ref x3), (4, .int x4)] [] := by
  unfold fX10_match_10 at hf
  refine z_iconst 1 dX10_match_0 rfl ?_
  refine z_istore dX10_match_1 (by decide) (lc' := [(0, .ref a), (1, .int x1), (2, .int x2), (3, .ref x3), (4, .int x4), (5, .int 1)]) rfl ?_
  refine z_sub [0, 3, 4, 5] rfl ?_
  obtain ⟨rr, hl, hf⟩ := zlx_some hf
  refine z_loop (fun (s : zH × Int32) => (zOb 10 s.1 a → Z F 6 cX10_match RX10 "match" (some .int) [] s.1 3 [(0, .ref a), (3, .ref x3), (4, .int x4), (5, .int s.2)] [])) (fun (r : (zH) ⊕ (Int32 × zH)) => (match r with | .inl t => (zOb 10 t a → Z F 6 cX10_match RX10 "match" (some .int) [] t 43 [(0, .ref a), (3, .ref x3), (4, .int x4)] []) | .inr z => ((.inl (some (.int z.1)), z.2) : zX) = zEnd F)) (fun s y hb hs hr hL => zX10_match_10_L3 hD hL hb ⟨hs, hr⟩) hl ?_ hL
  rcases hf with ⟨t_5, rfl, hf⟩ | rfl
  · intro hL
    show Z F 6 cX10_match RX10 "match" (some .int) [] t_5 43 [(0, .ref a), (3, .ref x3), (4, .int x4)] []
    exact zX10_match_10_J43 hD hL hf hM
  · exact hM
theorem ctX10_match_10 {l : Launch} {h : zH} {a : Nat} {x1 : Int32} {x2 : Int32} {x3 : Nat} {x4 : Int32} {v : Int32} {h' : zH} (hL : zOb 10 h a) (hf : fX10_match_10 h a x1 x2 x3 x4 = some (v, h')) : zC l yX10_match (ws_ yX10_match cX10_match 6 (some .int)) 5 [.ref a, .int x1, .int x2, .ref x3, .int x4] h (.inl (some (.int v)), h') :=
  z_start (by decide) (Nat.le_of_ble_eq_true rfl) (zX10_match_10 (F := (l, 5, h, (.inl (some (.int v)), h'))) (Nat.le_refl _) hL hf rfl)
theorem fdX4_3_3 : zFd RX4 3 3 11 (.object "CodeExchange") true := ⟨_, _, _, rfl, rfl, by decide, rfl, rfl, Or.inl q389, Or.inl rfl⟩
theorem fdX4_58_0 : zFd RX4 58 0 19 .int false := ⟨_, _, _, rfl, rfl, by decide, rfl, rfl, Or.inr ⟨_, q504⟩, Or.inl rfl⟩
theorem suX4_61_0 : zIv RX4 61 yX0_refused (ws_ yX0_refused cX0_refused 2 (some (.object "CodeExchange$Refusal"))) 2 0 1 := ⟨(zGood_c q721 q97), ⟨_, _, rfl, rfl, qs6⟩, (Or.inr ⟨_, q1066⟩), q720, ⟨by decide, by decide⟩, by decide +kernel⟩
noncomputable def fX4_ends_3 (h : zH) (a : Nat) (xx : Nat) (x1 : Int32) (x2 : Int32) : Option (Option Nat × zH) := zlet (zsI h xx 19 ((zI h a 9) - x2)) (fun h_1 => zlet (zsI h_1 a 10 2) (fun h_2 => zlet (zsI h_2 a 8 0) (fun h_3 => zlet (zsI h_3 a 7 4) (fun h_4 => zb2 (fX0_refused h_4 xx x1) (fun v_6 h_7 => zb1 v_6 (fun b_8 => some (((some b_8), h_7))))))))
theorem zX4_ends_3 {F : zF} {h : zH} {a : Nat} {xx : Nat} {x1 : Int32} {x2 : Int32} {y : Option Nat × zH} (hD : 2 ≤ F.2.1) (hL : zRd h a xx) (hf : fX4_ends_3 h a xx x1 x2 = some y) (hM : ((.inl (some (va_rf y.1)), y.2) : zX) = zEnd F) : Z F 3 cX4_ends RX4 "ends" (some (.object "CodeExchange$Refusal")) [] h 0 [(0, .ref a), (1, .int x1), (2, .int x2)] [] := by
  unfold fX4_ends_3 at hf
  refine z_aload_n 0 dX4_ends_0 rfl rfl ?_
  refine z_getr fdX4_3_3 (Or.inl ⟨_, rfl⟩) ((hL.b 0 rfl).t 0 rfl) (hL.f 0 rfl) dX4_ends_1 ?_
  refine z_aload_n 0 dX4_ends_4 rfl rfl ?_
  refine z_geti fdX4_46_3 ((hL.b 0 rfl).t 0 rfl) dX4_ends_5 ?_
  refine z_iload_n 2 dX4_ends_8 rfl rfl ?_
  refine z_isub dX4_ends_9 ?_
  obtain ⟨h_1, he, hf⟩ := zlet_some hf
  refine z_puti fdX4_58_0 ((hL.b 1 rfl).t 0 rfl) ((hL.b 1 rfl).nz 0) he dX4_ends_10 ?_
  have hL := hL.I he
  refine z_aload_n 0 dX4_ends_13 rfl rfl ?_
  refine z_iconst 2 dX4_ends_14 rfl ?_
  obtain ⟨h_2, he, hf⟩ := zlet_some hf
  refine z_puti fdX4_49_3 ((hL.b 0 rfl).t 0 rfl) ((hL.b 0 rfl).nz 0) he dX4_ends_15 ?_
  have hL := hL.I he
  refine z_aload_n 0 dX4_ends_18 rfl rfl ?_
  refine z_iconst 0 dX4_ends_19 rfl ?_
  obtain ⟨h_3, he, hf⟩ := zlet_some hf
  refine z_puti fdX4_43_3 ((hL.b 0 rfl).t 0 rfl) ((hL.b 0 rfl).nz 0) he dX4_ends_20 ?_
  have hL := hL.I he
  refine z_aload_n 0 dX4_ends_23 rfl rfl ?_
  refine z_iconst 4 dX4_ends_24 rfl ?_
  obtain ⟨h_4, he, hf⟩ := zlet_some hf
  refine z_puti fdX4_40_3 ((hL.b 0 rfl).t 0 rfl) ((hL.b 0 rfl).nz 0) he dX4_ends_25 ?_
  have hL := hL.I he
  refine z_aload_n 0 dX4_ends_28 rfl rfl ?_
  refine z_getr fdX4_3_3 (Or.inl ⟨_, rfl⟩) ((hL.b 0 rfl).t 0 rfl) (hL.f 0 rfl) dX4_ends_29 ?_
  refine z_iload_n 1 dX4_ends_32 rfl rfl ?_
  obtain ⟨v_6, h_7, hc_5, hf⟩ := zb2_some hf
  have hct := ctX0_refused (l := F.1) (hL.sub [1] [] rfl rfl) hc_5
  refine z_invVq suX4_61_0 hct ((hL.b 1 rfl).t 0 rfl) ⟨Nat.le_trans (by decide) hD, by decide⟩ rfl rfl (Nat.le_of_ble_eq_true rfl) dX4_ends_33 ?_
  have hL := hL.ext hct.1
  obtain ⟨b_8, e9, hf9⟩ := zb1_some hf
  subst e9
  have hf := hf9
  cases hf
  exact z_aret (o := (some b_8)) dX4_ends_36 rfl (Or.inl ⟨_, rfl⟩) hM
theorem ctX4_ends_3 {l : Launch} {h : zH} {a : Nat} {xx : Nat} {x1 : Int32} {x2 : Int32} {v : Option Nat} {h' : zH} (hL : zRd h a xx) (hf : fX4_ends_3 h a xx x1 x2 = some (v, h')) : zC l yX4_ends (ws_ yX4_ends cX4_ends 3 (some (.object "CodeExchange$Refusal"))) 2 [.ref a, .int x1, .int x2] h (.inl (some (va_rf v)), h') :=
  z_start (by decide) (Nat.le_of_ble_eq_true rfl) (zX4_ends_3 (F := (l, 2, h, (.inl (some (va_rf v)), h'))) (Nat.le_refl _) hL hf rfl)
theorem fdX5_19_3 : zFd RX5 19 3 8 .int false := ⟨_, _, _, rfl, rfl, by decide, rfl, rfl, Or.inl q380, Or.inr q381⟩
theorem fdX5_15_3 : zFd RX5 15 3 12 (.array .int) true := ⟨_, _, _, rfl, rfl, by decide, rfl, rfl, Or.inl q346, Or.inl rfl⟩
noncomputable def fX5_skip_L12 (h : zH) (a : Nat) (xx : Nat) (x1 : Int32) (x2 : Int32) : Option ((zH × Int32) ⊕ (zH)) := if (zI h a 8) ≤ x2 then (some (.inr h)) else (zck (vp_in (x2 + x1) 4) (zck (vp_in x2 4) (zlet (zsI h (a + 2) x2.toNatClampNeg (zI h (a + 2) (x2 + x1).toNatClampNeg)) (fun h_4 => some (.inl ((h_4, x2 + 1)))))))
theorem zX5_skip_L12 {F : zF} {h : zH} {a : Nat} {xx : Nat} {x1 : Int32} {x2 : Int32} {y : (zH × Int32) ⊕ (zH)} (hD : 1 ≤ F.2.1) (hL : zRd h a xx) (hf : fX5_skip_L12 h a xx x1 x2 = some y) (hM : ((∀ s' : zH × Int32, y = .inl s' → (zRd s'.1 a xx → Z F 3 cX5_skip RX5 "skip" none [] s'.1 12 [(0, .ref a), (1, .int x1), (2, .int s'.2)] [])) ∧ ∀ r : zH, y = .inr r → ((.inl none, r) : zX) = zEnd F)) : Z F 3 cX5_skip RX5 "skip" none [] h 12 [(0, .ref a), (1, .int x1), (2, .int x2)] [] := by
  unfold fX5_skip_L12 at hf
  refine z_iload_n 2 dX5_skip_12 rfl rfl ?_
  refine z_aload_n 0 dX5_skip_13 rfl rfl ?_
  refine z_geti fdX5_19_3 ((hL.b 0 rfl).t 0 rfl) dX5_skip_14 ?_
  refine z_icmp_ge 40 dX5_skip_17 rfl hf (fun _ hf => ?_) (fun _ hf => ?_)
  · cases hf
    exact z_vret dX5_skip_40 rfl (hM.2 _ rfl)
  · refine z_aload_n 0 dX5_skip_20 rfl rfl ?_
    refine z_getr fdX5_15_3 (Or.inr ⟨_, rfl⟩) ((hL.b 0 rfl).t 0 rfl) ((hL.b 0 rfl).p 1 rfl) dX5_skip_21 ?_
    refine z_iload_n 2 dX5_skip_24 rfl rfl ?_
    refine z_aload_n 0 dX5_skip_25 rfl rfl ?_
    refine z_getr fdX5_15_3 (Or.inr ⟨_, rfl⟩) ((hL.b 0 rfl).t 0 rfl) ((hL.b 0 rfl).p 1 rfl) dX5_skip_26 ?_
    refine z_iload_n 2 dX5_skip_29 rfl rfl ?_
    refine z_iload_n 1 dX5_skip_30 rfl rfl ?_
    refine z_iadd dX5_skip_31 ?_
    obtain ⟨hi_2, hf⟩ := zck_some hf
    refine z_iald ((hL.b 0 rfl).t 2 rfl) hi_2 dX5_skip_32 ?_
    obtain ⟨hi_3, hf⟩ := zck_some hf
    obtain ⟨h_4, he, hf⟩ := zlet_some hf
    refine z_iast ((hL.b 0 rfl).t 2 rfl) ((hL.b 0 rfl).nz 2) hi_3 he dX5_skip_33 ?_
    have hL := hL.I he
    refine z_iinc 2 (x2 + 1) dX5_skip_34 rfl rfl (by decide) (lc' := [(0, .ref a), (1, .int x1), (2, .int (x2 + 1))]) rfl ?_
    refine z_goto 12 dX5_skip_37 rfl ?_
    cases hf
    exact (hM.1 _ rfl) hL
noncomputable def fX5_skip (h : zH) (a : Nat) (xx : Nat) (x1 : Int32) : Option (zH) := zlet (zsI h a 8 ((zI h a 8) - x1)) (fun h_1 => zlp (fun s => fX5_skip_L12 s.1 a xx x1 s.2) (h_1, 0))
theorem zX5_skip {F : zF} {h : zH} {a : Nat} {xx : Nat} {x1 : Int32} {y : zH} (hD : 1 ≤ F.2.1) (hL : zRd h a xx) (hf : fX5_skip h a xx x1 = some y) (hM : ((.inl none, y) : zX) = zEnd F) : Z F 3 cX5_skip RX5 "skip" none [] h 0 [(0, .ref a), (1, .int x1)] [] := by
  unfold fX5_skip at hf
  refine z_aload_n 0 dX5_skip_0 rfl rfl ?_
  refine z_dup dX5_skip_1 rfl ?_
  refine z_geti fdX5_19_3 ((hL.b 0 rfl).t 0 rfl) dX5_skip_2 ?_
  refine z_iload_n 1 dX5_skip_5 rfl rfl ?_
  refine z_isub dX5_skip_6 ?_
  obtain ⟨h_1, he, hf⟩ := zlet_some hf
  refine z_puti fdX5_19_3 ((hL.b 0 rfl).t 0 rfl) ((hL.b 0 rfl).nz 0) he dX5_skip_7 ?_
  have hL := hL.I he
  refine z_iconst 0 dX5_skip_10 rfl ?_
  refine z_istore_n dX5_skip_11 rfl (by decide) (lc' := [(0, .ref a), (1, .int x1), (2, .int 0)]) rfl ?_
  exact z_loop (fun (s : zH × Int32) => (zRd s.1 a xx → Z F 3 cX5_skip RX5 "skip" none [] s.1 12 [(0, .ref a), (1, .int x1), (2, .int s.2)] [])) (fun (r : zH) => ((.inl none, r) : zX) = zEnd F) (fun s y hb hs hr hL => zX5_skip_L12 hD hL hb ⟨hs, hr⟩) hf hM hL
theorem ctX5_skip {l : Launch} {h : zH} {a : Nat} {xx : Nat} {x1 : Int32} {h' : zH} (hL : zRd h a xx) (hf : fX5_skip h a xx x1 = some h') : zC l yX5_skip (ws_ yX5_skip cX5_skip 3 none) 1 [.ref a, .int x1] h (.inl none, h') :=
  z_start (by decide) (Nat.le_of_ble_eq_true rfl) (zX5_skip (F := (l, 1, h, (.inl none, h'))) (Nat.le_refl _) hL hf rfl)
theorem fdX7_15_5 : zFd RX7 15 5 0 (.array .int) true := ⟨_, _, _, rfl, rfl, by decide, rfl, rfl, Or.inl q457, Or.inl rfl⟩
noncomputable def fX7_put_J27 (h : zH) (a : Nat) (xx : Nat) (x1 : Int32) : Option (zX) := if (zI h a 2) = 0 then (zck (vp_in (zI h a 1) 6000) (zlet (zsI h (a + 1) (zI h a 1).toNatClampNeg x1) (fun h_3 => zlet (zsI h_3 a 1 ((zI h_3 a 1) + 1)) (fun h_4 => some ((.inl none, h_4)))))) else (zlet (zsI h a 1 ((zI h a 1) + 1)) (fun h_1 => some ((.inl none, h_1))))
theorem zX7_put_J27 {F : zF} {h : zH} {a : Nat} {xx : Nat} {x1 : Int32} {y : zX} (hD : 2 ≤ F.2.1) (hL : zRw h a xx) (hf : fX7_put_J27 h a xx x1 = some y) (hM : (y : zX) = zEnd F) : Z F 2 cX7_put RX7 "put" none [] h 27 [(0, .ref a), (1, .int x1)] [] := by
  unfold fX7_put_J27 at hf
  refine z_aload_n 0 dX7_put_27 rfl rfl ?_
  refine z_getz fdX7_19_5 ((hL.b 0 rfl).t 0 rfl) dX7_put_28 ?_
  refine z_if_ne 44 dX7_put_31 rfl hf (fun _ hf => ?_) (fun _ hf => ?_)
  · refine z_aload_n 0 dX7_put_44 rfl rfl ?_
    refine z_dup dX7_put_45 rfl ?_
    refine z_geti fdX7_23_5 ((hL.b 0 rfl).t 0 rfl) dX7_put_46 ?_
    refine z_iconst 1 dX7_put_49 rfl ?_
    refine z_iadd dX7_put_50 ?_
    obtain ⟨h_1, he, hf⟩ := zlet_some hf
    refine z_puti fdX7_23_5 ((hL.b 0 rfl).t 0 rfl) ((hL.b 0 rfl).nz 0) he dX7_put_51 ?_
    have hL := hL.I he
    cases hf
    exact z_vret dX7_put_54 rfl hM
  · refine z_aload_n 0 dX7_put_34 rfl rfl ?_
    refine z_getr fdX7_15_5 (Or.inr ⟨_, rfl⟩) ((hL.b 0 rfl).t 0 rfl) ((hL.b 0 rfl).p 0 rfl) dX7_put_35 ?_
    refine z_aload_n 0 dX7_put_38 rfl rfl ?_
    refine z_geti fdX7_23_5 ((hL.b 0 rfl).t 0 rfl) dX7_put_39 ?_
    refine z_iload_n 1 dX7_put_42 rfl rfl ?_
    obtain ⟨hi_2, hf⟩ := zck_some hf
    obtain ⟨h_3, he, hf⟩ := zlet_some hf
    refine z_iast ((hL.b 0 rfl).t 1 rfl) ((hL.b 0 rfl).nz 1) hi_2 he dX7_put_43 ?_
    have hL := hL.I he
    refine z_aload_n 0 dX7_put_44 rfl rfl ?_
    refine z_dup dX7_put_45 rfl ?_
    refine z_geti fdX7_23_5 ((hL.b 0 rfl).t 0 rfl) dX7_put_46 ?_
    refine z_iconst 1 dX7_put_49 rfl ?_
    refine z_iadd dX7_put_50 ?_
    obtain ⟨h_4, he, hf⟩ := zlet_some hf
    refine z_puti fdX7_23_5 ((hL.b 0 rfl).t 0 rfl) ((hL.b 0 rfl).nz 0) he dX7_put_51 ?_
    have hL := hL.I he
    cases hf
    exact z_vret dX7_put_54 rfl hM
theorem fdX7_3_5 : zFd RX7 3 5 3 (.object "CodeExchange") true := ⟨_, _, _, rfl, rfl, by decide, rfl, rfl, Or.inl q462, Or.inl rfl⟩
theorem suX7_27_0 : zIv RX7 27 yX0_refused (ws_ yX0_refused cX0_refused 2 (some (.object "CodeExchange$Refusal"))) 2 0 1 := ⟨(zGood_c q721 q97), ⟨_, _, rfl, rfl, qs6⟩, (Or.inr ⟨_, q1091⟩), q720, ⟨by decide, by decide⟩, by decide +kernel⟩
noncomputable def fX7_put (h : zH) (a : Nat) (xx : Nat) (x1 : Int32) : Option (zX) := if (zI h a 2) = 0 then (if (zI h a 1) = 6000 then (zb2 (fX0_refused h xx ((-6))) (fun v_6 h_7 => zb1 v_6 (fun b_8 => some ((.inr b_8, h_7))))) else (fX7_put_J27 h a xx x1)) else (fX7_put_J27 h a xx x1)
theorem zX7_put {F : zF} {h : zH} {a : Nat} {xx : Nat} {x1 : Int32} {y : zX} (hD : 2 ≤ F.2.1) (hL : zRw h a xx) (hf : fX7_put h a xx x1 = some y) (hM : (y : zX) = zEnd F) : Z F 2 cX7_put RX7 "put" none [] h 0 [(0, .ref a), (1, .int x1)] [] := by
  unfold fX7_put at hf
  refine z_aload_n 0 dX7_put_0 rfl rfl ?_
  refine z_getz fdX7_19_5 ((hL.b 0 rfl).t 0 rfl) dX7_put_1 ?_
  refine z_if_ne 27 dX7_put_4 rfl hf (fun _ hf => ?_) (fun _ hf => ?_)
  · exact zX7_put_J27 hD hL hf hM
  · refine z_aload_n 0 dX7_put_7 rfl rfl ?_
    refine z_geti fdX7_23_5 ((hL.b 0 rfl).t 0 rfl) dX7_put_8 ?_
    refine z_sipush 6000 dX7_put_11 rfl ?_
    refine z_icmp_ne 27 dX7_put_14 rfl hf (fun _ hf => ?_) (fun _ hf => ?_)
    · exact zX7_put_J27 hD hL hf hM
    · refine z_aload_n 0 dX7_put_17 rfl rfl ?_
      refine z_getr fdX7_3_5 (Or.inl ⟨_, rfl⟩) ((hL.b 0 rfl).t 0 rfl) (hL.f 0 rfl) dX7_put_18 ?_
      refine z_bipush (-6) dX7_put_21 rfl ?_
      obtain ⟨v_6, h_7, hc_5, hf⟩ := zb2_some hf
      have hct := ctX0_refused (l := F.1) (hL.sub [1] [] rfl rfl) hc_5
      refine z_invVq suX7_27_0 hct ((hL.b 1 rfl).t 0 rfl) ⟨Nat.le_trans (by decide) hD, by decide⟩ rfl rfl (Nat.le_of_ble_eq_true rfl) dX7_put_23 ?_
      have hL := hL.ext hct.1
      obtain ⟨b_8, e9, hf9⟩ := zb1_some hf
      subst e9
      have hf := hf9
      refine z_athrow dX7_put_26 ?_
      cases hf
      exact zt_out rfl hM
theorem ctX7_put {l : Launch} {h : zH} {a : Nat} {xx : Nat} {x1 : Int32} {y : zX} (hL : zRw h a xx) (hf : fX7_put h a xx x1 = some y) : zC l yX7_put (ws_ yX7_put cX7_put 2 none) 2 [.ref a, .int x1] h y :=
  z_start (by decide) (Nat.le_of_ble_eq_true rfl) (zX7_put (F := (l, 2, h, y)) (Nat.le_refl _) hL hf rfl)
theorem fdX4_15_3 : zFd RX4 15 3 0 (.array .int) true := ⟨_, _, _, rfl, rfl, by decide, rfl, rfl, Or.inl q350, Or.inl rfl⟩
noncomputable def fX4_put_3_J40 (h : zH) (a : Nat) (xx : Nat) (x1 : Int32) : Option (zH) := zck (vp_in ((zI h a 4) + (zI h a 5)) 700) (zlet (zsI h (a + 1) ((zI h a 4) + (zI h a 5)).toNatClampNeg x1) (fun h_2 => zlet (zsI h_2 a 5 ((zI h_2 a 5) + 1)) (fun h_3 => some h_3)))
theorem zX4_put_3_J40 {F : zF} {h : zH} {a : Nat} {xx : Nat} {x1 : Int32} {y : zH} (hD : 2 ≤ F.2.1) (hL : zRd h a xx) (hf : fX4_put_3_J40 h a xx x1 = some y) (hM : ((.inl none, y) : zX) = zEnd F) : Z F 2 cX4_put RX4 "put" none [] h 40 [(0, .ref a), (1, .int x1)] [] := by
  unfold fX4_put_3_J40 at hf
  refine z_aload_n 0 dX4_put_40 rfl rfl ?_
  refine z_getr fdX4_15_3 (Or.inr ⟨_, rfl⟩) ((hL.b 0 rfl).t 0 rfl) ((hL.b 0 rfl).p 0 rfl) dX4_put_41 ?_
  refine z_aload_n 0 dX4_put_44 rfl rfl ?_
  refine z_geti fdX4_31_3 ((hL.b 0 rfl).t 0 rfl) dX4_put_45 ?_
  refine z_aload_n 0 dX4_put_48 rfl rfl ?_
  refine z_geti fdX4_34_3 ((hL.b 0 rfl).t 0 rfl) dX4_put_49 ?_
  refine z_iadd dX4_put_52 ?_
  refine z_iload_n 1 dX4_put_53 rfl rfl ?_
  obtain ⟨hi_1, hf⟩ := zck_some hf
  obtain ⟨h_2, he, hf⟩ := zlet_some hf
  refine z_iast ((hL.b 0 rfl).t 1 rfl) ((hL.b 0 rfl).nz 1) hi_1 he dX4_put_54 ?_
  have hL := hL.I he
  refine z_aload_n 0 dX4_put_55 rfl rfl ?_
  refine z_dup dX4_put_56 rfl ?_
  refine z_geti fdX4_34_3 ((hL.b 0 rfl).t 0 rfl) dX4_put_57 ?_
  refine z_iconst 1 dX4_put_60 rfl ?_
  refine z_iadd dX4_put_61 ?_
  obtain ⟨h_3, he, hf⟩ := zlet_some hf
  refine z_puti fdX4_34_3 ((hL.b 0 rfl).t 0 rfl) ((hL.b 0 rfl).nz 0) he dX4_put_62 ?_
  have hL := hL.I he
  cases hf
  exact z_vret dX4_put_65 rfl hM
noncomputable def fX4_put_3 (h : zH) (a : Nat) (xx : Nat) (x1 : Int32) : Option (zH) := if ((zI h a 4) + (zI h a 5)) = 700 then (zck (zcpOk 700 700 (zI h a 4) (0 : Int32) (zI h a 5)) (zlet (zsC h (a + 1) (va_cpy (zI h (a + 1)) (zI h (a + 1)) (zI h a 4).toNatClampNeg (0 : Int32).toNatClampNeg (zI h a 5).toNatClampNeg)) (fun h_5 => zlet (zsI h_5 a 4 0) (fun h_6 => fX4_put_3_J40 h_6 a xx x1)))) else (fX4_put_3_J40 h a xx x1)
theorem zX4_put_3 {F : zF} {h : zH} {a : Nat} {xx : Nat} {x1 : Int32} {y : zH} (hD : 2 ≤ F.2.1) (hL : zRd h a xx) (hf : fX4_put_3 h a xx x1 = some y) (hM : ((.inl none, y) : zX) = zEnd F) : Z F 2 cX4_put RX4 "put" none [] h 0 [(0, .ref a), (1, .int x1)] [] := by
  unfold fX4_put_3 at hf
  refine z_aload_n 0 dX4_put_0 rfl rfl ?_
  refine z_geti fdX4_31_3 ((hL.b 0 rfl).t 0 rfl) dX4_put_1 ?_
  refine z_aload_n 0 dX4_put_4 rfl rfl ?_
  refine z_geti fdX4_34_3 ((hL.b 0 rfl).t 0 rfl) dX4_put_5 ?_
  refine z_iadd dX4_put_8 ?_
  refine z_sipush 700 dX4_put_9 rfl ?_
  refine z_icmp_ne 40 dX4_put_12 rfl hf (fun _ hf => ?_) (fun _ hf => ?_)
  · exact zX4_put_3_J40 hD hL hf hM
  · refine z_aload_n 0 dX4_put_15 rfl rfl ?_
    refine z_getr fdX4_15_3 (Or.inr ⟨_, rfl⟩) ((hL.b 0 rfl).t 0 rfl) ((hL.b 0 rfl).p 0 rfl) dX4_put_16 ?_
    refine z_aload_n 0 dX4_put_19 rfl rfl ?_
    refine z_geti fdX4_31_3 ((hL.b 0 rfl).t 0 rfl) dX4_put_20 ?_
    refine z_aload_n 0 dX4_put_23 rfl rfl ?_
    refine z_getr fdX4_15_3 (Or.inr ⟨_, rfl⟩) ((hL.b 0 rfl).t 0 rfl) ((hL.b 0 rfl).p 0 rfl) dX4_put_24 ?_
    refine z_iconst 0 dX4_put_27 rfl ?_
    refine z_aload_n 0 dX4_put_28 rfl rfl ?_
    refine z_geti fdX4_34_3 ((hL.b 0 rfl).t 0 rfl) dX4_put_29 ?_
    obtain ⟨hk_4, hf⟩ := zck_some hf
    obtain ⟨h_5, he, hf⟩ := zlet_some hf
    refine z_copy q1084 q949 q948 q120 ((hL.b 0 rfl).t 1 rfl) ((hL.b 0 rfl).t 1 rfl) ((hL.b 0 rfl).nz 1) hk_4 he (Nat.le_trans (by decide) hD) (Nat.le_of_ble_eq_true rfl) dX4_put_32 ?_
    have hfx := zLx_C he
    have hL := hL.ext hfx
    refine z_aload_n 0 dX4_put_35 rfl rfl ?_
    refine z_iconst 0 dX4_put_36 rfl ?_
    obtain ⟨h_6, he, hf⟩ := zlet_some hf
    refine z_puti fdX4_31_3 ((hL.b 0 rfl).t 0 rfl) ((hL.b 0 rfl).nz 0) he dX4_put_37 ?_
    have hL := hL.I he
    exact zX4_put_3_J40 hD hL hf hM
theorem ctX4_put_3 {l : Launch} {h : zH} {a : Nat} {xx : Nat} {x1 : Int32} {h' : zH} (hL : zRd h a xx) (hf : fX4_put_3 h a xx x1 = some h') : zC l yX4_put (ws_ yX4_put cX4_put 2 none) 2 [.ref a, .int x1] h (.inl none, h') :=
  z_start (by decide) (Nat.le_of_ble_eq_true rfl) (zX4_put_3 (F := (l, 2, h, (.inl none, h'))) (Nat.le_refl _) hL hf rfl)
theorem fdX4_31_4 : zFd RX4 31 4 4 .int false := ⟨_, _, _, rfl, rfl, by decide, rfl, rfl, Or.inl q366, Or.inl rfl⟩
theorem fdX4_34_4 : zFd RX4 34 4 5 .int false := ⟨_, _, _, rfl, rfl, by decide, rfl, rfl, Or.inl q367, Or.inl rfl⟩
theorem fdX4_15_4 : zFd RX4 15 4 0 (.array .int) true := ⟨_, _, _, rfl, rfl, by decide, rfl, rfl, Or.inl q350, Or.inl rfl⟩
noncomputable def fX4_put_4_J40 (h : zH) (a : Nat) (xx : Nat) (x1 : Int32) : Option (zH) := zck (vp_in ((zI h a 4) + (zI h a 5)) 700) (zlet (zsI h (a + 1) ((zI h a 4) + (zI h a 5)).toNatClampNeg x1) (fun h_2 => zlet (zsI h_2 a 5 ((zI h_2 a 5) + 1)) (fun h_3 => some h_3)))
theorem zX4_put_4_J40 {F : zF} {h : zH} {a : Nat} {xx : Nat} {x1 : Int32} {y : zH} (hD : 2 ≤ F.2.1) (hL : zWr h a xx) (hf : fX4_put_4_J40 h a xx x1 = some y) (hM : ((.inl none, y) : zX) = zEnd F) : Z F 2 cX4_put RX4 "put" none [] h 40 [(0, .ref a), (1, .int x1)] [] := by
  unfold fX4_put_4_J40 at hf
  refine z_aload_n 0 dX4_put_40 rfl rfl ?_
  refine z_getr fdX4_15_4 (Or.inr ⟨_, rfl⟩) ((hL.b 0 rfl).t 0 rfl) ((hL.b 0 rfl).p 0 rfl) dX4_put_41 ?_
  refine z_aload_n 0 dX4_put_44 rfl rfl ?_
  refine z_geti fdX4_31_4 ((hL.b 0 rfl).t 0 rfl) dX4_put_45 ?_
  refine z_aload_n 0 dX4_put_48 rfl rfl ?_
  refine z_geti fdX4_34_4 ((hL.b 0 rfl).t 0 rfl) dX4_put_49 ?_
  refine z_iadd dX4_put_52 ?_
  refine z_iload_n 1 dX4_put_53 rfl rfl ?_
  obtain ⟨hi_1, hf⟩ := zck_some hf
  obtain ⟨h_2, he, hf⟩ := zlet_some hf
  refine z_iast ((hL.b 0 rfl).t 1 rfl) ((hL.b 0 rfl).nz 1) hi_1 he dX4_put_54 ?_
  have hL := hL.I he
  refine z_aload_n 0 dX4_put_55 rfl rfl ?_
  refine z_dup dX4_put_56 rfl ?_
  refine z_geti fdX4_34_4 ((hL.b 0 rfl).t 0 rfl) dX4_put_57 ?_
  refine z_iconst 1 dX4_put_60 rfl ?_
  refine z_iadd dX4_put_61 ?_
  obtain ⟨h_3, he, hf⟩ := zlet_some hf
  refine z_puti fdX4_34_4 ((hL.b 0 rfl).t 0 rfl) ((hL.b 0 rfl).nz 0) he dX4_put_62 ?_
  have hL := hL.I he
  cases hf
  exact z_vret dX4_put_65 rfl hM
noncomputable def fX4_put_4 (h : zH) (a : Nat) (xx : Nat) (x1 : Int32) : Option (zH) := if ((zI h a 4) + (zI h a 5)) = 700 then (zck (zcpOk 700 700 (zI h a 4) (0 : Int32) (zI h a 5)) (zlet (zsC h (a + 1) (va_cpy (zI h (a + 1)) (zI h (a + 1)) (zI h a 4).toNatClampNeg (0 : Int32).toNatClampNeg (zI h a 5).toNatClampNeg)) (fun h_5 => zlet (zsI h_5 a 4 0) (fun h_6 => fX4_put_4_J40 h_6 a xx x1)))) else (fX4_put_4_J40 h a xx x1)
theorem zX4_put_4 {F : zF} {h : zH} {a : Nat} {xx : Nat} {x1 : Int32} {y : zH} (hD : 2 ≤ F.2.1) (hL : zWr h a xx) (hf : fX4_put_4 h a xx x1 = some y) (hM : ((.inl none, y) : zX) = zEnd F) : Z F 2 cX4_put RX4 "put" none [] h 0 [(0, .ref a), (1, .int x1)] [] := by
  unfold fX4_put_4 at hf
  refine z_aload_n 0 dX4_put_0 rfl rfl ?_
  refine z_geti fdX4_31_4 ((hL.b 0 rfl).t 0 rfl) dX4_put_1 ?_
  refine z_aload_n 0 dX4_put_4 rfl rfl ?_
  refine z_geti fdX4_34_4 ((hL.b 0 rfl).t 0 rfl) dX4_put_5 ?_
  refine z_iadd dX4_put_8 ?_
  refine z_sipush 700 dX4_put_9 rfl ?_
  refine z_icmp_ne 40 dX4_put_12 rfl hf (fun _ hf => ?_) (fun _ hf => ?_)
  · exact zX4_put_4_J40 hD hL hf hM
  · refine z_aload_n 0 dX4_put_15 rfl rfl ?_
    refine z_getr fdX4_15_4 (Or.inr ⟨_, rfl⟩) ((hL.b 0 rfl).t 0 rfl) ((hL.b 0 rfl).p 0 rfl) dX4_put_16 ?_
    refine z_aload_n 0 dX4_put_19 rfl rfl ?_
    refine z_geti fdX4_31_4 ((hL.b 0 rfl).t 0 rfl) dX4_put_20 ?_
    refine z_aload_n 0 dX4_put_23 rfl rfl ?_
    refine z_getr fdX4_15_4 (Or.inr ⟨_, rfl⟩) ((hL.b 0 rfl).t 0 rfl) ((hL.b 0 rfl).p 0 rfl) dX4_put_24 ?_
    refine z_iconst 0 dX4_put_27 rfl ?_
    refine z_aload_n 0 dX4_put_28 rfl rfl ?_
    refine z_geti fdX4_34_4 ((hL.b 0 rfl).t 0 rfl) dX4_put_29 ?_
    obtain ⟨hk_4, hf⟩ := zck_some hf
    obtain ⟨h_5, he, hf⟩ := zlet_some hf
    refine z_copy q1084 q949 q948 q120 ((hL.b 0 rfl).t 1 rfl) ((hL.b 0 rfl).t 1 rfl) ((hL.b 0 rfl).nz 1) hk_4 he (Nat.le_trans (by decide) hD) (Nat.le_of_ble_eq_true rfl) dX4_put_32 ?_
    have hfx := zLx_C he
    have hL := hL.ext hfx
    refine z_aload_n 0 dX4_put_35 rfl rfl ?_
    refine z_iconst 0 dX4_put_36 rfl ?_
    obtain ⟨h_6, he, hf⟩ := zlet_some hf
    refine z_puti fdX4_31_4 ((hL.b 0 rfl).t 0 rfl) ((hL.b 0 rfl).nz 0) he dX4_put_37 ?_
    have hL := hL.I he
    exact zX4_put_4_J40 hD hL hf hM
theorem ctX4_put_4 {l : Launch} {h : zH} {a : Nat} {xx : Nat} {x1 : Int32} {h' : zH} (hL : zWr h a xx) (hf : fX4_put_4 h a xx x1 = some h') : zC l yX4_put (ws_ yX4_put cX4_put 2 none) 2 [.ref a, .int x1] h (.inl none, h') :=
  z_start (by decide) (Nat.le_of_ble_eq_true rfl) (zX4_put_4 (F := (l, 2, h, (.inl none, h'))) (Nat.le_refl _) hL hf rfl)
noncomputable def fV_Sink_put (h : zH) (b : Nat) (p0 : Int32) : Option (zX) := if zT h b = (6, 0) then (zb1 (zP h b 3) (fun xx => zck (zRw h b xx) (fX7_put h b xx p0))) else if zT h b = (4, 0) then (zb1 (zP h b 11) (fun xx => zck (zRd h b xx) (zb1 (fX4_put_3 h b xx p0) (fun h1 => some (.inl none, h1))))) else if zT h b = (5, 0) then (zb1 (zP h b 11) (fun xx => zck (zWr h b xx) (zb1 (fX4_put_4 h b xx p0) (fun h1 => some (.inl none, h1))))) else none
theorem lV_Sink_put {l : Launch} {h : zH} {b : Nat} {p0 : Int32} {y : zX} (hf : fV_Sink_put h b p0 = some y) : zLx h y.2 := by
  unfold fV_Sink_put at hf
  refine zdsp hf (fun e hf => ?_) (fun _ hf => ?_)
  · obtain ⟨xx, hx, hf⟩ := zb1_some hf
    obtain ⟨hK, hf⟩ := zck_some hf
    have hc := hf
    exact (ctX7_put (l := l) hK hc).1
  refine zdsp hf (fun e hf => ?_) (fun _ hf => ?_)
  · obtain ⟨xx, hx, hf⟩ := zb1_some hf
    obtain ⟨hK, hf⟩ := zck_some hf
    obtain ⟨h1, hc, hf⟩ := zb1_some hf
    cases hf
    exact (ctX4_put_3 (l := l) hK hc).1
  refine zdsp hf (fun e hf => ?_) (fun _ hf => ?_)
  · obtain ⟨xx, hx, hf⟩ := zb1_some hf
    obtain ⟨hK, hf⟩ := zck_some hf
    obtain ⟨h1, hc, hf⟩ := zb1_some hf
    cases hf
    exact (ctX4_put_4 (l := l) hK hc).1
  cases hf
theorem suX0_23_5 : zIf RX0 23 ⟨"CodeExchange$Sink", "put", "(I)V"⟩ yX7_put (ws_ yX7_put cX7_put 2 none) 2 5 1 := ⟨(zGood_c q1090 q107), ⟨_, _, rfl, rfl, q1086, q1087, q1085⟩, q1075, by decide, q1089, q1088, by decide +kernel⟩
theorem suX0_23_3 : zIf RX0 23 ⟨"CodeExchange$Sink", "put", "(I)V"⟩ yX4_put (ws_ yX4_put cX4_put 2 none) 2 3 1 := ⟨(zGood_c q1083 q104), ⟨_, _, rfl, rfl, q1079, q1080, q1078⟩, q1075, by decide, q1082, q1081, by decide +kernel⟩
theorem suX0_23_4 : zIf RX0 23 ⟨"CodeExchange$Sink", "put", "(I)V"⟩ yX4_put (ws_ yX4_put cX4_put 2 none) 2 4 1 := ⟨(zGood_c q1083 q104), ⟨_, _, rfl, rfl, q1093, q1094, q1092⟩, q1075, by decide, q1082, q1081, by decide +kernel⟩
theorem zVX0_23v {F : zF} {nL : Nat} {cc : ByteArray} {nm : String} {ret : Option FieldType} {hh : List (Nat × Nat × Nat × Nat)} {h h1 : zH} {pc b : Nat} {lc : List (Nat × Value)} {st : List Value} {p0 : Int32}  (hD : 3 ≤ F.2.1) (hf : fV_Sink_put h b p0 = some (.inl none, h1)) (hcat : (st.map fun v => v.category).sum ≤ 8) (hd : decode cc pc = .ok (.invokeinterface 23 2, 5)) (kk : Z F nL cc RX0 nm ret hh h1 (pc + 5) lc (st)) : Z F nL cc RX0 nm ret hh h pc lc (.int p0 :: .ref b :: st) := by
  unfold fV_Sink_put at hf
  refine zdsp hf (fun e hf => ?_) (fun _ hf => ?_)
  · obtain ⟨xx, hx, hf⟩ := zb1_some hf
    obtain ⟨hK, hf⟩ := zck_some hf
    have hc := hf
    exact z_invFv suX0_23_5 (ctX7_put hK hc) e ⟨Nat.le_trans (by decide) hD, by decide⟩ rfl rfl hcat hd kk
  refine zdsp hf (fun e hf => ?_) (fun _ hf => ?_)
  · obtain ⟨xx, hx, hf⟩ := zb1_some hf
    obtain ⟨hK, hf⟩ := zck_some hf
    obtain ⟨h1, hc, hf⟩ := zb1_some hf
    cases hf
    exact z_invFv suX0_23_3 (ctX4_put_3 hK hc) e ⟨Nat.le_trans (by decide) hD, by decide⟩ rfl rfl hcat hd kk
  refine zdsp hf (fun e hf => ?_) (fun _ hf => ?_)
  · obtain ⟨xx, hx, hf⟩ := zb1_some hf
    obtain ⟨hK, hf⟩ := zck_some hf
    obtain ⟨h1, hc, hf⟩ := zb1_some hf
    cases hf
    exact z_invFv suX0_23_4 (ctX4_put_4 hK hc) e ⟨Nat.le_trans (by decide) hD, by decide⟩ rfl rfl hcat hd kk
  cases hf
theorem zVX0_23t {F : zF} {nL : Nat} {cc : ByteArray} {nm : String} {ret : Option FieldType} {hh : List (Nat × Nat × Nat × Nat)} {h h1 : zH} {pc b : Nat} {lc : List (Nat × Value)} {st : List Value} {p0 : Int32} {ex : Nat} (hD : 3 ≤ F.2.1) (hf : fV_Sink_put h b p0 = some (.inr ex, h1)) (hcat : (st.map fun v => v.category).sum ≤ 8) (hd : decode cc pc = .ok (.invokeinterface 23 2, 5)) (kk : ZT F nL cc RX0 nm ret hh h1 pc lc ex) : Z F nL cc RX0 nm ret hh h pc lc (.int p0 :: .ref b :: st) := by
  unfold fV_Sink_put at hf
  refine zdsp hf (fun e hf => ?_) (fun _ hf => ?_)
  · obtain ⟨xx, hx, hf⟩ := zb1_some hf
    obtain ⟨hK, hf⟩ := zck_some hf
    have hc := hf
    exact z_invFt suX0_23_5 (ctX7_put hK hc) e ⟨Nat.le_trans (by decide) hD, by decide⟩ rfl rfl hcat hd kk
  refine zdsp hf (fun e hf => ?_) (fun _ hf => ?_)
  · obtain ⟨xx, hx, hf⟩ := zb1_some hf
    obtain ⟨hK, hf⟩ := zck_some hf
    obtain ⟨h1, hc, hf⟩ := zb1_some hf
    cases hf
  refine zdsp hf (fun e hf => ?_) (fun _ hf => ?_)
  · obtain ⟨xx, hx, hf⟩ := zb1_some hf
    obtain ⟨hK, hf⟩ := zck_some hf
    obtain ⟨h1, hc, hf⟩ := zb1_some hf
    cases hf
  cases hf
noncomputable def fX0_putPoint (h : zH) (x0 : Nat) (x1 : Int32) : Option (zX) := if 65536 ≤ x1 then (zxv (fV_Sink_put h x0 ((55296 : Int32) + ((x1 - 65536) >>> (10 &&& 31)))) (fun h_3 => zxv (fV_Sink_put h_3 x0 ((56320 : Int32) + ((x1 - 65536) &&& 1023))) (fun h_9 => some ((.inl none, h_9))) (fun e_10 h_11 => some ((.inr e_10, h_11)))) (fun e_4 h_5 => some ((.inr e_4, h_5)))) else (zxv (fV_Sink_put h x0 x1) (fun h_15 => some ((.inl none, h_15))) (fun e_16 h_17 => some ((.inr e_16, h_17))))
theorem zX0_putPoint {F : zF} {h : zH} {x0 : Nat} {x1 : Int32} {y : zX} (hD : 3 ≤ F.2.1) (hf : fX0_putPoint h x0 x1 = some y) (hM : (y : zX) = zEnd F) : Z F 2 cX0_putPoint RX0 "putPoint" none [] h 0 [(0, .ref x0), (1, .int x1)] [] := by
  unfold fX0_putPoint at hf
  refine z_iload_n 1 dX0_putPoint_0 rfl rfl ?_
  refine z_ldc q1029 dX0_putPoint_1 ?_
  refine z_icmp_ge 16 dX0_putPoint_3 rfl hf (fun _ hf => ?_) (fun _ hf => ?_)
  · refine z_aload_n 0 dX0_putPoint_16 rfl rfl ?_
    refine z_ldc q749 dX0_putPoint_17 ?_
    refine z_iload_n 1 dX0_putPoint_19 rfl rfl ?_
    refine z_ldc q1029 dX0_putPoint_20 ?_
    refine z_isub dX0_putPoint_22 ?_
    refine z_bipush 10 dX0_putPoint_23 rfl ?_
    refine z_ishr dX0_putPoint_25 ?_
    refine z_iadd dX0_putPoint_26 ?_
    rcases zxv_some hf with ⟨h_3, hc_1, hf⟩ | ⟨e_4, h_5, hc_6, hf⟩
    rotate_left
    · have hct : zLx _ _ ∧ True := ⟨lV_Sink_put (l := F.1) hc_6, trivial⟩
      refine zVX0_23t (Nat.le_trans (by decide) hD) hc_6 (Nat.le_of_ble_eq_true rfl) dX0_putPoint_27 ?_
      cases hf
      exact zt_out rfl hM
    have hct : zLx _ _ ∧ True := ⟨lV_Sink_put (l := F.1) hc_1, trivial⟩
    refine zVX0_23v (Nat.le_trans (by decide) hD) hc_1 (Nat.le_of_ble_eq_true rfl) dX0_putPoint_27 ?_
    refine z_aload_n 0 dX0_putPoint_32 rfl rfl ?_
    refine z_ldc q1025 dX0_putPoint_33 ?_
    refine z_iload_n 1 dX0_putPoint_35 rfl rfl ?_
    refine z_ldc q1029 dX0_putPoint_36 ?_
    refine z_isub dX0_putPoint_38 ?_
    refine z_sipush 1023 dX0_putPoint_39 rfl ?_
    refine z_iand dX0_putPoint_42 ?_
    refine z_iadd dX0_putPoint_43 ?_
    rcases zxv_some hf with ⟨h_9, hc_7, hf⟩ | ⟨e_10, h_11, hc_12, hf⟩
    rotate_left
    · have hct : zLx _ _ ∧ True := ⟨lV_Sink_put (l := F.1) hc_12, trivial⟩
      refine zVX0_23t (Nat.le_trans (by decide) hD) hc_12 (Nat.le_of_ble_eq_true rfl) dX0_putPoint_44 ?_
      cases hf
      exact zt_out rfl hM
    have hct : zLx _ _ ∧ True := ⟨lV_Sink_put (l := F.1) hc_7, trivial⟩
    refine zVX0_23v (Nat.le_trans (by decide) hD) hc_7 (Nat.le_of_ble_eq_true rfl) dX0_putPoint_44 ?_
    cases hf
    exact z_vret dX0_putPoint_49 rfl hM
  · refine z_aload_n 0 dX0_putPoint_6 rfl rfl ?_
    refine z_iload_n 1 dX0_putPoint_7 rfl rfl ?_
    rcases zxv_some hf with ⟨h_15, hc_13, hf⟩ | ⟨e_16, h_17, hc_18, hf⟩
    rotate_left
    · have hct : zLx _ _ ∧ True := ⟨lV_Sink_put (l := F.1) hc_18, trivial⟩
      refine zVX0_23t (Nat.le_trans (by decide) hD) hc_18 (Nat.le_of_ble_eq_true rfl) dX0_putPoint_8 ?_
      cases hf
      exact zt_out rfl hM
    have hct : zLx _ _ ∧ True := ⟨lV_Sink_put (l := F.1) hc_13, trivial⟩
    refine zVX0_23v (Nat.le_trans (by decide) hD) hc_13 (Nat.le_of_ble_eq_true rfl) dX0_putPoint_8 ?_
    refine z_goto 49 dX0_putPoint_13 rfl ?_
    cases hf
    exact z_vret dX0_putPoint_49 rfl hM
theorem ctX0_putPoint {l : Launch} {h : zH} {x0 : Nat} {x1 : Int32} {y : zX} (hf : fX0_putPoint h x0 x1 = some y) : zC l yX0_putPoint (ws_ yX0_putPoint cX0_putPoint 2 none) 3 [.ref x0, .int x1] h y :=
  z_start (by decide) (Nat.le_of_ble_eq_true rfl) (zX0_putPoint (F := (l, 3, h, y)) (Nat.le_refl _) hf rfl)
theorem fdX5_69_3 : zFd RX5 69 3 3 .int false := ⟨_, _, _, rfl, rfl, by decide, rfl, rfl, Or.inl q364, Or.inr q365⟩
theorem suX5_47_3 : zIv RX5 47 yX5_skip (ws_ yX5_skip cX5_skip 3 none) 3 3 1 := ⟨(zGood_c q1070 q105), ⟨_, _, rfl, rfl, qs28⟩, (Or.inl q1067), q1069, ⟨by decide, by decide⟩, by decide +kernel⟩
theorem fdX5_34_3 : zFd RX5 34 3 7 .int false := ⟨_, _, _, rfl, rfl, by decide, rfl, rfl, Or.inl q377, Or.inr q378⟩
theorem fdX5_76_3 : zFd RX5 76 3 13 .int false := ⟨_, _, _, rfl, rfl, by decide, rfl, rfl, Or.inl q347, Or.inl rfl⟩
theorem fdX5_54_3 : zFd RX5 54 3 1 (.object "CodeExchange$Sink") false := ⟨_, _, _, rfl, rfl, by decide, rfl, rfl, Or.inl q354, Or.inr q355⟩
theorem suX5_83_5 : zIf RX5 83 ⟨"CodeExchange$Sink", "put", "(I)V"⟩ yX7_put (ws_ yX7_put cX7_put 2 none) 2 5 1 := ⟨(zGood_c q1090 q107), ⟨_, _, rfl, rfl, q1086, q1087, q1085⟩, q1097, by decide, q1089, q1088, by decide +kernel⟩
theorem suX5_83_3 : zIf RX5 83 ⟨"CodeExchange$Sink", "put", "(I)V"⟩ yX4_put (ws_ yX4_put cX4_put 2 none) 2 3 1 := ⟨(zGood_c q1083 q104), ⟨_, _, rfl, rfl, q1079, q1080, q1078⟩, q1097, by decide, q1082, q1081, by decide +kernel⟩
theorem suX5_83_4 : zIf RX5 83 ⟨"CodeExchange$Sink", "put", "(I)V"⟩ yX4_put (ws_ yX4_put cX4_put 2 none) 2 4 1 := ⟨(zGood_c q1083 q104), ⟨_, _, rfl, rfl, q1093, q1094, q1092⟩, q1097, by decide, q1082, q1081, by decide +kernel⟩
theorem zVX5_83v {F : zF} {nL : Nat} {cc : ByteArray} {nm : String} {ret : Option FieldType} {hh : List (Nat × Nat × Nat × Nat)} {h h1 : zH} {pc b : Nat} {lc : List (Nat × Value)} {st : List Value} {p0 : Int32}  (hD : 3 ≤ F.2.1) (hf : fV_Sink_put h b p0 = some (.inl none, h1)) (hcat : (st.map fun v => v.category).sum ≤ 8) (hd : decode cc pc = .ok (.invokeinterface 83 2, 5)) (kk : Z F nL cc RX5 nm ret hh h1 (pc + 5) lc (st)) : Z F nL cc RX5 nm ret hh h pc lc (.int p0 :: .ref b :: st) := by
  unfold fV_Sink_put at hf
  refine zdsp hf (fun e hf => ?_) (fun _ hf => ?_)
  · obtain ⟨xx, hx, hf⟩ := zb1_some hf
    obtain ⟨hK, hf⟩ := zck_some hf
    have hc := hf
    exact z_invFv suX5_83_5 (ctX7_put hK hc) e ⟨Nat.le_trans (by decide) hD, by decide⟩ rfl rfl hcat hd kk
  refine zdsp hf (fun e hf => ?_) (fun _ hf => ?_)
  · obtain ⟨xx, hx, hf⟩ := zb1_some hf
    obtain ⟨hK, hf⟩ := zck_some hf
    obtain ⟨h1, hc, hf⟩ := zb1_some hf
    cases hf
    exact z_invFv suX5_83_3 (ctX4_put_3 hK hc) e ⟨Nat.le_trans (by decide) hD, by decide⟩ rfl rfl hcat hd kk
  refine zdsp hf (fun e hf => ?_) (fun _ hf => ?_)
  · obtain ⟨xx, hx, hf⟩ := zb1_some hf
    obtain ⟨hK, hf⟩ := zck_some hf
    obtain ⟨h1, hc, hf⟩ := zb1_some hf
    cases hf
    exact z_invFv suX5_83_4 (ctX4_put_4 hK hc) e ⟨Nat.le_trans (by decide) hD, by decide⟩ rfl rfl hcat hd kk
  cases hf
theorem zVX5_83t {F : zF} {nL : Nat} {cc : ByteArray} {nm : String} {ret : Option FieldType} {hh : List (Nat × Nat × Nat × Nat)} {h h1 : zH} {pc b : Nat} {lc : List (Nat × Value)} {st : List Value} {p0 : Int32} {ex : Nat} (hD : 3 ≤ F.2.1) (hf : fV_Sink_put h b p0 = some (.inr ex, h1)) (hcat : (st.map fun v => v.category).sum ≤ 8) (hd : decode cc pc = .ok (.invokeinterface 83 2, 5)) (kk : ZT F nL cc RX5 nm ret hh h1 pc lc ex) : Z F nL cc RX5 nm ret hh h pc lc (.int p0 :: .ref b :: st) := by
  unfold fV_Sink_put at hf
  refine zdsp hf (fun e hf => ?_) (fun _ hf => ?_)
  · obtain ⟨xx, hx, hf⟩ := zb1_some hf
    obtain ⟨hK, hf⟩ := zck_some hf
    have hc := hf
    exact z_invFt suX5_83_5 (ctX7_put hK hc) e ⟨Nat.le_trans (by decide) hD, by decide⟩ rfl rfl hcat hd kk
  refine zdsp hf (fun e hf => ?_) (fun _ hf => ?_)
  · obtain ⟨xx, hx, hf⟩ := zb1_some hf
    obtain ⟨hK, hf⟩ := zck_some hf
    obtain ⟨h1, hc, hf⟩ := zb1_some hf
    cases hf
  refine zdsp hf (fun e hf => ?_) (fun _ hf => ?_)
  · obtain ⟨xx, hx, hf⟩ := zb1_some hf
    obtain ⟨hK, hf⟩ := zck_some hf
    obtain ⟨h1, hc, hf⟩ := zb1_some hf
    cases hf
  cases hf
theorem fdX5_3_3 : zFd RX5 3 3 14 (.object "CodeExchange") true := ⟨_, _, _, rfl, rfl, by decide, rfl, rfl, Or.inl q349, Or.inl rfl⟩
theorem fdX5_79_0 : zFd RX5 79 0 8 (.array .int) true := ⟨_, _, _, rfl, rfl, by decide, rfl, rfl, Or.inr ⟨_, q490⟩, Or.inl rfl⟩
theorem suX5_58_s : zIs RX5 58 yX0_putPoint (ws_ yX0_putPoint cX0_putPoint 2 none) 2 2 := ⟨(zGood_c q1073 q97), (Or.inr ⟨_, q1071⟩), q1072, ⟨by decide, by decide⟩, by decide +kernel⟩
theorem suX5_72_3 : zIu RX5 72 ⟨"CodeExchange$Reader", "ends", "(II)LCodeExchange$Refusal;"⟩ "CodeExchange$Machine" yX4_ends (ws_ yX4_ends cX4_ends 3 (some (.object "CodeExchange$Refusal"))) 3 3 2 := ⟨(zGood_c q1065 q104), ⟨_, _, rfl, rfl, q1063⟩, q1060, q1061, (Or.inl ⟨q1064, _, _, _, q1065⟩), by decide, q1064, by decide +kernel⟩
noncomputable def fX5_malformed (h : zH) (a : Nat) (xx : Nat) : Option (zX) := if (zI h a 3) = 0 then (zb2 (fX4_ends_3 h a xx ((-9)) (zI h a 8)) (fun v_23 h_24 => zb1 v_23 (fun b_25 => some ((.inr b_25, h_24))))) else (zck (vp_in 0 4) (zb1 (fX5_skip h a xx 1) (fun h_4 => zlet (zsI h_4 a 7 4) (fun h_5 => zlet (zsI h_5 a 13 ((zI h_5 a 13) + 1)) (fun h_6 => if (zI h_6 a 3) = 1 then (zb1 (zP h_6 a 1) (fun b_14 => zck (vp_in 0 2) (zxv (fX0_putPoint h_6 b_14 (zI h_6 (xx + 27) (0 : Int32).toNatClampNeg)) (fun h_18 => some ((.inl none, h_18))) (fun e_19 h_20 => some ((.inr e_19, h_20)))))) else (if (zI h_6 a 3) = 3 then (zb1 (zP h_6 a 1) (fun b_7 => zxv (fV_Sink_put h_6 b_7 ((56320 : Int32) + (zI h (a + 2) (0 : Int32).toNatClampNeg))) (fun h_10 => some ((.inl none, h_10))) (fun e_11 h_12 => some ((.inr e_11, h_12))))) else (some ((.inl none, h_6)))))))))
theorem zX5_malformed {F : zF} {h : zH} {a : Nat} {xx : Nat} {y : zX} (hD : 4 ≤ F.2.1) (hL : zRd h a xx) (hf : fX5_malformed h a xx = some y) (hM : (y : zX) = zEnd F) : Z F 2 cX5_malformed RX5 "malformed" none [] h 0 [(0, .ref a)] [] := by
  unfold fX5_malformed at hf
  refine z_aload_n 0 dX5_malformed_0 rfl rfl ?_
  refine z_geti fdX5_69_3 ((hL.b 0 rfl).t 0 rfl) dX5_malformed_1 ?_
  refine z_if_ne 18 dX5_malformed_4 rfl hf (fun _ hf => ?_) (fun _ hf => ?_)
  · refine z_aload_n 0 dX5_malformed_18 rfl rfl ?_
    refine z_getr fdX5_15_3 (Or.inr ⟨_, rfl⟩) ((hL.b 0 rfl).t 0 rfl) ((hL.b 0 rfl).p 1 rfl) dX5_malformed_19 ?_
    refine z_iconst 0 dX5_malformed_22 rfl ?_
    obtain ⟨hi_1, hf⟩ := zck_some hf
    refine z_iald ((hL.b 0 rfl).t 2 rfl) hi_1 dX5_malformed_23 ?_
    refine z_istore_n dX5_malformed_24 rfl (by decide) (lc' := [(0, .ref a), (1, .int (zI h (a + 2) (0 : Int32).toNatClampNeg))]) rfl ?_
    refine z_aload_n 0 dX5_malformed_25 rfl rfl ?_
    refine z_iconst 1 dX5_malformed_26 rfl ?_
    obtain ⟨h_4, hc_2, hf⟩ := zb1_some hf
    have hct := ctX5_skip (l := F.1) hL hc_2
    refine z_invVv suX5_47_3 hct ((hL.b 0 rfl).t 0 rfl) ⟨Nat.le_trans (by decide) hD, by decide⟩ rfl rfl (Nat.le_of_ble_eq_true rfl) dX5_malformed_27 ?_
    have hL := hL.ext hct.1
    refine z_aload_n 0 dX5_malformed_30 rfl rfl ?_
    refine z_iconst 4 dX5_malformed_31 rfl ?_
    obtain ⟨h_5, he, hf⟩ := zlet_some hf
    refine z_puti fdX5_34_3 ((hL.b 0 rfl).t 0 rfl) ((hL.b 0 rfl).nz 0) he dX5_malformed_32 ?_
    have hL := hL.I he
    refine z_aload_n 0 dX5_malformed_35 rfl rfl ?_
    refine z_dup dX5_malformed_36 rfl ?_
    refine z_geti fdX5_76_3 ((hL.b 0 rfl).t 0 rfl) dX5_malformed_37 ?_
    refine z_iconst 1 dX5_malformed_40 rfl ?_
    refine z_iadd dX5_malformed_41 ?_
    obtain ⟨h_6, he, hf⟩ := zlet_some hf
    refine z_puti fdX5_76_3 ((hL.b 0 rfl).t 0 rfl) ((hL.b 0 rfl).nz 0) he dX5_malformed_42 ?_
    have hL := hL.I he
    refine z_aload_n 0 dX5_malformed_45 rfl rfl ?_
    refine z_geti fdX5_69_3 ((hL.b 0 rfl).t 0 rfl) dX5_malformed_46 ?_
    refine z_iconst 1 dX5_malformed_49 rfl ?_
    refine z_icmp_ne 72 dX5_malformed_50 rfl hf (fun _ hf => ?_) (fun _ hf => ?_)
    · refine z_aload_n 0 dX5_malformed_72 rfl rfl ?_
      refine z_geti fdX5_69_3 ((hL.b 0 rfl).t 0 rfl) dX5_malformed_73 ?_
      refine z_iconst 3 dX5_malformed_76 rfl ?_
      refine z_icmp_ne 93 dX5_malformed_77 rfl hf (fun _ hf => ?_) (fun _ hf => ?_)
      · cases hf
        exact z_vret dX5_malformed_93 rfl hM
      · refine z_aload_n 0 dX5_malformed_80 rfl rfl ?_
        obtain ⟨b_7, hb_7, hf⟩ := zb1_some hf
        refine z_getr fdX5_54_3 (Or.inl ⟨_, rfl⟩) ((hL.b 0 rfl).t 0 rfl) hb_7 dX5_malformed_81 ?_
        refine z_ldc q1095 dX5_malformed_84 ?_
        refine z_iload_n 1 dX5_malformed_86 rfl rfl ?_
        refine z_iadd dX5_malformed_87 ?_
        rcases zxv_some hf with ⟨h_10, hc_8, hf⟩ | ⟨e_11, h_12, hc_13, hf⟩
        rotate_left
        · have hct : zLx _ _ ∧ True := ⟨lV_Sink_put (l := F.1) hc_13, trivial⟩
          refine zVX5_83t (Nat.le_trans (by decide) hD) hc_13 (Nat.le_of_ble_eq_true rfl) dX5_malformed_88 ?_
          have hL := hL.ext hct.1
          cases hf
          exact zt_out rfl hM
        have hct : zLx _ _ ∧ True := ⟨lV_Sink_put (l := F.1) hc_8, trivial⟩
        refine zVX5_83v (Nat.le_trans (by decide) hD) hc_8 (Nat.le_of_ble_eq_true rfl) dX5_malformed_88 ?_
        have hL := hL.ext hct.1
        cases hf
        exact z_vret dX5_malformed_93 rfl hM
    · refine z_aload_n 0 dX5_malformed_53 rfl rfl ?_
      obtain ⟨b_14, hb_14, hf⟩ := zb1_some hf
      refine z_getr fdX5_54_3 (Or.inl ⟨_, rfl⟩) ((hL.b 0 rfl).t 0 rfl) hb_14 dX5_malformed_54 ?_
      refine z_aload_n 0 dX5_malformed_57 rfl rfl ?_
      refine z_getr fdX5_3_3 (Or.inl ⟨_, rfl⟩) ((hL.b 0 rfl).t 0 rfl) (hL.f 1 rfl) dX5_malformed_58 ?_
      refine z_getr fdX5_79_0 (Or.inr ⟨_, rfl⟩) ((hL.b 1 rfl).t 0 rfl) ((hL.b 1 rfl).p 4 rfl) dX5_malformed_61 ?_
      refine z_iconst 0 dX5_malformed_64 rfl ?_
      obtain ⟨hi_15, hf⟩ := zck_some hf
      refine z_iald ((hL.b 1 rfl).t 27 rfl) hi_15 dX5_malformed_65 ?_
      rcases zxv_some hf with ⟨h_18, hc_16, hf⟩ | ⟨e_19, h_20, hc_21, hf⟩
      rotate_left
      · have hct := ctX0_putPoint (l := F.1) hc_21
        refine z_invSt suX5_58_s hct ⟨Nat.le_trans (by decide) hD, by decide⟩ rfl rfl (Nat.le_of_ble_eq_true rfl) dX5_malformed_66 ?_
        have hL := hL.ext hct.1
        cases hf
        exact zt_out rfl hM
      have hct := ctX0_putPoint (l := F.1) hc_16
      refine z_invSv suX5_58_s hct ⟨Nat.le_trans (by decide) hD, by decide⟩ rfl rfl (Nat.le_of_ble_eq_true rfl) dX5_malformed_66 ?_
      have hL := hL.ext hct.1
      refine z_goto 93 dX5_malformed_69 rfl ?_
      cases hf
      exact z_vret dX5_malformed_93 rfl hM
  · refine z_aload_n 0 dX5_malformed_7 rfl rfl ?_
    refine z_bipush (-9) dX5_malformed_8 rfl ?_
    refine z_aload_n 0 dX5_malformed_10 rfl rfl ?_
    refine z_geti fdX5_19_3 ((hL.b 0 rfl).t 0 rfl) dX5_malformed_11 ?_
    obtain ⟨v_23, h_24, hc_22, hf⟩ := zb2_some hf
    have hct := ctX4_ends_3 (l := F.1) hL hc_22
    refine z_invUq suX5_72_3 hct ((hL.b 0 rfl).t 0 rfl) ⟨Nat.le_trans (by decide) hD, by decide⟩ rfl rfl (Nat.le_of_ble_eq_true rfl) dX5_malformed_14 ?_
    have hL := hL.ext hct.1
    obtain ⟨b_25, e9, hf9⟩ := zb1_some hf
    subst e9
    have hf := hf9
    refine z_athrow dX5_malformed_17 ?_
    cases hf
    exact zt_out rfl hM
theorem ctX5_malformed {l : Launch} {h : zH} {a : Nat} {xx : Nat} {y : zX} (hL : zRd h a xx) (hf : fX5_malformed h a xx = some y) : zC l yX5_malformed (ws_ yX5_malformed cX5_malformed 2 none) 4 [.ref a] h y :=
  z_start (by decide) (Nat.le_of_ble_eq_true rfl) (zX5_malformed (F := (l, 4, h, y)) (Nat.le_refl _) hL hf rfl)
theorem fdX5_27_3 : zFd RX5 27 3 2 (.object "CodeExchange$Page") false := ⟨_, _, _, rfl, rfl, by decide, rfl, rfl, Or.inl q359, Or.inr q360⟩
theorem fdX5_31_3 : zFd RX5 31 3 6 .int false := ⟨_, _, _, rfl, rfl, by decide, rfl, rfl, Or.inl q372, Or.inr q373⟩
noncomputable def fV_Page_match (h : zH) (b : Nat) (p0 : Int32) (p1 : Int32) (p2 : Nat) (p3 : Int32) : Option (Int32 × zH) := if zT h b = (3, 0) then (zck (zTb h b) (fX3_match h b p0 p1 p2 p3)) else if zT h b = (9, 0) then (zck (zOb 8 h b) (fX10_match_8 h b p0 p1 p2 p3)) else if zT h b = (10, 0) then (zck (zOb 9 h b) (fX12_match h b p0 p1 p2 p3)) else if zT h b = (11, 0) then (zck (zOb 10 h b) (fX10_match_10 h b p0 p1 p2 p3)) else none
theorem lV_Page_match {l : Launch} {h : zH} {b : Nat} {p0 : Int32} {p1 : Int32} {p2 : Nat} {p3 : Int32} {v : Int32} {h' : zH} (hf : fV_Page_match h b p0 p1 p2 p3 = some (v, h')) : zLx h h' := by
  unfold fV_Page_match at hf
  refine zdsp hf (fun e hf => ?_) (fun _ hf => ?_)
  · obtain ⟨hK, hf⟩ := zck_some hf
    have hc := hf
    exact (ctX3_match (l := l) hK hc).1
  refine zdsp hf (fun e hf => ?_) (fun _ hf => ?_)
  · obtain ⟨hK, hf⟩ := zck_some hf
    have hc := hf
    exact (ctX10_match_8 (l := l) hK hc).1
  refine zdsp hf (fun e hf => ?_) (fun _ hf => ?_)
  · obtain ⟨hK, hf⟩ := zck_some hf
    have hc := hf
    exact (ctX12_match (l := l) hK hc).1
  refine zdsp hf (fun e hf => ?_) (fun _ hf => ?_)
  · obtain ⟨hK, hf⟩ := zck_some hf
    have hc := hf
    exact (ctX10_match_10 (l := l) hK hc).1
  cases hf
theorem suX5_37_2 : zIu RX5 37 ⟨"CodeExchange$Page", "match", "(II[II)I"⟩ "CodeExchange$Page" yX3_match (ws_ yX3_match cX3_match 12 (some .int)) 12 2 4 := ⟨(zGood_c q1048 q103), ⟨_, _, rfl, rfl, q1046⟩, q984, q986, (Or.inr q985), by decide, q1047, by decide +kernel⟩
theorem suX5_37_8 : zIu RX5 37 ⟨"CodeExchange$Page", "match", "(II[II)I"⟩ "CodeExchange$Page" yX10_match (ws_ yX10_match cX10_match 6 (some .int)) 6 8 4 := ⟨(zGood_c q989 q110), ⟨_, _, rfl, rfl, q1055⟩, q984, q986, (Or.inr q985), by decide, q988, by decide +kernel⟩
theorem suX5_37_9 : zIu RX5 37 ⟨"CodeExchange$Page", "match", "(II[II)I"⟩ "CodeExchange$Page" yX12_match (ws_ yX12_match cX12_match 5 (some .int)) 5 9 4 := ⟨(zGood_c q1051 q112), ⟨_, _, rfl, rfl, q1049⟩, q984, q986, (Or.inr q985), by decide, q1050, by decide +kernel⟩
theorem suX5_37_10 : zIu RX5 37 ⟨"CodeExchange$Page", "match", "(II[II)I"⟩ "CodeExchange$Page" yX10_match (ws_ yX10_match cX10_match 6 (some .int)) 6 10 4 := ⟨(zGood_c q989 q110), ⟨_, _, rfl, rfl, q987⟩, q984, q986, (Or.inr q985), by decide, q988, by decide +kernel⟩
theorem zVX5_37i {F : zF} {nL : Nat} {cc : ByteArray} {nm : String} {ret : Option FieldType} {hh : List (Nat × Nat × Nat × Nat)} {h h1 : zH} {pc b : Nat} {lc : List (Nat × Value)} {st : List Value} {p0 : Int32} {p1 : Int32} {p2 : Nat} {p3 : Int32} {v : Int32} (hD : 6 ≤ F.2.1) (hf : fV_Page_match h b p0 p1 p2 p3 = some (v, h1)) (hcat : (st.map fun v => v.category).sum ≤ 8) (hd : decode cc pc = .ok (.invokevirtual 37, 3)) (kk : Z F nL cc RX5 nm ret hh h1 (pc + 3) lc (.int v :: st)) : Z F nL cc RX5 nm ret hh h pc lc (.int p3 :: .ref p2 :: .int p1 :: .int p0 :: .ref b :: st) := by
  unfold fV_Page_match at hf
  refine zdsp hf (fun e hf => ?_) (fun _ hf => ?_)
  · obtain ⟨hK, hf⟩ := zck_some hf
    have hc := hf
    exact z_invUi suX5_37_2 (ctX3_match hK hc) e ⟨Nat.le_trans (by decide) hD, by decide⟩ rfl rfl hcat hd kk
  refine zdsp hf (fun e hf => ?_) (fun _ hf => ?_)
  · obtain ⟨hK, hf⟩ := zck_some hf
    have hc := hf
    exact z_invUi suX5_37_8 (ctX10_match_8 hK hc) e ⟨Nat.le_trans (by decide) hD, by decide⟩ rfl rfl hcat hd kk
  refine zdsp hf (fun e hf => ?_) (fun _ hf => ?_)
  · obtain ⟨hK, hf⟩ := zck_some hf
    have hc := hf
    exact z_invUi suX5_37_9 (ctX12_match hK hc) e ⟨Nat.le_trans (by decide) hD, by decide⟩ rfl rfl hcat hd kk
  refine zdsp hf (fun e hf => ?_) (fun _ hf => ?_)
  · obtain ⟨hK, hf⟩ := zck_some hf
    have hc := hf
    exact z_invUi suX5_37_10 (ctX10_match_10 hK hc) e ⟨Nat.le_trans (by decide) hD, by decide⟩ rfl rfl hcat hd kk
  cases hf
theorem fdX5_51_2 : zFd RX5 51 2 0 .int false := ⟨_, _, _, rfl, rfl, by decide, rfl, rfl, Or.inl q266, Or.inl rfl⟩
theorem fdX5_51_8 : zFd RX5 51 8 0 .int false := ⟨_, _, _, rfl, rfl, by decide, rfl, rfl, Or.inl q266, Or.inl rfl⟩
theorem fdX5_51_9 : zFd RX5 51 9 0 .int false := ⟨_, _, _, rfl, rfl, by decide, rfl, rfl, Or.inl q266, Or.inl rfl⟩
theorem fdX5_51_10 : zFd RX5 51 10 0 .int false := ⟨_, _, _, rfl, rfl, by decide, rfl, rfl, Or.inl q266, Or.inl rfl⟩
theorem fsX5_51_4 : ∀ ci ∈ [2, 8, 9, 10], zFd RX5 51 ci 0 .int false := by
  intro ci h
  simp only [List.mem_cons, List.not_mem_nil, or_false] at h
  rcases h with rfl | rfl | rfl | rfl
  · exact fdX5_51_2
  · exact fdX5_51_8
  · exact fdX5_51_9
  · exact fdX5_51_10
theorem fdX5_62_2 : zFd RX5 62 2 2 .boolean false := ⟨_, _, _, rfl, rfl, by decide, rfl, rfl, Or.inl q272, Or.inl rfl⟩
theorem fdX5_62_8 : zFd RX5 62 8 2 .boolean false := ⟨_, _, _, rfl, rfl, by decide, rfl, rfl, Or.inl q272, Or.inl rfl⟩
theorem fdX5_62_9 : zFd RX5 62 9 2 .boolean false := ⟨_, _, _, rfl, rfl, by decide, rfl, rfl, Or.inl q272, Or.inl rfl⟩
theorem fdX5_62_10 : zFd RX5 62 10 2 .boolean false := ⟨_, _, _, rfl, rfl, by decide, rfl, rfl, Or.inl q272, Or.inl rfl⟩
theorem fsX5_62_4 : ∀ ci ∈ [2, 8, 9, 10], zFd RX5 62 ci 2 .boolean false := by
  intro ci h
  simp only [List.mem_cons, List.not_mem_nil, or_false] at h
  rcases h with rfl | rfl | rfl | rfl
  · exact fdX5_62_2
  · exact fdX5_62_8
  · exact fdX5_62_9
  · exact fdX5_62_10
theorem fdX5_66_2 : zFd RX5 66 2 1 .int false := ⟨_, _, _, rfl, rfl, by decide, rfl, rfl, Or.inl q269, Or.inl rfl⟩
theorem fdX5_66_8 : zFd RX5 66 8 1 .int false := ⟨_, _, _, rfl, rfl, by decide, rfl, rfl, Or.inl q269, Or.inl rfl⟩
theorem fdX5_66_9 : zFd RX5 66 9 1 .int false := ⟨_, _, _, rfl, rfl, by decide, rfl, rfl, Or.inl q269, Or.inl rfl⟩
theorem fdX5_66_10 : zFd RX5 66 10 1 .int false := ⟨_, _, _, rfl, rfl, by decide, rfl, rfl, Or.inl q269, Or.inl rfl⟩
theorem fsX5_66_4 : ∀ ci ∈ [2, 8, 9, 10], zFd RX5 66 ci 1 .int false := by
  intro ci h
  simp only [List.mem_cons, List.not_mem_nil, or_false] at h
  rcases h with rfl | rfl | rfl | rfl
  · exact fdX5_66_2
  · exact fdX5_66_8
  · exact fdX5_66_9
  · exact fdX5_66_10
theorem suX5_43_3 : zIv RX5 43 yX5_malformed (ws_ yX5_malformed cX5_malformed 2 none) 2 3 0 := ⟨(zGood_c q1059 q105), ⟨_, _, rfl, rfl, qs27⟩, (Or.inl q1056), q1058, ⟨by decide, by decide⟩, by decide +kernel⟩
noncomputable def fX5_read_J40 (h : zH) (a : Nat) (xx : Nat) (x1 : Int32) (x2 : Int32) : Option ((zH) ⊕ (zX)) := if 0 < x2 then (zb1 (fX5_skip h a xx x2) (fun h_7 => zb1 (zP h_7 a 2) (fun b_8 => zck (zPg h_7 b_8) (if (zI h_7 b_8 0) < 0 then (zb1 (zP h_7 a 2) (fun b_10 => zck (zPg h_7 b_10) (if (zI h_7 b_10 2) = 0 then (zb1 (zP h_7 a 2) (fun b_12 => zck (zPg h_7 b_12) (zlet (zsI h_7 a 7 (zI h_7 b_12 1)) (fun h_14 => some (.inl h_14))))) else (zb1 (zP h_7 a 2) (fun b_15 => zck (zPg h_7 b_15) (zlet (zsI h_7 a 6 (zI h_7 b_15 1)) (fun h_17 => some (.inl h_17)))))))) else (zlet (zsI h_7 a 7 4) (fun h_18 => zb1 (zP h_18 a 1) (fun b_19 => zb1 (zP h_18 a 2) (fun b_20 => zck (zPg h_18 b_20) (zxv (fX0_putPoint h_18 b_19 (zI h_18 b_20 0)) (fun h_24 => some (.inl h_24)) (fun e_25 h_26 => some (.inr ((.inr e_25, h_26))))))))))))) else (zxv (fX5_malformed h a xx) (fun h_30 => some (.inl h_30)) (fun e_31 h_32 => some (.inr ((.inr e_31, h_32)))))
theorem zX5_read_J40 {F : zF} {h : zH} {a : Nat} {xx : Nat} {x1 : Int32} {x2 : Int32} {y : (zH) ⊕ (zX)} (hD : 6 ≤ F.2.1) (hL : zRd h a xx) (hf : fX5_read_J40 h a xx x1 x2 = some y) (hM : ((∀ s' : zH, y = .inl s' → (zRd s' a xx → Z F 3 cX5_read RX5 "read" none [] s' 0 [(0, .ref a), (1, .int x1)] [])) ∧ ∀ r : zX, y = .inr r → (r : zX) = zEnd F)) : Z F 3 cX5_read RX5 "read" none [] h 40 [(0, .ref a), (1, .int x1), (2, .int x2)] [] := by
  unfold fX5_read_J40 at hf
  refine z_iload_n 2 dX5_read_40 rfl rfl ?_
  refine z_if_gt 51 dX5_read_41 rfl hf (fun _ hf => ?_) (fun _ hf => ?_)
  · refine z_aload_n 0 dX5_read_51 rfl rfl ?_
    refine z_iload_n 2 dX5_read_52 rfl rfl ?_
    obtain ⟨h_7, hc_5, hf⟩ := zb1_some hf
    have hct := ctX5_skip (l := F.1) hL hc_5
    refine z_invVv suX5_47_3 hct ((hL.b 0 rfl).t 0 rfl) ⟨Nat.le_trans (by decide) hD, by decide⟩ rfl rfl (Nat.le_of_ble_eq_true rfl) dX5_read_53 ?_
    have hL := hL.ext hct.1
    refine z_aload_n 0 dX5_read_56 rfl rfl ?_
    obtain ⟨b_8, hb_8, hf⟩ := zb1_some hf
    refine z_getr fdX5_27_3 (Or.inl ⟨_, rfl⟩) ((hL.b 0 rfl).t 0 rfl) hb_8 dX5_read_57 ?_
    obtain ⟨hK_9, hf⟩ := zck_some hf
    refine z_getiP fsX5_51_4 hK_9 dX5_read_60 ?_
    refine z_if_lt 88 dX5_read_63 rfl hf (fun _ hf => ?_) (fun _ hf => ?_)
    · refine z_aload_n 0 dX5_read_88 rfl rfl ?_
      obtain ⟨b_10, hb_10, hf⟩ := zb1_some hf
      refine z_getr fdX5_27_3 (Or.inl ⟨_, rfl⟩) ((hL.b 0 rfl).t 0 rfl) hb_10 dX5_read_89 ?_
      obtain ⟨hK_11, hf⟩ := zck_some hf
      refine z_getzP fsX5_62_4 hK_11 dX5_read_92 ?_
      refine z_if_eq 112 dX5_read_95 rfl hf (fun _ hf => ?_) (fun _ hf => ?_)
      · refine z_aload_n 0 dX5_read_112 rfl rfl ?_
        refine z_aload_n 0 dX5_read_113 rfl rfl ?_
        obtain ⟨b_12, hb_12, hf⟩ := zb1_some hf
        refine z_getr fdX5_27_3 (Or.inl ⟨_, rfl⟩) ((hL.b 0 rfl).t 0 rfl) hb_12 dX5_read_114 ?_
        obtain ⟨hK_13, hf⟩ := zck_some hf
        refine z_getiP fsX5_66_4 hK_13 dX5_read_117 ?_
        obtain ⟨h_14, he, hf⟩ := zlet_some hf
        refine z_puti fdX5_34_3 ((hL.b 0 rfl).t 0 rfl) ((hL.b 0 rfl).nz 0) he dX5_read_120 ?_
        have hL := hL.I he
        have hK_9 := hK_9.I he
        have hK_11 := hK_11.I he
        have hK_13 := hK_13.I he
        refine z_goto 0 dX5_read_123 rfl ?_
        cases hf
        refine z_sub [0, 1] rfl ?_
        exact (hM.1 _ rfl) hL
      · refine z_aload_n 0 dX5_read_98 rfl rfl ?_
        refine z_aload_n 0 dX5_read_99 rfl rfl ?_
        obtain ⟨b_15, hb_15, hf⟩ := zb1_some hf
        refine z_getr fdX5_27_3 (Or.inl ⟨_, rfl⟩) ((hL.b 0 rfl).t 0 rfl) hb_15 dX5_read_100 ?_
        obtain ⟨hK_16, hf⟩ := zck_some hf
        refine z_getiP fsX5_66_4 hK_16 dX5_read_103 ?_
        obtain ⟨h_17, he, hf⟩ := zlet_some hf
        refine z_puti fdX5_31_3 ((hL.b 0 rfl).t 0 rfl) ((hL.b 0 rfl).nz 0) he dX5_read_106 ?_
        have hL := hL.I he
        have hK_9 := hK_9.I he
        have hK_11 := hK_11.I he
        have hK_16 := hK_16.I he
        refine z_goto 123 dX5_read_109 rfl ?_
        refine z_goto 0 dX5_read_123 rfl ?_
        cases hf
        refine z_sub [0, 1] rfl ?_
        exact (hM.1 _ rfl) hL
    · refine z_aload_n 0 dX5_read_66 rfl rfl ?_
      refine z_iconst 4 dX5_read_67 rfl ?_
      obtain ⟨h_18, he, hf⟩ := zlet_some hf
      refine z_puti fdX5_34_3 ((hL.b 0 rfl).t 0 rfl) ((hL.b 0 rfl).nz 0) he dX5_read_68 ?_
      have hL := hL.I he
      have hK_9 := hK_9.I he
      refine z_aload_n 0 dX5_read_71 rfl rfl ?_
      obtain ⟨b_19, hb_19, hf⟩ := zb1_some hf
      refine z_getr fdX5_54_3 (Or.inl ⟨_, rfl⟩) ((hL.b 0 rfl).t 0 rfl) hb_19 dX5_read_72 ?_
      refine z_aload_n 0 dX5_read_75 rfl rfl ?_
      obtain ⟨b_20, hb_20, hf⟩ := zb1_some hf
      refine z_getr fdX5_27_3 (Or.inl ⟨_, rfl⟩) ((hL.b 0 rfl).t 0 rfl) hb_20 dX5_read_76 ?_
      obtain ⟨hK_21, hf⟩ := zck_some hf
      refine z_getiP fsX5_51_4 hK_21 dX5_read_79 ?_
      rcases zxv_some hf with ⟨h_24, hc_22, hf⟩ | ⟨e_25, h_26, hc_27, hf⟩
      rotate_left
      · have hct := ctX0_putPoint (l := F.1) hc_27
        refine z_invSt suX5_58_s hct ⟨Nat.le_trans (by decide) hD, by decide⟩ rfl rfl (Nat.le_of_ble_eq_true rfl) dX5_read_82 ?_
        have hL := hL.ext hct.1
        have hK_9 := hK_9.ext hct.1
        have hK_21 := hK_21.ext hct.1
        cases hf
        exact zt_out rfl (hM.2 _ rfl)
      have hct := ctX0_putPoint (l := F.1) hc_22
      refine z_invSv suX5_58_s hct ⟨Nat.le_trans (by decide) hD, by decide⟩ rfl rfl (Nat.le_of_ble_eq_true rfl) dX5_read_82 ?_
      have hL := hL.ext hct.1
      have hK_9 := hK_9.ext hct.1
      have hK_21 := hK_21.ext hct.1
      refine z_goto 123 dX5_read_85 rfl ?_
      refine z_goto 0 dX5_read_123 rfl ?_
      cases hf
      refine z_sub [0, 1] rfl ?_
      exact (hM.1 _ rfl) hL
  · refine z_aload_n 0 dX5_read_44 rfl rfl ?_
    rcases zxv_some hf with ⟨h_30, hc_28, hf⟩ | ⟨e_31, h_32, hc_33, hf⟩
    rotate_left
    · have hct := ctX5_malformed (l := F.1) hL hc_33
      refine z_invVt suX5_43_3 hct ((hL.b 0 rfl).t 0 rfl) ⟨Nat.le_trans (by decide) hD, by decide⟩ rfl rfl (Nat.le_of_ble_eq_true rfl) dX5_read_45 ?_
      have hL := hL.ext hct.1
      cases hf
      exact zt_out rfl (hM.2 _ rfl)
    have hct := ctX5_malformed (l := F.1) hL hc_28
    refine z_invVv suX5_43_3 hct ((hL.b 0 rfl).t 0 rfl) ⟨Nat.le_trans (by decide) hD, by decide⟩ rfl rfl (Nat.le_of_ble_eq_true rfl) dX5_read_45 ?_
    have hL := hL.ext hct.1
    refine z_goto 0 dX5_read_48 rfl ?_
    cases hf
    refine z_sub [0, 1] rfl ?_
    exact (hM.1 _ rfl) hL
noncomputable def fX5_read_L0 (h : zH) (a : Nat) (xx : Nat) (x1 : Int32) : Option ((zH) ⊕ (zX)) := if (zI h a 8) ≤ 0 then (some (.inr ((.inl none, h)))) else (zb1 (zP h a 2) (fun b_1 => zb2 (fV_Page_match h b_1 (zI h a 6) (zI h a 7) (a + 2) (zI h a 8)) (fun v_3 h_4 => if 0 ≤ v_3 then (fX5_read_J40 h_4 a xx x1 v_3) else (if x1 = 0 then (some (.inr ((.inl none, h_4)))) else (fX5_read_J40 h_4 a xx x1 v_3)))))
theorem zX5_read_L0 {F : zF} {h : zH} {a : Nat} {xx : Nat} {x1 : Int32} {y : (zH) ⊕ (zX)} (hD : 6 ≤ F.2.1) (hL : zRd h a xx) (hf : fX5_read_L0 h a xx x1 = some y) (hM : ((∀ s' : zH, y = .inl s' → (zRd s' a xx → Z F 3 cX5_read RX5 "read" none [] s' 0 [(0, .ref a), (1, .int x1)] [])) ∧ ∀ r : zX, y = .inr r → (r : zX) = zEnd F)) : Z F 3 cX5_read RX5 "read" none [] h 0 [(0, .ref a), (1, .int x1)] [] := by
  unfold fX5_read_L0 at hf
  refine z_aload_n 0 dX5_read_0 rfl rfl ?_
  refine z_geti fdX5_19_3 ((hL.b 0 rfl).t 0 rfl) dX5_read_1 ?_
  refine z_if_le 126 dX5_read_4 rfl hf (fun _ hf => ?_) (fun _ hf => ?_)
  · cases hf
    exact z_vret dX5_read_126 rfl (hM.2 _ rfl)
  · refine z_aload_n 0 dX5_read_7 rfl rfl ?_
    obtain ⟨b_1, hb_1, hf⟩ := zb1_some hf
    refine z_getr fdX5_27_3 (Or.inl ⟨_, rfl⟩) ((hL.b 0 rfl).t 0 rfl) hb_1 dX5_read_8 ?_
    refine z_aload_n 0 dX5_read_11 rfl rfl ?_
    refine z_geti fdX5_31_3 ((hL.b 0 rfl).t 0 rfl) dX5_read_12 ?_
    refine z_aload_n 0 dX5_read_15 rfl rfl ?_
    refine z_geti fdX5_34_3 ((hL.b 0 rfl).t 0 rfl) dX5_read_16 ?_
    refine z_aload_n 0 dX5_read_19 rfl rfl ?_
    refine z_getr fdX5_15_3 (Or.inr ⟨_, rfl⟩) ((hL.b 0 rfl).t 0 rfl) ((hL.b 0 rfl).p 1 rfl) dX5_read_20 ?_
    refine z_aload_n 0 dX5_read_23 rfl rfl ?_
    refine z_geti fdX5_19_3 ((hL.b 0 rfl).t 0 rfl) dX5_read_24 ?_
    obtain ⟨v_3, h_4, hc_2, hf⟩ := zb2_some hf
    have hct : zLx _ _ ∧ True := ⟨lV_Page_match (l := F.1) hc_2, trivial⟩
    refine zVX5_37i (Nat.le_trans (by decide) hD) hc_2 (Nat.le_of_ble_eq_true rfl) dX5_read_27 ?_
    have hL := hL.ext hct.1
    refine z_istore_n dX5_read_30 rfl (by decide) (lc' := [(0, .ref a), (1, .int x1), (2, .int v_3)]) rfl ?_
    refine z_iload_n 2 dX5_read_31 rfl rfl ?_
    refine z_if_ge 40 dX5_read_32 rfl hf (fun _ hf => ?_) (fun _ hf => ?_)
    · exact zX5_read_J40 hD hL hf hM
    · refine z_iload_n 1 dX5_read_35 rfl rfl ?_
      refine z_if_ne 40 dX5_read_36 rfl hf (fun _ hf => ?_) (fun _ hf => ?_)
      · exact zX5_read_J40 hD hL hf hM
      · cases hf
        exact z_vret dX5_read_39 rfl (hM.2 _ rfl)
noncomputable def fX5_read (h : zH) (a : Nat) (xx : Nat) (x1 : Int32) : Option (zX) := zlp (fun s => fX5_read_L0 s a xx x1) h
theorem zX5_read {F : zF} {h : zH} {a : Nat} {xx : Nat} {x1 : Int32} {y : zX} (hD : 6 ≤ F.2.1) (hL : zRd h a xx) (hf : fX5_read h a xx x1 = some y) (hM : (y : zX) = zEnd F) : Z F 3 cX5_read RX5 "read" none [] h 0 [(0, .ref a), (1, .int x1)] [] := by
  unfold fX5_read at hf
  exact z_loop (fun (s : zH) => (zRd s a xx → Z F 3 cX5_read RX5 "read" none [] s 0 [(0, .ref a), (1, .int x1)] [])) (fun (r : zX) => (r : zX) = zEnd F) (fun s y hb hs hr hL => zX5_read_L0 hD hL hb ⟨hs, hr⟩) hf hM hL
theorem ctX5_read {l : Launch} {h : zH} {a : Nat} {xx : Nat} {x1 : Int32} {y : zX} (hL : zRd h a xx) (hf : fX5_read h a xx x1 = some y) : zC l yX5_read (ws_ yX5_read cX5_read 3 none) 6 [.ref a, .int x1] h y :=
  z_start (by decide) (Nat.le_of_ble_eq_true rfl) (zX5_read (F := (l, 6, h, y)) (Nat.le_refl _) hL hf rfl)
theorem suX5_23_3 : zIv RX5 23 yX5_read (ws_ yX5_read cX5_read 3 none) 3 3 1 := ⟨(zGood_c q983 q105), ⟨_, _, rfl, rfl, qs26⟩, (Or.inl q980), q982, ⟨by decide, by decide⟩, by decide +kernel⟩
noncomputable def fX5_step (h : zH) (a : Nat) (xx : Nat) (x1 : Int32) : Option (zX) := zck (vp_in (zI h a 8) 4) (zlet (zsI h (a + 2) (zI h a 8).toNatClampNeg x1) (fun h_2 => zlet (zsI h_2 a 8 ((zI h_2 a 8) + 1)) (fun h_3 => zxv (fX5_read h_3 a xx 0) (fun h_6 => some ((.inl none, h_6))) (fun e_7 h_8 => some ((.inr e_7, h_8))))))
theorem zX5_step {F : zF} {h : zH} {a : Nat} {xx : Nat} {x1 : Int32} {y : zX} (hD : 7 ≤ F.2.1) (hL : zRd h a xx) (hf : fX5_step h a xx x1 = some y) (hM : (y : zX) = zEnd F) : Z F 2 cX5_step RX5 "step" none [] h 0 [(0, .ref a), (1, .int x1)] [] := by
  unfold fX5_step at hf
  refine z_aload_n 0 dX5_step_0 rfl rfl ?_
  refine z_getr fdX5_15_3 (Or.inr ⟨_, rfl⟩) ((hL.b 0 rfl).t 0 rfl) ((hL.b 0 rfl).p 1 rfl) dX5_step_1 ?_
  refine z_aload_n 0 dX5_step_4 rfl rfl ?_
  refine z_geti fdX5_19_3 ((hL.b 0 rfl).t 0 rfl) dX5_step_5 ?_
  refine z_iload_n 1 dX5_step_8 rfl rfl ?_
  obtain ⟨hi_1, hf⟩ := zck_some hf
  obtain ⟨h_2, he, hf⟩ := zlet_some hf
  refine z_iast ((hL.b 0 rfl).t 2 rfl) ((hL.b 0 rfl).nz 2) hi_1 he dX5_step_9 ?_
  have hL := hL.I he
  refine z_aload_n 0 dX5_step_10 rfl rfl ?_
  refine z_dup dX5_step_11 rfl ?_
  refine z_geti fdX5_19_3 ((hL.b 0 rfl).t 0 rfl) dX5_step_12 ?_
  refine z_iconst 1 dX5_step_15 rfl ?_
  refine z_iadd dX5_step_16 ?_
  obtain ⟨h_3, he, hf⟩ := zlet_some hf
  refine z_puti fdX5_19_3 ((hL.b 0 rfl).t 0 rfl) ((hL.b 0 rfl).nz 0) he dX5_step_17 ?_
  have hL := hL.I he
  refine z_aload_n 0 dX5_step_20 rfl rfl ?_
  refine z_iconst 0 dX5_step_21 rfl ?_
  rcases zxv_some hf with ⟨h_6, hc_4, hf⟩ | ⟨e_7, h_8, hc_9, hf⟩
  rotate_left
  · have hct := ctX5_read (l := F.1) hL hc_9
    refine z_invVt suX5_23_3 hct ((hL.b 0 rfl).t 0 rfl) ⟨Nat.le_trans (by decide) hD, by decide⟩ rfl rfl (Nat.le_of_ble_eq_true rfl) dX5_step_22 ?_
    have hL := hL.ext hct.1
    cases hf
    exact zt_out rfl hM
  have hct := ctX5_read (l := F.1) hL hc_4
  refine z_invVv suX5_23_3 hct ((hL.b 0 rfl).t 0 rfl) ⟨Nat.le_trans (by decide) hD, by decide⟩ rfl rfl (Nat.le_of_ble_eq_true rfl) dX5_step_22 ?_
  have hL := hL.ext hct.1
  cases hf
  exact z_vret dX5_step_25 rfl hM
theorem ctX5_step {l : Launch} {h : zH} {a : Nat} {xx : Nat} {x1 : Int32} {y : zX} (hL : zRd h a xx) (hf : fX5_step h a xx x1 = some y) : zC l yX5_step (ws_ yX5_step cX5_step 2 none) 7 [.ref a, .int x1] h y :=
  z_start (by decide) (Nat.le_of_ble_eq_true rfl) (zX5_step (F := (l, 7, h, y)) (Nat.le_refl _) hL hf rfl)
theorem suX4_65_3 : zIu RX4 65 ⟨"CodeExchange$Machine", "step", "(I)V"⟩ "CodeExchange$Machine" yX5_step (ws_ yX5_step cX5_step 2 none) 2 3 1 := ⟨(zGood_c q979 q105), ⟨_, _, rfl, rfl, q977⟩, q974, q976, (Or.inr q975), by decide, q978, by decide +kernel⟩
noncomputable def fX4_feed_3 (h : zH) (a : Nat) (xx : Nat) (x1 : Int32) : Option (zX) := zlet (zsI h a 9 ((zI h a 9) + 1)) (fun h_1 => zxv (fX5_step h_1 a xx x1) (fun h_4 => some ((.inl none, h_4))) (fun e_5 h_6 => some ((.inr e_5, h_6))))
theorem zX4_feed_3 {F : zF} {h : zH} {a : Nat} {xx : Nat} {x1 : Int32} {y : zX} (hD : 8 ≤ F.2.1) (hL : zRd h a xx) (hf : fX4_feed_3 h a xx x1 = some y) (hM : (y : zX) = zEnd F) : Z F 2 cX4_feed RX4 "feed" none [] h 0 [(0, .ref a), (1, .int x1)] [] := by
  unfold fX4_feed_3 at hf
  refine z_aload_n 0 dX4_feed_0 rfl rfl ?_
  refine z_dup dX4_feed_1 rfl ?_
  refine z_geti fdX4_46_3 ((hL.b 0 rfl).t 0 rfl) dX4_feed_2 ?_
  refine z_iconst 1 dX4_feed_5 rfl ?_
  refine z_iadd dX4_feed_6 ?_
  obtain ⟨h_1, he, hf⟩ := zlet_some hf
  refine z_puti fdX4_46_3 ((hL.b 0 rfl).t 0 rfl) ((hL.b 0 rfl).nz 0) he dX4_feed_7 ?_
  have hL := hL.I he
  refine z_aload_n 0 dX4_feed_10 rfl rfl ?_
  refine z_iload_n 1 dX4_feed_11 rfl rfl ?_
  rcases zxv_some hf with ⟨h_4, hc_2, hf⟩ | ⟨e_5, h_6, hc_7, hf⟩
  rotate_left
  · have hct := ctX5_step (l := F.1) hL hc_7
    refine z_invUt suX4_65_3 hct ((hL.b 0 rfl).t 0 rfl) ⟨Nat.le_trans (by decide) hD, by decide⟩ rfl rfl (Nat.le_of_ble_eq_true rfl) dX4_feed_12 ?_
    have hL := hL.ext hct.1
    cases hf
    exact zt_out rfl hM
  have hct := ctX5_step (l := F.1) hL hc_2
  refine z_invUv suX4_65_3 hct ((hL.b 0 rfl).t 0 rfl) ⟨Nat.le_trans (by decide) hD, by decide⟩ rfl rfl (Nat.le_of_ble_eq_true rfl) dX4_feed_12 ?_
  have hL := hL.ext hct.1
  cases hf
  exact z_vret dX4_feed_15 rfl hM
theorem ctX4_feed_3 {l : Launch} {h : zH} {a : Nat} {xx : Nat} {x1 : Int32} {y : zX} (hL : zRd h a xx) (hf : fX4_feed_3 h a xx x1 = some y) : zC l yX4_feed (ws_ yX4_feed cX4_feed 2 none) 8 [.ref a, .int x1] h y :=
  z_start (by decide) (Nat.le_of_ble_eq_true rfl) (zX4_feed_3 (F := (l, 8, h, y)) (Nat.le_refl _) hL hf rfl)
noncomputable def fX5_last (h : zH) (a : Nat) (xx : Nat) : Option (zX) := zxv (fX5_read h a xx 1) (fun h_3 => some ((.inl none, h_3))) (fun e_4 h_5 => some ((.inr e_4, h_5)))
theorem zX5_last {F : zF} {h : zH} {a : Nat} {xx : Nat} {y : zX} (hD : 7 ≤ F.2.1) (hL : zRd h a xx) (hf : fX5_last h a xx = some y) (hM : (y : zX) = zEnd F) : Z F 1 cX5_last RX5 "last" none [] h 0 [(0, .ref a)] [] := by
  unfold fX5_last at hf
  refine z_aload_n 0 dX5_last_0 rfl rfl ?_
  refine z_iconst 1 dX5_last_1 rfl ?_
  rcases zxv_some hf with ⟨h_3, hc_1, hf⟩ | ⟨e_4, h_5, hc_6, hf⟩
  rotate_left
  · have hct := ctX5_read (l := F.1) hL hc_6
    refine z_invVt suX5_23_3 hct ((hL.b 0 rfl).t 0 rfl) ⟨Nat.le_trans (by decide) hD, by decide⟩ rfl rfl (Nat.le_of_ble_eq_true rfl) dX5_last_2 ?_
    have hL := hL.ext hct.1
    cases hf
    exact zt_out rfl hM
  have hct := ctX5_read (l := F.1) hL hc_1
  refine z_invVv suX5_23_3 hct ((hL.b 0 rfl).t 0 rfl) ⟨Nat.le_trans (by decide) hD, by decide⟩ rfl rfl (Nat.le_of_ble_eq_true rfl) dX5_last_2 ?_
  have hL := hL.ext hct.1
  cases hf
  exact z_vret dX5_last_5 rfl hM
theorem ctX5_last {l : Launch} {h : zH} {a : Nat} {xx : Nat} {y : zX} (hL : zRd h a xx) (hf : fX5_last h a xx = some y) : zC l yX5_last (ws_ yX5_last cX5_last 1 none) 7 [.ref a] h y :=
  z_start (by decide) (Nat.le_of_ble_eq_true rfl) (zX5_last (F := (l, 7, h, y)) (Nat.le_refl _) hL hf rfl)
theorem suX4_69_3 : zIu RX4 69 ⟨"CodeExchange$Machine", "last", "()V"⟩ "CodeExchange$Machine" yX5_last (ws_ yX5_last cX5_last 1 none) 1 3 0 := ⟨(zGood_c q1166 q105), ⟨_, _, rfl, rfl, q1164⟩, q1161, q1163, (Or.inr q1162), by decide, q1165, by decide +kernel⟩
noncomputable def fX4_end_3 (h : zH) (a : Nat) (xx : Nat) : Option (zX) := zxv (fX5_last h a xx) (fun h_3 => zlet (zsI h_3 a 10 1) (fun h_7 => zlet (zsI h_7 a 8 0) (fun h_8 => zlet (zsI h_8 a 7 4) (fun h_9 => some ((.inl none, h_9)))))) (fun e_4 h_5 => some ((.inr e_4, h_5)))
theorem zX4_end_3 {F : zF} {h : zH} {a : Nat} {xx : Nat} {y : zX} (hD : 8 ≤ F.2.1) (hL : zRd h a xx) (hf : fX4_end_3 h a xx = some y) (hM : (y : zX) = zEnd F) : Z F 1 cX4_end RX4 "end" none [] h 0 [(0, .ref a)] [] := by
  unfold fX4_end_3 at hf
  refine z_aload_n 0 dX4_end_0 rfl rfl ?_
  rcases zxv_some hf with ⟨h_3, hc_1, hf⟩ | ⟨e_4, h_5, hc_6, hf⟩
  rotate_left
  · have hct := ctX5_last (l := F.1) hL hc_6
    refine z_invUt suX4_69_3 hct ((hL.b 0 rfl).t 0 rfl) ⟨Nat.le_trans (by decide) hD, by decide⟩ rfl rfl (Nat.le_of_ble_eq_true rfl) dX4_end_1 ?_
    have hL := hL.ext hct.1
    cases hf
    exact zt_out rfl hM
  have hct := ctX5_last (l := F.1) hL hc_1
  refine z_invUv suX4_69_3 hct ((hL.b 0 rfl).t 0 rfl) ⟨Nat.le_trans (by decide) hD, by decide⟩ rfl rfl (Nat.le_of_ble_eq_true rfl) dX4_end_1 ?_
  have hL := hL.ext hct.1
  refine z_aload_n 0 dX4_end_4 rfl rfl ?_
  refine z_iconst 1 dX4_end_5 rfl ?_
  obtain ⟨h_7, he, hf⟩ := zlet_some hf
  refine z_puti fdX4_49_3 ((hL.b 0 rfl).t 0 rfl) ((hL.b 0 rfl).nz 0) he dX4_end_6 ?_
  have hL := hL.I he
  refine z_aload_n 0 dX4_end_9 rfl rfl ?_
  refine z_iconst 0 dX4_end_10 rfl ?_
  obtain ⟨h_8, he, hf⟩ := zlet_some hf
  refine z_puti fdX4_43_3 ((hL.b 0 rfl).t 0 rfl) ((hL.b 0 rfl).nz 0) he dX4_end_11 ?_
  have hL := hL.I he
  refine z_aload_n 0 dX4_end_14 rfl rfl ?_
  refine z_iconst 4 dX4_end_15 rfl ?_
  obtain ⟨h_9, he, hf⟩ := zlet_some hf
  refine z_puti fdX4_40_3 ((hL.b 0 rfl).t 0 rfl) ((hL.b 0 rfl).nz 0) he dX4_end_16 ?_
  have hL := hL.I he
  cases hf
  exact z_vret dX4_end_19 rfl hM
theorem ctX4_end_3 {l : Launch} {h : zH} {a : Nat} {xx : Nat} {y : zX} (hL : zRd h a xx) (hf : fX4_end_3 h a xx = some y) : zC l yX4_end (ws_ yX4_end cX4_end 1 none) 8 [.ref a] h y :=
  z_start (by decide) (Nat.le_of_ble_eq_true rfl) (zX4_end_3 (F := (l, 8, h, y)) (Nat.le_refl _) hL hf rfl)
theorem suX0_287_3 : zIu RX0 287 ⟨"CodeExchange$Machine", "begin", "(LCodeExchange$Page;ILCodeExchange$Sink;)V"⟩ "CodeExchange$Machine" yX4_begin (ws_ yX4_begin cX4_begin 4 none) 4 3 3 := ⟨(zGood_c q967 q104), ⟨_, _, rfl, rfl, q965⟩, q962, q964, (Or.inl ⟨q963, _, _, _, q967⟩), by decide, q963, by decide +kernel⟩
theorem suX0_296_3 : zIu RX0 296 ⟨"CodeExchange$Machine", "end", "()V"⟩ "CodeExchange$Machine" yX4_end (ws_ yX4_end cX4_end 1 none) 1 3 0 := ⟨(zGood_c q1160 q104), ⟨_, _, rfl, rfl, q1158⟩, q1155, q1157, (Or.inl ⟨q1156, _, _, _, q1160⟩), by decide, q1156, by decide +kernel⟩
theorem suX0_293_3 : zIu RX0 293 ⟨"CodeExchange$Machine", "feed", "(I)V"⟩ "CodeExchange$Machine" yX4_feed (ws_ yX4_feed cX4_feed 2 none) 2 3 1 := ⟨(zGood_c q973 q104), ⟨_, _, rfl, rfl, q971⟩, q968, q970, (Or.inl ⟨q969, _, _, _, q973⟩), by decide, q969, by decide +kernel⟩
noncomputable def fX0_run_3_L11 (h : zH) (a : Nat) (x1 : Nat) (x4 : Nat) (x5 : Int32) (x7 : Int32) : Option ((zH × Int32) ⊕ (zX)) := if x5 ≤ x7 then (zxv (fX4_end_3 h x1 a) (fun h_6 => some (.inr ((.inl none, h_6)))) (fun e_7 h_8 => some (.inr ((.inr e_7, h_8))))) else (zck (zAr h x4 x7) (zxv (fX4_feed_3 h x1 a (zI h x4 x7.toNatClampNeg)) (fun h_13 => some (.inl ((h_13, x7 + 1)))) (fun e_14 h_15 => some (.inr ((.inr e_14, h_15))))))
theorem zX0_run_3_L11 {F : zF} {h : zH} {a : Nat} {x1 : Nat} {x4 : Nat} {x5 : Int32} {x7 : Int32} {y : (zH × Int32) ⊕ (zX)} (hD : 9 ≤ F.2.1) (hL : zCt [(xB, xP, a), (dB, dP, x1)] [(x1, 11, a), (x1, 14, a)] h) (hf : fX0_run_3_L11 h a x1 x4 x5 x7 = some y) (hM : ((∀ s' : zH × Int32, y = .inl s' → (zCt [(xB, xP, a), (dB, dP, x1)] [(x1, 11, a), (x1, 14, a)] s'.1 → Z F 8 cX0_run RX0 "run" none [] s'.1 11 [(1, .ref x1), (4, .ref x4), (5, .int x5), (7, .int s'.2)] [])) ∧ ∀ r : zX, y = .inr r → (r : zX) = zEnd F)) : Z F 8 cX0_run RX0 "run" none [] h 11 [(1, .ref x1), (4, .ref x4), (5, .int x5), (7, .int x7)] [] := by
  unfold fX0_run_3_L11 at hf
  refine z_iload 3 dX0_run_11 rfl ?_
  refine z_iload 2 dX0_run_13 rfl ?_
  refine z_icmp_ge 33 dX0_run_15 rfl hf (fun _ hf => ?_) (fun _ hf => ?_)
  · refine z_aload_n 0 dX0_run_33 rfl rfl ?_
    rcases zxv_some hf with ⟨h_6, hc_4, hf⟩ | ⟨e_7, h_8, hc_9, hf⟩
    rotate_left
    · have hct := ctX4_end_3 (l := F.1) (hL.sub [1, 0] [0, 1] rfl rfl) hc_9
      refine z_invUt suX0_296_3 hct ((hL.b 1 rfl).t 0 rfl) ⟨Nat.le_trans (by decide) hD, by decide⟩ rfl rfl (Nat.le_of_ble_eq_true rfl) dX0_run_34 ?_
      have hL := hL.ext hct.1
      cases hf
      exact zt_out rfl (hM.2 _ rfl)
    have hct := ctX4_end_3 (l := F.1) (hL.sub [1, 0] [0, 1] rfl rfl) hc_4
    refine z_invUv suX0_296_3 hct ((hL.b 1 rfl).t 0 rfl) ⟨Nat.le_trans (by decide) hD, by decide⟩ rfl rfl (Nat.le_of_ble_eq_true rfl) dX0_run_34 ?_
    have hL := hL.ext hct.1
    cases hf
    exact z_vret dX0_run_37 rfl (hM.2 _ rfl)
  · refine z_aload_n 0 dX0_run_18 rfl rfl ?_
    refine z_aload 1 dX0_run_19 rfl ?_
    refine z_iload 3 dX0_run_21 rfl ?_
    obtain ⟨hi_10, hf⟩ := zck_some hf
    refine z_iald (zAr_t hi_10) hi_10.2 dX0_run_23 ?_
    rcases zxv_some hf with ⟨h_13, hc_11, hf⟩ | ⟨e_14, h_15, hc_16, hf⟩
    rotate_left
    · have hct := ctX4_feed_3 (l := F.1) (hL.sub [1, 0] [0, 1] rfl rfl) hc_16
      refine z_invUt suX0_293_3 hct ((hL.b 1 rfl).t 0 rfl) ⟨Nat.le_trans (by decide) hD, by decide⟩ rfl rfl (Nat.le_of_ble_eq_true rfl) dX0_run_24 ?_
      have hL := hL.ext hct.1
      cases hf
      exact zt_out rfl (hM.2 _ rfl)
    have hct := ctX4_feed_3 (l := F.1) (hL.sub [1, 0] [0, 1] rfl rfl) hc_11
    refine z_invUv suX0_293_3 hct ((hL.b 1 rfl).t 0 rfl) ⟨Nat.le_trans (by decide) hD, by decide⟩ rfl rfl (Nat.le_of_ble_eq_true rfl) dX0_run_24 ?_
    have hL := hL.ext hct.1
    refine z_iinc 3 (x7 + 1) dX0_run_27 rfl rfl (by decide) (lc' := [(1, .ref x1), (4, .ref x4), (5, .int x5), (7, .int (x7 + 1))]) rfl ?_
    refine z_goto 11 dX0_run_30 rfl ?_
    cases hf
    exact (hM.1 _ rfl) hL
noncomputable def fX0_run_3 (h : zH) (a : Nat) (x1 : Nat) (x2 : Nat) (x3 : Int32) (x4 : Nat) (x5 : Int32) (x6 : Nat) : Option (zX) := zb1 (fX4_begin_3 h x1 a x2 x3 x6) (fun h_3 => zlp (fun s => fX0_run_3_L11 s.1 a x1 x4 x5 s.2) (h_3, 0))
theorem zX0_run_3 {F : zF} {h : zH} {a : Nat} {x1 : Nat} {x2 : Nat} {x3 : Int32} {x4 : Nat} {x5 : Int32} {x6 : Nat} {y : zX} (hD : 9 ≤ F.2.1) (hL : zCt [(xB, xP, a), (dB, dP, x1)] [(x1, 11, a), (x1, 14, a)] h) (hf : fX0_run_3 h a x1 x2 x3 x4 x5 x6 = some y) (hM : (y : zX) = zEnd F) : Z F 8 cX0_run RX0 "run" none [] h 0 [(0, .ref a), (1, .ref x1), (2, .ref x2), (3, .int x3), (4, .ref x4), (5, .int x5), (6, .ref x6)] [] := by
  unfold fX0_run_3 at hf
  refine z_aload_n 1 dX0_run_0 rfl rfl ?_
  refine z_aload_n 2 dX0_run_1 rfl rfl ?_
  refine z_iload_n 3 dX0_run_2 rfl rfl ?_
  refine z_aload 6 dX0_run_3 rfl ?_
  obtain ⟨h_3, hc_1, hf⟩ := zb1_some hf
  have hct := ctX4_begin_3 (l := F.1) (hL.sub [1, 0] [0, 1] rfl rfl) hc_1
  refine z_invUv suX0_287_3 hct ((hL.b 1 rfl).t 0 rfl) ⟨Nat.le_trans (by decide) hD, by decide⟩ rfl rfl (Nat.le_of_ble_eq_true rfl) dX0_run_5 ?_
  have hL := hL.ext hct.1
  refine z_iconst 0 dX0_run_8 rfl ?_
  refine z_istore dX0_run_9 (by decide) (lc' := [(0, .ref a), (1, .ref x1), (2, .ref x2), (3, .int x3), (4, .ref x4), (5, .int x5), (6, .ref x6), (7, .int 0)]) rfl ?_
  refine z_sub [1, 4, 5, 7] rfl ?_
  exact z_loop (fun (s : zH × Int32) => (zCt [(xB, xP, a), (dB, dP, x1)] [(x1, 11, a), (x1, 14, a)] s.1 → Z F 8 cX0_run RX0 "run" none [] s.1 11 [(1, .ref x1), (4, .ref x4), (5, .int x5), (7, .int s.2)] [])) (fun (r : zX) => (r : zX) = zEnd F) (fun s y hb hs hr hL => zX0_run_3_L11 hD hL hb ⟨hs, hr⟩) hf hM hL
theorem ctX0_run_3 {l : Launch} {h : zH} {a : Nat} {x1 : Nat} {x2 : Nat} {x3 : Int32} {x4 : Nat} {x5 : Int32} {x6 : Nat} {y : zX} (hL : zCt [(xB, xP, a), (dB, dP, x1)] [(x1, 11, a), (x1, 14, a)] h) (hf : fX0_run_3 h a x1 x2 x3 x4 x5 x6 = some y) : zC l yX0_run (ws_ yX0_run cX0_run 8 none) 9 [.ref a, .ref x1, .ref x2, .int x3, .ref x4, .int x5, .ref x6] h y :=
  z_start (by decide) (Nat.le_of_ble_eq_true rfl) (zX0_run_3 (F := (l, 9, h, y)) (Nat.le_refl _) hL hf rfl)
noncomputable def fX0_becomes (h : zH) (a : Nat) (x1 : Int32) : Option (Int32 × zH) := zb1 (zP h a 24) (fun b_1 => zb1 (zP h a 25) (fun b_2 => zlet (zsP h a 24 (some b_2)) (fun h_3 => zlet (zsP h_3 a 25 (some b_1)) (fun h_4 => zlet (zsI h_4 a 27 x1) (fun h_5 => zb1 (zP h_5 a 24) (fun b_6 => zck (zOb 5 h_5 b_6) (some ((zI h_5 b_6 1, h_5)))))))))
theorem zX0_becomes {F : zF} {h : zH} {a : Nat} {x1 : Int32} {y : Int32 × zH} (hD : 1 ≤ F.2.1) (hL : zXx h a) (hf : fX0_becomes h a x1 = some y) (hM : ((.inl (some (.int y.1)), y.2) : zX) = zEnd F) : Z F 3 cX0_becomes RX0 "becomes" (some .int) [] h 0 [(0, .ref a), (1, .int x1)] [] := by
  unfold fX0_becomes at hf
  refine z_aload_n 0 dX0_becomes_0 rfl rfl ?_
  obtain ⟨b_1, hb_1, hf⟩ := zb1_some hf
  refine z_getr fdX0_102_0 (Or.inl ⟨_, rfl⟩) ((hL.b 0 rfl).t 0 rfl) hb_1 dX0_becomes_1 ?_
  refine z_astore_n dX0_becomes_4 rfl (by decide) (lc' := [(0, .ref a), (1, .int x1), (2, .ref b_1)]) rfl ?_
  refine z_aload_n 0 dX0_becomes_5 rfl rfl ?_
  refine z_aload_n 0 dX0_becomes_6 rfl rfl ?_
  obtain ⟨b_2, hb_2, hf⟩ := zb1_some hf
  refine z_getr fdX0_106_0 (Or.inl ⟨_, rfl⟩) ((hL.b 0 rfl).t 0 rfl) hb_2 dX0_becomes_7 ?_
  obtain ⟨h_3, he, hf⟩ := zlet_some hf
  have hfn := zFd_fn fdX0_102_0 ((hL.b 0 rfl).t 0 rfl)
  refine z_putr fdX0_102_0 (Or.inl ⟨_, rfl⟩) ((hL.b 0 rfl).t 0 rfl) ((hL.b 0 rfl).nz 0) he dX0_becomes_10 ?_
  have hL := hL.P hfn he
  refine z_aload_n 0 dX0_becomes_13 rfl rfl ?_
  refine z_aload_n 2 dX0_becomes_14 rfl rfl ?_
  obtain ⟨h_4, he, hf⟩ := zlet_some hf
  have hfn := zFd_fn fdX0_106_0 ((hL.b 0 rfl).t 0 rfl)
  refine z_putr fdX0_106_0 (Or.inl ⟨_, rfl⟩) ((hL.b 0 rfl).t 0 rfl) ((hL.b 0 rfl).nz 0) he dX0_becomes_15 ?_
  have hL := hL.P hfn he
  refine z_aload_n 0 dX0_becomes_18 rfl rfl ?_
  refine z_iload_n 1 dX0_becomes_19 rfl rfl ?_
  obtain ⟨h_5, he, hf⟩ := zlet_some hf
  refine z_puti fdX0_272_0 ((hL.b 0 rfl).t 0 rfl) ((hL.b 0 rfl).nz 0) he dX0_becomes_20 ?_
  have hL := hL.I he
  refine z_aload_n 0 dX0_becomes_23 rfl rfl ?_
  obtain ⟨b_6, hb_6, hf⟩ := zb1_some hf
  refine z_getr fdX0_102_0 (Or.inl ⟨_, rfl⟩) ((hL.b 0 rfl).t 0 rfl) hb_6 dX0_becomes_24 ?_
  obtain ⟨hK_7, hf⟩ := zck_some hf
  refine z_geti fdX0_275_5 ((hK_7.b 0 rfl).t 0 rfl) dX0_becomes_27 ?_
  cases hf
  exact z_iret dX0_becomes_30 rfl hM
theorem ctX0_becomes {l : Launch} {h : zH} {a : Nat} {x1 : Int32} {v : Int32} {h' : zH} (hL : zXx h a) (hf : fX0_becomes h a x1 = some (v, h')) : zC l yX0_becomes (ws_ yX0_becomes cX0_becomes 3 (some .int)) 1 [.ref a, .int x1] h (.inl (some (.int v)), h') :=
  z_start (by decide) (Nat.le_of_ble_eq_true rfl) (zX0_becomes (F := (l, 1, h, (.inl (some (.int v)), h'))) (Nat.le_refl _) hL hf rfl)
theorem suX0_299_5 : zIv RX0 299 yX7_begin (ws_ yX7_begin cX7_begin 2 none) 2 5 1 := ⟨(zGood_c q957 q107), ⟨_, _, rfl, rfl, q956⟩, (Or.inl q954), q955, ⟨by decide, by decide⟩, by decide +kernel⟩
theorem fdX0_90_0 : zFd RX0 90 0 17 (.object "CodeExchange$Reader") true := ⟨_, _, _, rfl, rfl, by decide, rfl, rfl, Or.inl q502, Or.inl rfl⟩
theorem suX0_302_0_3 : zIv RX0 302 yX0_run (ws_ yX0_run cX0_run 8 none) 8 0 6 := ⟨(zGood_c q961 q97), ⟨_, _, rfl, rfl, qs25⟩, (Or.inl q958), q960, ⟨by decide, by decide⟩, by decide +kernel⟩
theorem suX0_306_0 : zIv RX0 306 yX0_becomes (ws_ yX0_becomes cX0_becomes 3 (some .int)) 3 0 1 := ⟨(zGood_c q1183 q97), ⟨_, _, rfl, rfl, qs34⟩, (Or.inl q1180), q1182, ⟨by decide, by decide⟩, by decide +kernel⟩
noncomputable def fX0_decode (h : zH) (a : Nat) (x1 : Int32) (x2 : Int32) : Option (Int32 × zH) := zxr (fX0_closedAt h a x1) (fun v_2 h_3 => zb1 v_2 (fun b_12 => zb1 (fX0_in x2 0 3) (fun v_14 => zxv (fX0_need h_3 a v_14 ((-1))) (fun h_18 => zb1 (zP h_18 a 25) (fun b_27 => zck (zRw h_18 b_27 a) (zb1 (fX7_begin h_18 b_27 a 0) (fun h_31 => zb1 (zP h_31 a 25) (fun b_32 => zck (zCt [(xB, xP, a), (dB, dP, a + 35)] [(a + 35, 11, a), (a + 35, 14, a)] h_31) (zxv (fX0_run_3 h_31 a (a + 35) b_12 x2 (a + 25) (zI h_31 a 5) b_32) (fun h_36 => zb2 (fX0_becomes h_36 a 1) (fun v_46 h_47 => some ((v_46, h_47)))) (fun e_37 h_38 => zck (zT h_38 e_37 = (2, 0)) (zck (zOb 1 h_38 e_37) (zb2 (fX0_answer h_38 a (zI h_38 e_37 6)) (fun v_43 h_44 => some ((v_43, h_44)))))))))))) (fun e_19 h_20 => zck (zT h_20 e_19 = (2, 0)) (zck (zOb 1 h_20 e_19) (zb2 (fX0_answer h_20 a (zI h_20 e_19 6)) (fun v_25 h_26 => some ((v_25, h_26))))))))) (fun e_4 h_5 => zck (zT h_5 e_4 = (2, 0)) (zck (zOb 1 h_5 e_4) (zb2 (fX0_answer h_5 a (zI h_5 e_4 6)) (fun v_10 h_11 => some ((v_10, h_11))))))
theorem zX0_decode {F : zF} {h : zH} {a : Nat} {x1 : Int32} {x2 : Int32} {y : Int32 × zH} (hD : 123 ≤ F.2.1) (hL : zXx h a) (hf : fX0_decode h a x1 x2 = some y) (hM : ((.inl (some (.int y.1)), y.2) : zX) = zEnd F) : Z F 4 cX0_decode RX0 "decode" (some .int) [(0, 52, 53, 18)] h 0 [(0, .ref a), (1, .int x1), (2, .int x2)] [] := by
  unfold fX0_decode at hf
  refine z_aload_n 0 dX0_decode_0 rfl rfl ?_
  refine z_iload_n 1 dX0_decode_1 rfl rfl ?_
  rcases zxr_some hf with ⟨v_2, h_3, hc_1, hf⟩ | ⟨e_4, h_5, hc_6, hf⟩
  rotate_left
  · have hct := ctX0_closedAt (l := F.1) hL hc_6
    refine z_invVt suX0_255_0 hct ((hL.b 0 rfl).t 0 rfl) ⟨Nat.le_trans (by decide) hD, by decide⟩ rfl rfl (Nat.le_of_ble_eq_true rfl) dX0_decode_2 ?_
    have hL := hL.ext hct.1
    obtain ⟨ht_7, hf⟩ := zck_some hf
    refine zt_catch (q := (RX1, TX1, 7)) rfl (by decide) q129 rfl rfl ht_7 ?_
    refine z_astore_n dX0_decode_53 rfl (by decide) (lc' := [(0, .ref a), (1, .int x1), (2, .int x2), (3, .ref e_4)]) rfl ?_
    refine z_aload_n 0 dX0_decode_54 rfl rfl ?_
    refine z_aload_n 3 dX0_decode_55 rfl rfl ?_
    obtain ⟨hK_8, hf⟩ := zck_some hf
    refine z_geti fdX0_17_1 ((hK_8.b 0 rfl).t 0 rfl) dX0_decode_56 ?_
    obtain ⟨v_10, h_11, hc_9, hf⟩ := zb2_some hf
    have hct := ctX0_answer (l := F.1) hL hc_9
    refine z_invVi suX0_163_0 hct ((hL.b 0 rfl).t 0 rfl) ⟨Nat.le_trans (by decide) hD, by decide⟩ rfl rfl (Nat.le_of_ble_eq_true rfl) dX0_decode_59 ?_
    have hL := hL.ext hct.1
    have hK_8 := hK_8.ext hct.1
    cases hf
    exact z_iret dX0_decode_62 rfl hM
  have hct := ctX0_closedAt (l := F.1) hL hc_1
  refine z_invVq suX0_255_0 hct ((hL.b 0 rfl).t 0 rfl) ⟨Nat.le_trans (by decide) hD, by decide⟩ rfl rfl (Nat.le_of_ble_eq_true rfl) dX0_decode_2 ?_
  have hL := hL.ext hct.1
  obtain ⟨b_12, e9, hf9⟩ := zb1_some hf
  subst e9
  have hf := hf9
  refine z_astore_n dX0_decode_5 rfl (by decide) (lc' := [(0, .ref a), (1, .int x1), (2, .int x2), (3, .ref b_12)]) rfl ?_
  refine z_aload_n 0 dX0_decode_6 rfl rfl ?_
  refine z_iload_n 2 dX0_decode_7 rfl rfl ?_
  refine z_iconst 0 dX0_decode_8 rfl ?_
  refine z_iconst 3 dX0_decode_9 rfl ?_
  obtain ⟨v_14, hc_13, hf⟩ := zb1_some hf
  refine z_invSi suX0_4_s (ctX0_in hc_13) ⟨Nat.le_trans (by decide) hD, by decide⟩ rfl rfl (Nat.le_of_ble_eq_true rfl) dX0_decode_10 ?_
  refine z_iconst (-1) dX0_decode_13 rfl ?_
  rcases zxv_some hf with ⟨h_18, hc_16, hf⟩ | ⟨e_19, h_20, hc_21, hf⟩
  rotate_left
  · have hct := ctX0_need (l := F.1) hL hc_21
    refine z_invVt suX0_184_0 hct ((hL.b 0 rfl).t 0 rfl) ⟨Nat.le_trans (by decide) hD, by decide⟩ rfl rfl (Nat.le_of_ble_eq_true rfl) dX0_decode_14 ?_
    have hL := hL.ext hct.1
    obtain ⟨ht_22, hf⟩ := zck_some hf
    refine zt_catch (q := (RX1, TX1, 7)) rfl (by decide) q129 rfl rfl ht_22 ?_
    refine z_astore_n dX0_decode_53 rfl (by decide) (lc' := [(0, .ref a), (1, .int x1), (2, .int x2), (3, .ref e_19)]) rfl ?_
    refine z_aload_n 0 dX0_decode_54 rfl rfl ?_
    refine z_aload_n 3 dX0_decode_55 rfl rfl ?_
    obtain ⟨hK_23, hf⟩ := zck_some hf
    refine z_geti fdX0_17_1 ((hK_23.b 0 rfl).t 0 rfl) dX0_decode_56 ?_
    obtain ⟨v_25, h_26, hc_24, hf⟩ := zb2_some hf
    have hct := ctX0_answer (l := F.1) hL hc_24
    refine z_invVi suX0_163_0 hct ((hL.b 0 rfl).t 0 rfl) ⟨Nat.le_trans (by decide) hD, by decide⟩ rfl rfl (Nat.le_of_ble_eq_true rfl) dX0_decode_59 ?_
    have hL := hL.ext hct.1
    have hK_23 := hK_23.ext hct.1
    cases hf
    exact z_iret dX0_decode_62 rfl hM
  have hct := ctX0_need (l := F.1) hL hc_16
  refine z_invVv suX0_184_0 hct ((hL.b 0 rfl).t 0 rfl) ⟨Nat.le_trans (by decide) hD, by decide⟩ rfl rfl (Nat.le_of_ble_eq_true rfl) dX0_decode_14 ?_
  have hL := hL.ext hct.1
  refine z_aload_n 0 dX0_decode_17 rfl rfl ?_
  obtain ⟨b_27, hb_27, hf⟩ := zb1_some hf
  refine z_getr fdX0_106_0 (Or.inl ⟨_, rfl⟩) ((hL.b 0 rfl).t 0 rfl) hb_27 dX0_decode_18 ?_
  refine z_iconst 0 dX0_decode_21 rfl ?_
  obtain ⟨hK_28, hf⟩ := zck_some hf
  obtain ⟨h_31, hc_29, hf⟩ := zb1_some hf
  have hct := ctX7_begin (l := F.1) hK_28 hc_29
  refine z_invVv suX0_299_5 hct ((hK_28.b 0 rfl).t 0 rfl) ⟨Nat.le_trans (by decide) hD, by decide⟩ rfl rfl (Nat.le_of_ble_eq_true rfl) dX0_decode_22 ?_
  have hL := hL.ext hct.1
  have hK_28 := hK_28.ext hct.1
  refine z_aload_n 0 dX0_decode_25 rfl rfl ?_
  refine z_aload_n 0 dX0_decode_26 rfl rfl ?_
  refine z_getr fdX0_90_0 (Or.inl ⟨_, rfl⟩) ((hL.b 0 rfl).t 0 rfl) ((hL.b 0 rfl).p 12 rfl) dX0_decode_27 ?_
  refine z_aload_n 3 dX0_decode_30 rfl rfl ?_
  refine z_iload_n 2 dX0_decode_31 rfl rfl ?_
  refine z_aload_n 0 dX0_decode_32 rfl rfl ?_
  refine z_getr fdX0_49_0 (Or.inr ⟨_, rfl⟩) ((hL.b 0 rfl).t 0 rfl) ((hL.b 0 rfl).p 2 rfl) dX0_decode_33 ?_
  refine z_aload_n 0 dX0_decode_36 rfl rfl ?_
  refine z_geti fdX0_262_0 ((hL.b 0 rfl).t 0 rfl) dX0_decode_37 ?_
  refine z_aload_n 0 dX0_decode_40 rfl rfl ?_
  obtain ⟨b_32, hb_32, hf⟩ := zb1_some hf
  refine z_getr fdX0_106_0 (Or.inl ⟨_, rfl⟩) ((hL.b 0 rfl).t 0 rfl) hb_32 dX0_decode_41 ?_
  obtain ⟨hK_33, hf⟩ := zck_some hf
  rcases zxv_some hf with ⟨h_36, hc_34, hf⟩ | ⟨e_37, h_38, hc_39, hf⟩
  rotate_left
  · have hct := ctX0_run_3 (l := F.1) hK_33 hc_39
    refine z_invVt suX0_302_0_3 hct ((hL.b 0 rfl).t 0 rfl) ⟨Nat.le_trans (by decide) hD, by decide⟩ rfl rfl (Nat.le_of_ble_eq_true rfl) dX0_decode_44 ?_
    have hL := hL.ext hct.1
    have hK_28 := hK_28.ext hct.1
    have hK_33 := hK_33.ext hct.1
    obtain ⟨ht_40, hf⟩ := zck_some hf
    refine zt_catch (q := (RX1, TX1, 7)) rfl (by decide) q129 rfl rfl ht_40 ?_
    refine z_astore_n dX0_decode_53 rfl (by decide) (lc' := [(0, .ref a), (1, .int x1), (2, .int x2), (3, .ref e_37)]) rfl ?_
    refine z_aload_n 0 dX0_decode_54 rfl rfl ?_
    refine z_aload_n 3 dX0_decode_55 rfl rfl ?_
    obtain ⟨hK_41, hf⟩ := zck_some hf
    refine z_geti fdX0_17_1 ((hK_41.b 0 rfl).t 0 rfl) dX0_decode_56 ?_
    obtain ⟨v_43, h_44, hc_42, hf⟩ := zb2_some hf
    have hct := ctX0_answer (l := F.1) hL hc_42
    refine z_invVi suX0_163_0 hct ((hL.b 0 rfl).t 0 rfl) ⟨Nat.le_trans (by decide) hD, by decide⟩ rfl rfl (Nat.le_of_ble_eq_true rfl) dX0_decode_59 ?_
    have hL := hL.ext hct.1
    have hK_28 := hK_28.ext hct.1
    have hK_33 := hK_33.ext hct.1
    have hK_41 := hK_41.ext hct.1
    cases hf
    exact z_iret dX0_decode_62 rfl hM
  have hct := ctX0_run_3 (l := F.1) hK_33 hc_34
  refine z_invVv suX0_302_0_3 hct ((hL.b 0 rfl).t 0 rfl) ⟨Nat.le_trans (by decide) hD, by decide⟩ rfl rfl (Nat.le_of_ble_eq_true rfl) dX0_decode_44 ?_
  have hL := hL.ext hct.1
  have hK_28 := hK_28.ext hct.1
  have hK_33 := hK_33.ext hct.1
  refine z_aload_n 0 dX0_decode_47 rfl rfl ?_
  refine z_iconst 1 dX0_decode_48 rfl ?_
  obtain ⟨v_46, h_47, hc_45, hf⟩ := zb2_some hf
  have hct := ctX0_becomes (l := F.1) hL hc_45
  refine z_invVi suX0_306_0 hct ((hL.b 0 rfl).t 0 rfl) ⟨Nat.le_trans (by decide) hD, by decide⟩ rfl rfl (Nat.le_of_ble_eq_true rfl) dX0_decode_49 ?_
  have hL := hL.ext hct.1
  have hK_28 := hK_28.ext hct.1
  have hK_33 := hK_33.ext hct.1
  cases hf
  exact z_iret dX0_decode_52 rfl hM
theorem ctX0_decode {l : Launch} {h : zH} {a : Nat} {x1 : Int32} {x2 : Int32} {v : Int32} {h' : zH} (hL : zXx h a) (hf : fX0_decode h a x1 x2 = some (v, h')) : zC l yX0_decode (wsW_ yX0_decode cX0_decode 4 (some .int) [(0, 52, 53, 18)]) 123 [.ref a, .int x1, .int x2] h (.inl (some (.int v)), h') :=
  z_startW (by decide) (Nat.le_of_ble_eq_true rfl) (zX0_decode (F := (l, 123, h, (.inl (some (.int v)), h'))) (Nat.le_refl _) hL hf rfl)
theorem fdX0_309_0 : zFd RX0 309 0 9 .int false := ⟨_, _, _, rfl, rfl, by decide, rfl, rfl, Or.inl q492, Or.inl rfl⟩
theorem fdX0_60_0 : zFd RX0 60 0 10 (.array .int) true := ⟨_, _, _, rfl, rfl, by decide, rfl, rfl, Or.inl q493, Or.inl rfl⟩
noncomputable def fX0_fallbackOf_L2 (h : zH) (a : Nat) (x1 : Int32) (x2 : Int32) : Option ((Int32) ⊕ (Int32)) := if (zI h a 9) ≤ x2 then (some (.inr ((-1)))) else (zck (vp_in x2 41) (if (zI h (a + 28) x2.toNatClampNeg) = x1 then (some (.inr x2)) else (some (.inl (x2 + 1)))))
theorem zX0_fallbackOf_L2 {F : zF} {h : zH} {a : Nat} {x1 : Int32} {x2 : Int32} {y : (Int32) ⊕ (Int32)} (hD : 1 ≤ F.2.1) (hL : zXx h a) (hf : fX0_fallbackOf_L2 h a x1 x2 = some y) (hM : ((∀ s' : Int32, y = .inl s' → Z F 3 cX0_fallbackOf RX0 "fallbackOf" (some .int) [] h 2 [(0, .ref a), (1, .int x1), (2, .int s')] []) ∧ ∀ r : Int32, y = .inr r → ((.inl (some (.int r)), h) : zX) = zEnd F)) : Z F 3 cX0_fallbackOf RX0 "fallbackOf" (some .int) [] h 2 [(0, .ref a), (1, .int x1), (2, .int x2)] [] := by
  unfold fX0_fallbackOf_L2 at hf
  refine z_iload_n 2 dX0_fallbackOf_2 rfl rfl ?_
  refine z_aload_n 0 dX0_fallbackOf_3 rfl rfl ?_
  refine z_geti fdX0_309_0 ((hL.b 0 rfl).t 0 rfl) dX0_fallbackOf_4 ?_
  refine z_icmp_ge 28 dX0_fallbackOf_7 rfl hf (fun _ hf => ?_) (fun _ hf => ?_)
  · refine z_iconst (-1) dX0_fallbackOf_28 rfl ?_
    cases hf
    exact z_iret dX0_fallbackOf_29 rfl (hM.2 _ rfl)
  · refine z_aload_n 0 dX0_fallbackOf_10 rfl rfl ?_
    refine z_getr fdX0_60_0 (Or.inr ⟨_, rfl⟩) ((hL.b 0 rfl).t 0 rfl) ((hL.b 0 rfl).p 5 rfl) dX0_fallbackOf_11 ?_
    refine z_iload_n 2 dX0_fallbackOf_14 rfl rfl ?_
    obtain ⟨hi_1, hf⟩ := zck_some hf
    refine z_iald ((hL.b 0 rfl).t 28 rfl) hi_1 dX0_fallbackOf_15 ?_
    refine z_iload_n 1 dX0_fallbackOf_16 rfl rfl ?_
    refine z_icmp_ne 22 dX0_fallbackOf_17 rfl hf (fun _ hf => ?_) (fun _ hf => ?_)
    · refine z_iinc 2 (x2 + 1) dX0_fallbackOf_22 rfl rfl (by decide) (lc' := [(0, .ref a), (1, .int x1), (2, .int (x2 + 1))]) rfl ?_
      refine z_goto 2 dX0_fallbackOf_25 rfl ?_
      cases hf
      exact (hM.1 _ rfl)
    · refine z_iload_n 2 dX0_fallbackOf_20 rfl rfl ?_
      cases hf
      exact z_iret dX0_fallbackOf_21 rfl (hM.2 _ rfl)
noncomputable def fX0_fallbackOf (h : zH) (a : Nat) (x1 : Int32) : Option (Int32) := zlp (fun s => fX0_fallbackOf_L2 h a x1 s) 0
theorem zX0_fallbackOf {F : zF} {h : zH} {a : Nat} {x1 : Int32} {y : Int32} (hD : 1 ≤ F.2.1) (hL : zXx h a) (hf : fX0_fallbackOf h a x1 = some y) (hM : ((.inl (some (.int y)), h) : zX) = zEnd F) : Z F 3 cX0_fallbackOf RX0 "fallbackOf" (some .int) [] h 0 [(0, .ref a), (1, .int x1)] [] := by
  unfold fX0_fallbackOf at hf
  refine z_iconst 0 dX0_fallbackOf_0 rfl ?_
  refine z_istore_n dX0_fallbackOf_1 rfl (by decide) (lc' := [(0, .ref a), (1, .int x1), (2, .int 0)]) rfl ?_
  exact z_loop (fun (s : Int32) => Z F 3 cX0_fallbackOf RX0 "fallbackOf" (some .int) [] h 2 [(0, .ref a), (1, .int x1), (2, .int s)] []) (fun (r : Int32) => ((.inl (some (.int r)), h) : zX) = zEnd F) (fun s y hb hs hr => zX0_fallbackOf_L2 hD hL hb ⟨hs, hr⟩) hf hM
theorem ctX0_fallbackOf {l : Launch} {h : zH} {a : Nat} {x1 : Int32} {v : Int32} (hL : zXx h a) (hf : fX0_fallbackOf h a x1 = some v) : zC l yX0_fallbackOf (ws_ yX0_fallbackOf cX0_fallbackOf 3 (some .int)) 1 [.ref a, .int x1] h (.inl (some (.int v)), h) :=
  z_start (by decide) (Nat.le_of_ble_eq_true rfl) (zX0_fallbackOf (F := (l, 1, h, (.inl (some (.int v)), h))) (Nat.le_refl _) hL hf rfl)
theorem fdX4_19_4 : zFd RX4 19 4 2 (.object "CodeExchange$Page") false := ⟨_, _, _, rfl, rfl, by decide, rfl, rfl, Or.inl q356, Or.inl rfl⟩
theorem fdX4_23_4 : zFd RX4 23 4 3 .int false := ⟨_, _, _, rfl, rfl, by decide, rfl, rfl, Or.inl q361, Or.inl rfl⟩
theorem fdX4_27_4 : zFd RX4 27 4 1 (.object "CodeExchange$Sink") false := ⟨_, _, _, rfl, rfl, by decide, rfl, rfl, Or.inl q351, Or.inl rfl⟩
theorem fdX4_37_4 : zFd RX4 37 4 6 .int false := ⟨_, _, _, rfl, rfl, by decide, rfl, rfl, Or.inl q369, Or.inl rfl⟩
theorem fdX4_40_4 : zFd RX4 40 4 7 .int false := ⟨_, _, _, rfl, rfl, by decide, rfl, rfl, Or.inl q376, Or.inl rfl⟩
theorem fdX4_43_4 : zFd RX4 43 4 8 .int false := ⟨_, _, _, rfl, rfl, by decide, rfl, rfl, Or.inl q382, Or.inl rfl⟩
theorem fdX4_46_4 : zFd RX4 46 4 9 .int false := ⟨_, _, _, rfl, rfl, by decide, rfl, rfl, Or.inl q386, Or.inl rfl⟩
theorem fdX4_49_4 : zFd RX4 49 4 10 .int false := ⟨_, _, _, rfl, rfl, by decide, rfl, rfl, Or.inl q387, Or.inl rfl⟩
noncomputable def fX4_begin_4 (h : zH) (a : Nat) (xx : Nat) (x1 : Nat) (x2 : Int32) (x3 : Nat) : Option (zH) := zlet (zsP h a 2 (some x1)) (fun h_1 => zlet (zsI h_1 a 3 x2) (fun h_2 => zlet (zsP h_2 a 1 (some x3)) (fun h_3 => zlet (zsI h_3 a 4 0) (fun h_4 => zlet (zsI h_4 a 5 0) (fun h_5 => zlet (zsI h_5 a 6 0) (fun h_6 => zlet (zsI h_6 a 7 4) (fun h_7 => zlet (zsI h_7 a 8 0) (fun h_8 => zlet (zsI h_8 a 9 0) (fun h_9 => zlet (zsI h_9 a 10 0) (fun h_10 => some h_10))))))))))
theorem zX4_begin_4 {F : zF} {h : zH} {a : Nat} {xx : Nat} {x1 : Nat} {x2 : Int32} {x3 : Nat} {y : zH} (hD : 1 ≤ F.2.1) (hL : zWr h a xx) (hf : fX4_begin_4 h a xx x1 x2 x3 = some y) (hM : ((.inl none, y) : zX) = zEnd F) : Z F 4 cX4_begin RX4 "begin" none [] h 0 [(0, .ref a), (1, .ref x1), (2, .int x2), (3, .ref x3)] [] := by
  unfold fX4_begin_4 at hf
  refine z_aload_n 0 dX4_begin_0 rfl rfl ?_
  refine z_aload_n 1 dX4_begin_1 rfl rfl ?_
  obtain ⟨h_1, he, hf⟩ := zlet_some hf
  have hfn := zFd_fn fdX4_19_4 ((hL.b 0 rfl).t 0 rfl)
  refine z_putr fdX4_19_4 (Or.inl ⟨_, rfl⟩) ((hL.b 0 rfl).t 0 rfl) ((hL.b 0 rfl).nz 0) he dX4_begin_2 ?_
  have hL := hL.P hfn he
  refine z_aload_n 0 dX4_begin_5 rfl rfl ?_
  refine z_iload_n 2 dX4_begin_6 rfl rfl ?_
  obtain ⟨h_2, he, hf⟩ := zlet_some hf
  refine z_puti fdX4_23_4 ((hL.b 0 rfl).t 0 rfl) ((hL.b 0 rfl).nz 0) he dX4_begin_7 ?_
  have hL := hL.I he
  refine z_aload_n 0 dX4_begin_10 rfl rfl ?_
  refine z_aload_n 3 dX4_begin_11 rfl rfl ?_
  obtain ⟨h_3, he, hf⟩ := zlet_some hf
  have hfn := zFd_fn fdX4_27_4 ((hL.b 0 rfl).t 0 rfl)
  refine z_putr fdX4_27_4 (Or.inl ⟨_, rfl⟩) ((hL.b 0 rfl).t 0 rfl) ((hL.b 0 rfl).nz 0) he dX4_begin_12 ?_
  have hL := hL.P hfn he
  refine z_aload_n 0 dX4_begin_15 rfl rfl ?_
  refine z_iconst 0 dX4_begin_16 rfl ?_
  obtain ⟨h_4, he, hf⟩ := zlet_some hf
  refine z_puti fdX4_31_4 ((hL.b 0 rfl).t 0 rfl) ((hL.b 0 rfl).nz 0) he dX4_begin_17 ?_
  have hL := hL.I he
  refine z_aload_n 0 dX4_begin_20 rfl rfl ?_
  refine z_iconst 0 dX4_begin_21 rfl ?_
  obtain ⟨h_5, he, hf⟩ := zlet_some hf
  refine z_puti fdX4_34_4 ((hL.b 0 rfl).t 0 rfl) ((hL.b 0 rfl).nz 0) he dX4_begin_22 ?_
  have hL := hL.I he
  refine z_aload_n 0 dX4_begin_25 rfl rfl ?_
  refine z_iconst 0 dX4_begin_26 rfl ?_
  obtain ⟨h_6, he, hf⟩ := zlet_some hf
  refine z_puti fdX4_37_4 ((hL.b 0 rfl).t 0 rfl) ((hL.b 0 rfl).nz 0) he dX4_begin_27 ?_
  have hL := hL.I he
  refine z_aload_n 0 dX4_begin_30 rfl rfl ?_
  refine z_iconst 4 dX4_begin_31 rfl ?_
  obtain ⟨h_7, he, hf⟩ := zlet_some hf
  refine z_puti fdX4_40_4 ((hL.b 0 rfl).t 0 rfl) ((hL.b 0 rfl).nz 0) he dX4_begin_32 ?_
  have hL := hL.I he
  refine z_aload_n 0 dX4_begin_35 rfl rfl ?_
  refine z_iconst 0 dX4_begin_36 rfl ?_
  obtain ⟨h_8, he, hf⟩ := zlet_some hf
  refine z_puti fdX4_43_4 ((hL.b 0 rfl).t 0 rfl) ((hL.b 0 rfl).nz 0) he dX4_begin_37 ?_
  have hL := hL.I he
  refine z_aload_n 0 dX4_begin_40 rfl rfl ?_
  refine z_iconst 0 dX4_begin_41 rfl ?_
  obtain ⟨h_9, he, hf⟩ := zlet_some hf
  refine z_puti fdX4_46_4 ((hL.b 0 rfl).t 0 rfl) ((hL.b 0 rfl).nz 0) he dX4_begin_42 ?_
  have hL := hL.I he
  refine z_aload_n 0 dX4_begin_45 rfl rfl ?_
  refine z_iconst 0 dX4_begin_46 rfl ?_
  obtain ⟨h_10, he, hf⟩ := zlet_some hf
  refine z_puti fdX4_49_4 ((hL.b 0 rfl).t 0 rfl) ((hL.b 0 rfl).nz 0) he dX4_begin_47 ?_
  have hL := hL.I he
  cases hf
  exact z_vret dX4_begin_50 rfl hM
theorem ctX4_begin_4 {l : Launch} {h : zH} {a : Nat} {xx : Nat} {x1 : Nat} {x2 : Int32} {x3 : Nat} {h' : zH} (hL : zWr h a xx) (hf : fX4_begin_4 h a xx x1 x2 x3 = some h') : zC l yX4_begin (ws_ yX4_begin cX4_begin 4 none) 1 [.ref a, .ref x1, .int x2, .ref x3] h (.inl none, h') :=
  z_start (by decide) (Nat.le_of_ble_eq_true rfl) (zX4_begin_4 (F := (l, 1, h, (.inl none, h'))) (Nat.le_refl _) hL hf rfl)
noncomputable def fX2_way_8 (a : Nat) (x1 : Int32) (x2 : Int32) : Option (Int64) := some 0
theorem zX2_way_8 {F : zF} {h : zH} {a : Nat} {x1 : Int32} {x2 : Int32} {y : Int64} (hD : 1 ≤ F.2.1) (hL : zOb 8 h a) (hf : fX2_way_8 a x1 x2 = some y) (hM : ((.inl (some (.long y)), h) : zX) = zEnd F) : Z F 3 cX2_way RX2 "way" (some .long) [] h 0 [(0, .ref a), (1, .int x1), (2, .int x2)] [] := by
  unfold fX2_way_8 at hf
  refine z_lconst 0 dX2_way_0 rfl ?_
  cases hf
  exact z_lret dX2_way_1 rfl hM
theorem ctX2_way_8 {l : Launch} {h : zH} {a : Nat} {x1 : Int32} {x2 : Int32} {v : Int64} (hL : zOb 8 h a) (hf : fX2_way_8 a x1 x2 = some v) : zC l yX2_way (ws_ yX2_way cX2_way 3 (some .long)) 1 [.ref a, .int x1, .int x2] h (.inl (some (.long v)), h) :=
  z_start (by decide) (Nat.le_of_ble_eq_true rfl) (zX2_way_8 (F := (l, 1, h, (.inl (some (.long v)), h))) (Nat.le_refl _) hL hf rfl)
noncomputable def fX2_way_9 (a : Nat) (x1 : Int32) (x2 : Int32) : Option (Int64) := some 0
theorem zX2_way_9 {F : zF} {h : zH} {a : Nat} {x1 : Int32} {x2 : Int32} {y : Int64} (hD : 1 ≤ F.2.1) (hL : zOb 9 h a) (hf : fX2_way_9 a x1 x2 = some y) (hM : ((.inl (some (.long y)), h) : zX) = zEnd F) : Z F 3 cX2_way RX2 "way" (some .long) [] h 0 [(0, .ref a), (1, .int x1), (2, .int x2)] [] := by
  unfold fX2_way_9 at hf
  refine z_lconst 0 dX2_way_0 rfl ?_
  cases hf
  exact z_lret dX2_way_1 rfl hM
theorem ctX2_way_9 {l : Launch} {h : zH} {a : Nat} {x1 : Int32} {x2 : Int32} {v : Int64} (hL : zOb 9 h a) (hf : fX2_way_9 a x1 x2 = some v) : zC l yX2_way (ws_ yX2_way cX2_way 3 (some .long)) 1 [.ref a, .int x1, .int x2] h (.inl (some (.long v)), h) :=
  z_start (by decide) (Nat.le_of_ble_eq_true rfl) (zX2_way_9 (F := (l, 1, h, (.inl (some (.long v)), h))) (Nat.le_refl _) hL hf rfl)
noncomputable def fX2_way_10 (a : Nat) (x1 : Int32) (x2 : Int32) : Option (Int64) := some 0
theorem zX2_way_10 {F : zF} {h : zH} {a : Nat} {x1 : Int32} {x2 : Int32} {y : Int64} (hD : 1 ≤ F.2.1) (hL : zOb 10 h a) (hf : fX2_way_10 a x1 x2 = some y) (hM : ((.inl (some (.long y)), h) : zX) = zEnd F) : Z F 3 cX2_way RX2 "way" (some .long) [] h 0 [(0, .ref a), (1, .int x1), (2, .int x2)] [] := by
  unfold fX2_way_10 at hf
  refine z_lconst 0 dX2_way_0 rfl ?_
  cases hf
  exact z_lret dX2_way_1 rfl hM
theorem ctX2_way_10 {l : Launch} {h : zH} {a : Nat} {x1 : Int32} {x2 : Int32} {v : Int64} (hL : zOb 10 h a) (hf : fX2_way_10 a x1 x2 = some v) : zC l yX2_way (ws_ yX2_way cX2_way 3 (some .long)) 1 [.ref a, .int x1, .int x2] h (.inl (some (.long v)), h) :=
  z_start (by decide) (Nat.le_of_ble_eq_true rfl) (zX2_way_10 (F := (l, 1, h, (.inl (some (.long v)), h))) (Nat.le_refl _) hL hf rfl)
theorem fdX6_19_4 : zFd RX6 19 4 1 (.object "CodeExchange$Sink") false := ⟨_, _, _, rfl, rfl, by decide, rfl, rfl, Or.inl q352, Or.inr q353⟩
theorem suX6_25_5 : zIf RX6 25 ⟨"CodeExchange$Sink", "put", "(I)V"⟩ yX7_put (ws_ yX7_put cX7_put 2 none) 2 5 1 := ⟨(zGood_c q1090 q107), ⟨_, _, rfl, rfl, q1086, q1087, q1085⟩, q1129, by decide, q1089, q1088, by decide +kernel⟩
theorem suX6_25_3 : zIf RX6 25 ⟨"CodeExchange$Sink", "put", "(I)V"⟩ yX4_put (ws_ yX4_put cX4_put 2 none) 2 3 1 := ⟨(zGood_c q1083 q104), ⟨_, _, rfl, rfl, q1079, q1080, q1078⟩, q1129, by decide, q1082, q1081, by decide +kernel⟩
theorem suX6_25_4 : zIf RX6 25 ⟨"CodeExchange$Sink", "put", "(I)V"⟩ yX4_put (ws_ yX4_put cX4_put 2 none) 2 4 1 := ⟨(zGood_c q1083 q104), ⟨_, _, rfl, rfl, q1093, q1094, q1092⟩, q1129, by decide, q1082, q1081, by decide +kernel⟩
theorem zVX6_25v {F : zF} {nL : Nat} {cc : ByteArray} {nm : String} {ret : Option FieldType} {hh : List (Nat × Nat × Nat × Nat)} {h h1 : zH} {pc b : Nat} {lc : List (Nat × Value)} {st : List Value} {p0 : Int32}  (hD : 3 ≤ F.2.1) (hf : fV_Sink_put h b p0 = some (.inl none, h1)) (hcat : (st.map fun v => v.category).sum ≤ 8) (hd : decode cc pc = .ok (.invokeinterface 25 2, 5)) (kk : Z F nL cc RX6 nm ret hh h1 (pc + 5) lc (st)) : Z F nL cc RX6 nm ret hh h pc lc (.int p0 :: .ref b :: st) := by
  unfold fV_Sink_put at hf
  refine zdsp hf (fun e hf => ?_) (fun _ hf => ?_)
  · obtain ⟨xx, hx, hf⟩ := zb1_some hf
    obtain ⟨hK, hf⟩ := zck_some hf
    have hc := hf
    exact z_invFv suX6_25_5 (ctX7_put hK hc) e ⟨Nat.le_trans (by decide) hD, by decide⟩ rfl rfl hcat hd kk
  refine zdsp hf (fun e hf => ?_) (fun _ hf => ?_)
  · obtain ⟨xx, hx, hf⟩ := zb1_some hf
    obtain ⟨hK, hf⟩ := zck_some hf
    obtain ⟨h1, hc, hf⟩ := zb1_some hf
    cases hf
    exact z_invFv suX6_25_3 (ctX4_put_3 hK hc) e ⟨Nat.le_trans (by decide) hD, by decide⟩ rfl rfl hcat hd kk
  refine zdsp hf (fun e hf => ?_) (fun _ hf => ?_)
  · obtain ⟨xx, hx, hf⟩ := zb1_some hf
    obtain ⟨hK, hf⟩ := zck_some hf
    obtain ⟨h1, hc, hf⟩ := zb1_some hf
    cases hf
    exact z_invFv suX6_25_4 (ctX4_put_4 hK hc) e ⟨Nat.le_trans (by decide) hD, by decide⟩ rfl rfl hcat hd kk
  cases hf
theorem zVX6_25t {F : zF} {nL : Nat} {cc : ByteArray} {nm : String} {ret : Option FieldType} {hh : List (Nat × Nat × Nat × Nat)} {h h1 : zH} {pc b : Nat} {lc : List (Nat × Value)} {st : List Value} {p0 : Int32} {ex : Nat} (hD : 3 ≤ F.2.1) (hf : fV_Sink_put h b p0 = some (.inr ex, h1)) (hcat : (st.map fun v => v.category).sum ≤ 8) (hd : decode cc pc = .ok (.invokeinterface 25 2, 5)) (kk : ZT F nL cc RX6 nm ret hh h1 pc lc ex) : Z F nL cc RX6 nm ret hh h pc lc (.int p0 :: .ref b :: st) := by
  unfold fV_Sink_put at hf
  refine zdsp hf (fun e hf => ?_) (fun _ hf => ?_)
  · obtain ⟨xx, hx, hf⟩ := zb1_some hf
    obtain ⟨hK, hf⟩ := zck_some hf
    have hc := hf
    exact z_invFt suX6_25_5 (ctX7_put hK hc) e ⟨Nat.le_trans (by decide) hD, by decide⟩ rfl rfl hcat hd kk
  refine zdsp hf (fun e hf => ?_) (fun _ hf => ?_)
  · obtain ⟨xx, hx, hf⟩ := zb1_some hf
    obtain ⟨hK, hf⟩ := zck_some hf
    obtain ⟨h1, hc, hf⟩ := zb1_some hf
    cases hf
  refine zdsp hf (fun e hf => ?_) (fun _ hf => ?_)
  · obtain ⟨xx, hx, hf⟩ := zb1_some hf
    obtain ⟨hK, hf⟩ := zck_some hf
    obtain ⟨h1, hc, hf⟩ := zb1_some hf
    cases hf
  cases hf
noncomputable def fX6_putBytes_L8 (h : zH) (a : Nat) (xx : Nat) (x1 : Int64) (x3 : Int32) : Option ((zH × Int32) ⊕ (zX)) := if x3 < 0 then (some (.inr ((.inl none, h)))) else (zb1 (zP h a 1) (fun b_1 => zxv (fV_Sink_put h b_1 (((x1 >>> (((8 : Int32) * x3).toInt64 &&& 63)) &&& 255).toInt32)) (fun h_4 => some (.inl ((h_4, x3 + (-1))))) (fun e_5 h_6 => some (.inr ((.inr e_5, h_6))))))
theorem zX6_putBytes_L8 {F : zF} {h : zH} {a : Nat} {xx : Nat} {x1 : Int64} {x3 : Int32} {y : (zH × Int32) ⊕ (zX)} (hD : 3 ≤ F.2.1) (hL : zWr h a xx) (hf : fX6_putBytes_L8 h a xx x1 x3 = some y) (hM : ((∀ s' : zH × Int32, y = .inl s' → (zWr s'.1 a xx → Z F 4 cX6_putBytes RX6 "putBytes" none [] s'.1 8 [(0, .ref a), (1, .long x1), (3, .int s'.2)] [])) ∧ ∀ r : zX, y = .inr r → (r : zX) = zEnd F)) : Z F 4 cX6_putBytes RX6 "putBytes" none [] h 8 [(0, .ref a), (1, .long x1), (3, .int x3)] [] := by
  unfold fX6_putBytes_L8 at hf
  refine z_iload_n 2 dX6_putBytes_8 rfl rfl ?_
  refine z_if_lt 38 dX6_putBytes_9 rfl hf (fun _ hf => ?_) (fun _ hf => ?_)
  · cases hf
    exact z_vret dX6_putBytes_38 rfl (hM.2 _ rfl)
  · refine z_aload_n 0 dX6_putBytes_12 rfl rfl ?_
    obtain ⟨b_1, hb_1, hf⟩ := zb1_some hf
    refine z_getr fdX6_19_4 (Or.inl ⟨_, rfl⟩) ((hL.b 0 rfl).t 0 rfl) hb_1 dX6_putBytes_13 ?_
    refine z_lload_n 1 dX6_putBytes_16 rfl rfl ?_
    refine z_bipush 8 dX6_putBytes_17 rfl ?_
    refine z_iload_n 2 dX6_putBytes_19 rfl rfl ?_
    refine z_imul dX6_putBytes_20 ?_
    refine z_lshr dX6_putBytes_21 ?_
    refine z_ldc2 q1127 dX6_putBytes_22 ?_
    refine z_land dX6_putBytes_25 ?_
    refine z_l2i dX6_putBytes_26 ?_
    rcases zxv_some hf with ⟨h_4, hc_2, hf⟩ | ⟨e_5, h_6, hc_7, hf⟩
    rotate_left
    · have hct : zLx _ _ ∧ True := ⟨lV_Sink_put (l := F.1) hc_7, trivial⟩
      refine zVX6_25t (Nat.le_trans (by decide) hD) hc_7 (Nat.le_of_ble_eq_true rfl) dX6_putBytes_27 ?_
      have hL := hL.ext hct.1
      cases hf
      exact zt_out rfl (hM.2 _ rfl)
    have hct : zLx _ _ ∧ True := ⟨lV_Sink_put (l := F.1) hc_2, trivial⟩
    refine zVX6_25v (Nat.le_trans (by decide) hD) hc_2 (Nat.le_of_ble_eq_true rfl) dX6_putBytes_27 ?_
    have hL := hL.ext hct.1
    refine z_iinc 2 (x3 + (-1)) dX6_putBytes_32 rfl rfl (by decide) (lc' := [(0, .ref a), (1, .long x1), (3, .int (x3 + (-1)))]) rfl ?_
    refine z_goto 8 dX6_putBytes_35 rfl ?_
    cases hf
    exact (hM.1 _ rfl) hL
noncomputable def fX6_putBytes (h : zH) (a : Nat) (xx : Nat) (x1 : Int64) : Option (zX) := zlp (fun s => fX6_putBytes_L8 s.1 a xx x1 s.2) (h, ((x1 >>> ((32 : Int32).toInt64 &&& 63)).toInt32) - 1)
theorem zX6_putBytes {F : zF} {h : zH} {a : Nat} {xx : Nat} {x1 : Int64} {y : zX} (hD : 3 ≤ F.2.1) (hL : zWr h a xx) (hf : fX6_putBytes h a xx x1 = some y) (hM : (y : zX) = zEnd F) : Z F 4 cX6_putBytes RX6 "putBytes" none [] h 0 [(0, .ref a), (1, .long x1)] [] := by
  unfold fX6_putBytes at hf
  refine z_lload_n 1 dX6_putBytes_0 rfl rfl ?_
  refine z_bipush 32 dX6_putBytes_1 rfl ?_
  refine z_lshr dX6_putBytes_3 ?_
  refine z_l2i dX6_putBytes_4 ?_
  refine z_iconst 1 dX6_putBytes_5 rfl ?_
  refine z_isub dX6_putBytes_6 ?_
  refine z_istore_n dX6_putBytes_7 rfl (by decide) (lc' := [(0, .ref a), (1, .long x1), (3, .int (((x1 >>> ((32 : Int32).toInt64 &&& 63)).toInt32) - 1))]) rfl ?_
  exact z_loop (fun (s : zH × Int32) => (zWr s.1 a xx → Z F 4 cX6_putBytes RX6 "putBytes" none [] s.1 8 [(0, .ref a), (1, .long x1), (3, .int s.2)] [])) (fun (r : zX) => (r : zX) = zEnd F) (fun s y hb hs hr hL => zX6_putBytes_L8 hD hL hb ⟨hs, hr⟩) hf hM hL
theorem ctX6_putBytes {l : Launch} {h : zH} {a : Nat} {xx : Nat} {x1 : Int64} {y : zX} (hL : zWr h a xx) (hf : fX6_putBytes h a xx x1 = some y) : zC l yX6_putBytes (ws_ yX6_putBytes cX6_putBytes 4 none) 3 [.ref a, .long x1] h y :=
  z_start (by decide) (Nat.le_of_ble_eq_true rfl) (zX6_putBytes (F := (l, 3, h, y)) (Nat.le_refl _) hL hf rfl)
noncomputable def fX2_behind_8 (a : Nat) (x1 : Int32) (x2 : Int32) : Option (Int32) := some x1
theorem zX2_behind_8 {F : zF} {h : zH} {a : Nat} {x1 : Int32} {x2 : Int32} {y : Int32} (hD : 1 ≤ F.2.1) (hL : zOb 8 h a) (hf : fX2_behind_8 a x1 x2 = some y) (hM : ((.inl (some (.int y)), h) : zX) = zEnd F) : Z F 3 cX2_behind RX2 "behind" (some .int) [] h 0 [(0, .ref a), (1, .int x1), (2, .int x2)] [] := by
  unfold fX2_behind_8 at hf
  refine z_iload_n 1 dX2_behind_0 rfl rfl ?_
  cases hf
  exact z_iret dX2_behind_1 rfl hM
theorem ctX2_behind_8 {l : Launch} {h : zH} {a : Nat} {x1 : Int32} {x2 : Int32} {v : Int32} (hL : zOb 8 h a) (hf : fX2_behind_8 a x1 x2 = some v) : zC l yX2_behind (ws_ yX2_behind cX2_behind 3 (some .int)) 1 [.ref a, .int x1, .int x2] h (.inl (some (.int v)), h) :=
  z_start (by decide) (Nat.le_of_ble_eq_true rfl) (zX2_behind_8 (F := (l, 1, h, (.inl (some (.int v)), h))) (Nat.le_refl _) hL hf rfl)
noncomputable def fX2_behind_9 (a : Nat) (x1 : Int32) (x2 : Int32) : Option (Int32) := some x1
theorem zX2_behind_9 {F : zF} {h : zH} {a : Nat} {x1 : Int32} {x2 : Int32} {y : Int32} (hD : 1 ≤ F.2.1) (hL : zOb 9 h a) (hf : fX2_behind_9 a x1 x2 = some y) (hM : ((.inl (some (.int y)), h) : zX) = zEnd F) : Z F 3 cX2_behind RX2 "behind" (some .int) [] h 0 [(0, .ref a), (1, .int x1), (2, .int x2)] [] := by
  unfold fX2_behind_9 at hf
  refine z_iload_n 1 dX2_behind_0 rfl rfl ?_
  cases hf
  exact z_iret dX2_behind_1 rfl hM
theorem ctX2_behind_9 {l : Launch} {h : zH} {a : Nat} {x1 : Int32} {x2 : Int32} {v : Int32} (hL : zOb 9 h a) (hf : fX2_behind_9 a x1 x2 = some v) : zC l yX2_behind (ws_ yX2_behind cX2_behind 3 (some .int)) 1 [.ref a, .int x1, .int x2] h (.inl (some (.int v)), h) :=
  z_start (by decide) (Nat.le_of_ble_eq_true rfl) (zX2_behind_9 (F := (l, 1, h, (.inl (some (.int v)), h))) (Nat.le_refl _) hL hf rfl)
noncomputable def fX2_behind_10 (a : Nat) (x1 : Int32) (x2 : Int32) : Option (Int32) := some x1
theorem zX2_behind_10 {F : zF} {h : zH} {a : Nat} {x1 : Int32} {x2 : Int32} {y : Int32} (hD : 1 ≤ F.2.1) (hL : zOb 10 h a) (hf : fX2_behind_10 a x1 x2 = some y) (hM : ((.inl (some (.int y)), h) : zX) = zEnd F) : Z F 3 cX2_behind RX2 "behind" (some .int) [] h 0 [(0, .ref a), (1, .int x1), (2, .int x2)] [] := by
  unfold fX2_behind_10 at hf
  refine z_iload_n 1 dX2_behind_0 rfl rfl ?_
  cases hf
  exact z_iret dX2_behind_1 rfl hM
theorem ctX2_behind_10 {l : Launch} {h : zH} {a : Nat} {x1 : Int32} {x2 : Int32} {v : Int32} (hL : zOb 10 h a) (hf : fX2_behind_10 a x1 x2 = some v) : zC l yX2_behind (ws_ yX2_behind cX2_behind 3 (some .int)) 1 [.ref a, .int x1, .int x2] h (.inl (some (.int v)), h) :=
  z_start (by decide) (Nat.le_of_ble_eq_true rfl) (zX2_behind_10 (F := (l, 1, h, (.inl (some (.int v)), h))) (Nat.le_refl _) hL hf rfl)
theorem fdX6_31_4 : zFd RX6 31 4 2 (.object "CodeExchange$Page") false := ⟨_, _, _, rfl, rfl, by decide, rfl, rfl, Or.inl q357, Or.inr q358⟩
theorem fdX6_35_4 : zFd RX6 35 4 6 .int false := ⟨_, _, _, rfl, rfl, by decide, rfl, rfl, Or.inl q370, Or.inr q371⟩
noncomputable def fV_Page_way (h : zH) (b : Nat) (p0 : Int32) (p1 : Int32) : Option (Int64) := if zT h b = (3, 0) then (zck (zTb h b) (fX3_way h b p0 p1)) else if zT h b = (9, 0) then (zck (zOb 8 h b) (fX2_way_8 b p0 p1)) else if zT h b = (10, 0) then (zck (zOb 9 h b) (fX2_way_9 b p0 p1)) else if zT h b = (11, 0) then (zck (zOb 10 h b) (fX2_way_10 b p0 p1)) else none
theorem suX6_39_2 : zIu RX6 39 ⟨"CodeExchange$Page", "way", "(II)J"⟩ "CodeExchange$Page" yX3_way (ws_ yX3_way cX3_way 4 (some .long)) 4 2 2 := ⟨(zGood_c q1119 q103), ⟨_, _, rfl, rfl, q1117⟩, q1113, q1115, (Or.inl ⟨q1114, _, _, _, q1122⟩), by decide, q1118, by decide +kernel⟩
theorem suX6_39_8 : zIu RX6 39 ⟨"CodeExchange$Page", "way", "(II)J"⟩ "CodeExchange$Page" yX2_way (ws_ yX2_way cX2_way 3 (some .long)) 3 8 2 := ⟨(zGood_c q1122 q102), ⟨_, _, rfl, rfl, q1121⟩, q1113, q1115, (Or.inl ⟨q1114, _, _, _, q1122⟩), by decide, q1114, by decide +kernel⟩
theorem suX6_39_9 : zIu RX6 39 ⟨"CodeExchange$Page", "way", "(II)J"⟩ "CodeExchange$Page" yX2_way (ws_ yX2_way cX2_way 3 (some .long)) 3 9 2 := ⟨(zGood_c q1122 q102), ⟨_, _, rfl, rfl, q1120⟩, q1113, q1115, (Or.inl ⟨q1114, _, _, _, q1122⟩), by decide, q1114, by decide +kernel⟩
theorem suX6_39_10 : zIu RX6 39 ⟨"CodeExchange$Page", "way", "(II)J"⟩ "CodeExchange$Page" yX2_way (ws_ yX2_way cX2_way 3 (some .long)) 3 10 2 := ⟨(zGood_c q1122 q102), ⟨_, _, rfl, rfl, q1116⟩, q1113, q1115, (Or.inl ⟨q1114, _, _, _, q1122⟩), by decide, q1114, by decide +kernel⟩
theorem zVX6_39l {F : zF} {nL : Nat} {cc : ByteArray} {nm : String} {ret : Option FieldType} {hh : List (Nat × Nat × Nat × Nat)} {h : zH} {pc b : Nat} {lc : List (Nat × Value)} {st : List Value} {p0 : Int32} {p1 : Int32} {v : Int64} (hD : 4 ≤ F.2.1) (hf : fV_Page_way h b p0 p1 = some v) (hcat : (st.map fun v => v.category).sum ≤ 8) (hd : decode cc pc = .ok (.invokevirtual 39, 3)) (kk : Z F nL cc RX6 nm ret hh h (pc + 3) lc (.long v :: st)) : Z F nL cc RX6 nm ret hh h pc lc (.int p1 :: .int p0 :: .ref b :: st) := by
  unfold fV_Page_way at hf
  refine zdsp hf (fun e hf => ?_) (fun _ hf => ?_)
  · obtain ⟨hK, hf⟩ := zck_some hf
    have hc := hf
    exact z_invUl suX6_39_2 (ctX3_way hK hc) e ⟨Nat.le_trans (by decide) hD, by decide⟩ rfl rfl hcat hd kk
  refine zdsp hf (fun e hf => ?_) (fun _ hf => ?_)
  · obtain ⟨hK, hf⟩ := zck_some hf
    have hc := hf
    exact z_invUl suX6_39_8 (ctX2_way_8 hK hc) e ⟨Nat.le_trans (by decide) hD, by decide⟩ rfl rfl hcat hd kk
  refine zdsp hf (fun e hf => ?_) (fun _ hf => ?_)
  · obtain ⟨hK, hf⟩ := zck_some hf
    have hc := hf
    exact z_invUl suX6_39_9 (ctX2_way_9 hK hc) e ⟨Nat.le_trans (by decide) hD, by decide⟩ rfl rfl hcat hd kk
  refine zdsp hf (fun e hf => ?_) (fun _ hf => ?_)
  · obtain ⟨hK, hf⟩ := zck_some hf
    have hc := hf
    exact z_invUl suX6_39_10 (ctX2_way_10 hK hc) e ⟨Nat.le_trans (by decide) hD, by decide⟩ rfl rfl hcat hd kk
  cases hf
theorem suX6_45_4 : zIv RX6 45 yX6_putBytes (ws_ yX6_putBytes cX6_putBytes 4 none) 4 4 1 := ⟨(zGood_c q1126 q106), ⟨_, _, rfl, rfl, qs31⟩, (Or.inl q1123), q1125, ⟨by decide, by decide⟩, by decide +kernel⟩
noncomputable def fV_Page_behind (h : zH) (b : Nat) (p0 : Int32) (p1 : Int32) : Option (Int32) := if zT h b = (3, 0) then (zck (zTb h b) (fX3_behind h b p0 p1)) else if zT h b = (9, 0) then (zck (zOb 8 h b) (fX2_behind_8 b p0 p1)) else if zT h b = (10, 0) then (zck (zOb 9 h b) (fX2_behind_9 b p0 p1)) else if zT h b = (11, 0) then (zck (zOb 10 h b) (fX2_behind_10 b p0 p1)) else none
theorem suX6_49_2 : zIu RX6 49 ⟨"CodeExchange$Page", "behind", "(II)I"⟩ "CodeExchange$Page" yX3_behind (ws_ yX3_behind cX3_behind 3 (some .int)) 3 2 2 := ⟨(zGood_c q1136 q103), ⟨_, _, rfl, rfl, q1134⟩, q1130, q1132, (Or.inl ⟨q1131, _, _, _, q1139⟩), by decide, q1135, by decide +kernel⟩
theorem suX6_49_8 : zIu RX6 49 ⟨"CodeExchange$Page", "behind", "(II)I"⟩ "CodeExchange$Page" yX2_behind (ws_ yX2_behind cX2_behind 3 (some .int)) 3 8 2 := ⟨(zGood_c q1139 q102), ⟨_, _, rfl, rfl, q1138⟩, q1130, q1132, (Or.inl ⟨q1131, _, _, _, q1139⟩), by decide, q1131, by decide +kernel⟩
theorem suX6_49_9 : zIu RX6 49 ⟨"CodeExchange$Page", "behind", "(II)I"⟩ "CodeExchange$Page" yX2_behind (ws_ yX2_behind cX2_behind 3 (some .int)) 3 9 2 := ⟨(zGood_c q1139 q102), ⟨_, _, rfl, rfl, q1137⟩, q1130, q1132, (Or.inl ⟨q1131, _, _, _, q1139⟩), by decide, q1131, by decide +kernel⟩
theorem suX6_49_10 : zIu RX6 49 ⟨"CodeExchange$Page", "behind", "(II)I"⟩ "CodeExchange$Page" yX2_behind (ws_ yX2_behind cX2_behind 3 (some .int)) 3 10 2 := ⟨(zGood_c q1139 q102), ⟨_, _, rfl, rfl, q1133⟩, q1130, q1132, (Or.inl ⟨q1131, _, _, _, q1139⟩), by decide, q1131, by decide +kernel⟩
theorem zVX6_49i {F : zF} {nL : Nat} {cc : ByteArray} {nm : String} {ret : Option FieldType} {hh : List (Nat × Nat × Nat × Nat)} {h : zH} {pc b : Nat} {lc : List (Nat × Value)} {st : List Value} {p0 : Int32} {p1 : Int32} {v : Int32} (hD : 4 ≤ F.2.1) (hf : fV_Page_behind h b p0 p1 = some v) (hcat : (st.map fun v => v.category).sum ≤ 8) (hd : decode cc pc = .ok (.invokevirtual 49, 3)) (kk : Z F nL cc RX6 nm ret hh h (pc + 3) lc (.int v :: st)) : Z F nL cc RX6 nm ret hh h pc lc (.int p1 :: .int p0 :: .ref b :: st) := by
  unfold fV_Page_behind at hf
  refine zdsp hf (fun e hf => ?_) (fun _ hf => ?_)
  · obtain ⟨hK, hf⟩ := zck_some hf
    have hc := hf
    exact z_invUi suX6_49_2 (ctX3_behind hK hc) e ⟨Nat.le_trans (by decide) hD, by decide⟩ rfl rfl hcat hd kk
  refine zdsp hf (fun e hf => ?_) (fun _ hf => ?_)
  · obtain ⟨hK, hf⟩ := zck_some hf
    have hc := hf
    exact z_invUi suX6_49_8 (ctX2_behind_8 hK hc) e ⟨Nat.le_trans (by decide) hD, by decide⟩ rfl rfl hcat hd kk
  refine zdsp hf (fun e hf => ?_) (fun _ hf => ?_)
  · obtain ⟨hK, hf⟩ := zck_some hf
    have hc := hf
    exact z_invUi suX6_49_9 (ctX2_behind_9 hK hc) e ⟨Nat.le_trans (by decide) hD, by decide⟩ rfl rfl hcat hd kk
  refine zdsp hf (fun e hf => ?_) (fun _ hf => ?_)
  · obtain ⟨hK, hf⟩ := zck_some hf
    have hc := hf
    exact z_invUi suX6_49_10 (ctX2_behind_10 hK hc) e ⟨Nat.le_trans (by decide) hD, by decide⟩ rfl rfl hcat hd kk
  cases hf
theorem suX6_53_2 : zIu RX6 53 ⟨"CodeExchange$Page", "code", "(I)J"⟩ "CodeExchange$Page" yX3_code (ws_ yX3_code cX3_code 3 (some .long)) 3 2 1 := ⟨(zGood_c q908 q103), ⟨_, _, rfl, rfl, q906⟩, q1108, q893, (Or.inr q892), by decide, q907, by decide +kernel⟩
theorem suX6_53_8 : zIu RX6 53 ⟨"CodeExchange$Page", "code", "(I)J"⟩ "CodeExchange$Page" yX11_code (ws_ yX11_code cX11_code 2 (some .long)) 2 8 1 := ⟨(zGood_c q923 q111), ⟨_, _, rfl, rfl, q932⟩, q1108, q893, (Or.inr q892), by decide, q922, by decide +kernel⟩
theorem suX6_53_9 : zIu RX6 53 ⟨"CodeExchange$Page", "code", "(I)J"⟩ "CodeExchange$Page" yX12_code (ws_ yX12_code cX12_code 4 (some .long)) 4 9 1 := ⟨(zGood_c q920 q112), ⟨_, _, rfl, rfl, q918⟩, q1108, q893, (Or.inr q892), by decide, q919, by decide +kernel⟩
theorem suX6_53_10 : zIu RX6 53 ⟨"CodeExchange$Page", "code", "(I)J"⟩ "CodeExchange$Page" yX13_code (ws_ yX13_code cX13_code 6 (some .long)) 6 10 1 := ⟨(zGood_c q896 q113), ⟨_, _, rfl, rfl, q894⟩, q1108, q893, (Or.inr q892), by decide, q895, by decide +kernel⟩
theorem zVX6_53l {F : zF} {nL : Nat} {cc : ByteArray} {nm : String} {ret : Option FieldType} {hh : List (Nat × Nat × Nat × Nat)} {h : zH} {pc b : Nat} {lc : List (Nat × Value)} {st : List Value} {p0 : Int32} {v : Int64} (hD : 4 ≤ F.2.1) (hf : fV_Page_code h b p0 = some v) (hcat : (st.map fun v => v.category).sum ≤ 8) (hd : decode cc pc = .ok (.invokevirtual 53, 3)) (kk : Z F nL cc RX6 nm ret hh h (pc + 3) lc (.long v :: st)) : Z F nL cc RX6 nm ret hh h pc lc (.int p0 :: .ref b :: st) := by
  unfold fV_Page_code at hf
  refine zdsp hf (fun e hf => ?_) (fun _ hf => ?_)
  · obtain ⟨hK, hf⟩ := zck_some hf
    have hc := hf
    exact z_invUl suX6_53_2 (ctX3_code hK hc) e ⟨Nat.le_trans (by decide) hD, by decide⟩ rfl rfl hcat hd kk
  refine zdsp hf (fun e hf => ?_) (fun _ hf => ?_)
  · obtain ⟨hK, hf⟩ := zck_some hf
    have hc := hf
    exact z_invUl suX6_53_8 (ctX11_code hK hc) e ⟨Nat.le_trans (by decide) hD, by decide⟩ rfl rfl hcat hd kk
  refine zdsp hf (fun e hf => ?_) (fun _ hf => ?_)
  · obtain ⟨hK, hf⟩ := zck_some hf
    have hc := hf
    exact z_invUl suX6_53_9 (ctX12_code hK hc) e ⟨Nat.le_trans (by decide) hD, by decide⟩ rfl rfl hcat hd kk
  refine zdsp hf (fun e hf => ?_) (fun _ hf => ?_)
  · obtain ⟨hK, hf⟩ := zck_some hf
    have hc := hf
    exact z_invUl suX6_53_10 (ctX13_code hK hc) e ⟨Nat.le_trans (by decide) hD, by decide⟩ rfl rfl hcat hd kk
  cases hf
noncomputable def fX6_write (h : zH) (a : Nat) (xx : Nat) (x1 : Int32) : Option (zX) := zb1 (zP h a 2) (fun b_1 => zb1 (fV_Page_way h b_1 (zI h a 6) x1) (fun v_3 => zxv (fX6_putBytes h a xx v_3) (fun h_7 => zb1 (zP h_7 a 2) (fun b_11 => zb1 (fV_Page_behind h_7 b_11 (zI h_7 a 6) x1) (fun v_13 => zlet (zsI h_7 a 6 v_13) (fun h_15 => zb1 (zP h_15 a 2) (fun b_16 => zb1 (fV_Page_code h_15 b_16 x1) (fun v_18 => zxv (fX6_putBytes h_15 a xx v_18) (fun h_22 => some ((.inl none, h_22))) (fun e_23 h_24 => some ((.inr e_23, h_24))))))))) (fun e_8 h_9 => some ((.inr e_8, h_9)))))
theorem zX6_write {F : zF} {h : zH} {a : Nat} {xx : Nat} {x1 : Int32} {y : zX} (hD : 4 ≤ F.2.1) (hL : zWr h a xx) (hf : fX6_write h a xx x1 = some y) (hM : (y : zX) = zEnd F) : Z F 2 cX6_write RX6 "write" none [] h 0 [(0, .ref a), (1, .int x1)] [] := by
  unfold fX6_write at hf
  refine z_aload_n 0 dX6_write_0 rfl rfl ?_
  refine z_aload_n 0 dX6_write_1 rfl rfl ?_
  obtain ⟨b_1, hb_1, hf⟩ := zb1_some hf
  refine z_getr fdX6_31_4 (Or.inl ⟨_, rfl⟩) ((hL.b 0 rfl).t 0 rfl) hb_1 dX6_write_2 ?_
  refine z_aload_n 0 dX6_write_5 rfl rfl ?_
  refine z_geti fdX6_35_4 ((hL.b 0 rfl).t 0 rfl) dX6_write_6 ?_
  refine z_iload_n 1 dX6_write_9 rfl rfl ?_
  obtain ⟨v_3, hc_2, hf⟩ := zb1_some hf
  refine zVX6_39l (Nat.le_trans (by decide) hD) hc_2 (Nat.le_of_ble_eq_true rfl) dX6_write_10 ?_
  rcases zxv_some hf with ⟨h_7, hc_5, hf⟩ | ⟨e_8, h_9, hc_10, hf⟩
  rotate_left
  · have hct := ctX6_putBytes (l := F.1) hL hc_10
    refine z_invVt suX6_45_4 hct ((hL.b 0 rfl).t 0 rfl) ⟨Nat.le_trans (by decide) hD, by decide⟩ rfl rfl (Nat.le_of_ble_eq_true rfl) dX6_write_13 ?_
    have hL := hL.ext hct.1
    cases hf
    exact zt_out rfl hM
  have hct := ctX6_putBytes (l := F.1) hL hc_5
  refine z_invVv suX6_45_4 hct ((hL.b 0 rfl).t 0 rfl) ⟨Nat.le_trans (by decide) hD, by decide⟩ rfl rfl (Nat.le_of_ble_eq_true rfl) dX6_write_13 ?_
  have hL := hL.ext hct.1
  refine z_aload_n 0 dX6_write_16 rfl rfl ?_
  refine z_aload_n 0 dX6_write_17 rfl rfl ?_
  obtain ⟨b_11, hb_11, hf⟩ := zb1_some hf
  refine z_getr fdX6_31_4 (Or.inl ⟨_, rfl⟩) ((hL.b 0 rfl).t 0 rfl) hb_11 dX6_write_18 ?_
  refine z_aload_n 0 dX6_write_21 rfl rfl ?_
  refine z_geti fdX6_35_4 ((hL.b 0 rfl).t 0 rfl) dX6_write_22 ?_
  refine z_iload_n 1 dX6_write_25 rfl rfl ?_
  obtain ⟨v_13, hc_12, hf⟩ := zb1_some hf
  refine zVX6_49i (Nat.le_trans (by decide) hD) hc_12 (Nat.le_of_ble_eq_true rfl) dX6_write_26 ?_
  obtain ⟨h_15, he, hf⟩ := zlet_some hf
  refine z_puti fdX6_35_4 ((hL.b 0 rfl).t 0 rfl) ((hL.b 0 rfl).nz 0) he dX6_write_29 ?_
  have hL := hL.I he
  refine z_aload_n 0 dX6_write_32 rfl rfl ?_
  refine z_aload_n 0 dX6_write_33 rfl rfl ?_
  obtain ⟨b_16, hb_16, hf⟩ := zb1_some hf
  refine z_getr fdX6_31_4 (Or.inl ⟨_, rfl⟩) ((hL.b 0 rfl).t 0 rfl) hb_16 dX6_write_34 ?_
  refine z_iload_n 1 dX6_write_37 rfl rfl ?_
  obtain ⟨v_18, hc_17, hf⟩ := zb1_some hf
  refine zVX6_53l (Nat.le_trans (by decide) hD) hc_17 (Nat.le_of_ble_eq_true rfl) dX6_write_38 ?_
  rcases zxv_some hf with ⟨h_22, hc_20, hf⟩ | ⟨e_23, h_24, hc_25, hf⟩
  rotate_left
  · have hct := ctX6_putBytes (l := F.1) hL hc_25
    refine z_invVt suX6_45_4 hct ((hL.b 0 rfl).t 0 rfl) ⟨Nat.le_trans (by decide) hD, by decide⟩ rfl rfl (Nat.le_of_ble_eq_true rfl) dX6_write_41 ?_
    have hL := hL.ext hct.1
    cases hf
    exact zt_out rfl hM
  have hct := ctX6_putBytes (l := F.1) hL hc_20
  refine z_invVv suX6_45_4 hct ((hL.b 0 rfl).t 0 rfl) ⟨Nat.le_trans (by decide) hD, by decide⟩ rfl rfl (Nat.le_of_ble_eq_true rfl) dX6_write_41 ?_
  have hL := hL.ext hct.1
  cases hf
  exact z_vret dX6_write_44 rfl hM
theorem ctX6_write {l : Launch} {h : zH} {a : Nat} {xx : Nat} {x1 : Int32} {y : zX} (hL : zWr h a xx) (hf : fX6_write h a xx x1 = some y) : zC l yX6_write (ws_ yX6_write cX6_write 2 none) 4 [.ref a, .int x1] h y :=
  z_start (by decide) (Nat.le_of_ble_eq_true rfl) (zX6_write (F := (l, 4, h, y)) (Nat.le_refl _) hL hf rfl)
theorem fdX6_3_4 : zFd RX6 3 4 15 (.object "CodeExchange") true := ⟨_, _, _, rfl, rfl, by decide, rfl, rfl, Or.inl q429, Or.inl rfl⟩
theorem suX6_60_0 : zIv RX6 60 yX0_fallbackOf (ws_ yX0_fallbackOf cX0_fallbackOf 3 (some .int)) 3 0 1 := ⟨(zGood_c q1147 q97), ⟨_, _, rfl, rfl, qs33⟩, (Or.inr ⟨_, q1144⟩), q1146, ⟨by decide, by decide⟩, by decide +kernel⟩
theorem fdX6_64_0 : zFd RX6 64 0 11 (.array .int) true := ⟨_, _, _, rfl, rfl, by decide, rfl, rfl, Or.inr ⟨_, q494⟩, Or.inl rfl⟩
theorem fdX6_67_0 : zFd RX6 67 0 12 (.array .int) true := ⟨_, _, _, rfl, rfl, by decide, rfl, rfl, Or.inr ⟨_, q496⟩, Or.inl rfl⟩
theorem suX6_70_4 : zIv RX6 70 yX6_expand (ws_ yX6_expand cX6_expand 4 (some .boolean)) 4 4 1 := ⟨(zGood_c q1143 q106), ⟨_, _, rfl, rfl, qs32⟩, (Or.inl q1140), q1142, ⟨by decide, by decide⟩, by decide +kernel⟩
noncomputable def fX6_expand_L52 (g : (zH → Nat → Nat → Int32 → Option (Int32 × zH))) (h : zH) (a : Nat) (xx : Nat) (x2 : Int32) (x3 : Int32) : Option ((zH × Int32) ⊕ ((Int32 × zH))) := zck (vp_in x2 41) (if (zI h (xx + 29) x2.toNatClampNeg) ≤ x3 then (some (.inr ((1, h)))) else (zck (vp_in (((4 : Int32) * x2) + x3) 164) (zb2 (g h a xx (zI h (xx + 30) (((4 : Int32) * x2) + x3).toNatClampNeg)) (fun v_11 h_12 => if v_11 = 0 then (some (.inr ((0, h_12)))) else (some (.inl ((h_12, x3 + 1))))))))
theorem zX6_expand_L52 {F : zF} {g : (zH → Nat → Nat → Int32 → Option (Int32 × zH))} {h : zH} {a : Nat} {xx : Nat} {x2 : Int32} {x3 : Int32} {y : (zH × Int32) ⊕ ((Int32 × zH))} {dg : Nat} (hD : dg + 1 ≤ F.2.1 ∧ 4 ≤ F.2.1) (hg : ∀ {l : Launch} {h : zH} {a : Nat} {xx : Nat} {x1 : Int32} {v : Int32} {h' : zH}, zWr h a xx → g h a xx x1 = some (v, h') → zC l yX6_expand (ws_ yX6_expand cX6_expand 4 (some .boolean)) dg [.ref a, .int x1] h (.inl (some (.int v)), h')) (hL : zWr h a xx) (hf : fX6_expand_L52 g h a xx x2 x3 = some y) (hM : ((∀ s' : zH × Int32, y = .inl s' → (zWr s'.1 a xx → Z F 4 cX6_expand RX6 "expand" (some .boolean) [] s'.1 52 [(0, .ref a), (2, .int x2), (3, .int s'.2)] [])) ∧ ∀ r : (Int32 × zH), y = .inr r → ((.inl (some (.int r.1)), r.2) : zX) = zEnd F)) : Z F 4 cX6_expand RX6 "expand" (some .boolean) [] h 52 [(0, .ref a), (2, .int x2), (3, .int x3)] [] := by
  unfold fX6_expand_L52 at hf
  refine z_iload_n 2 dX6_expand_52 rfl rfl ?_
  refine z_aload_n 0 dX6_expand_53 rfl rfl ?_
  refine z_getr fdX6_3_4 (Or.inl ⟨_, rfl⟩) ((hL.b 0 rfl).t 0 rfl) (hL.f 1 rfl) dX6_expand_54 ?_
  refine z_getr fdX6_64_0 (Or.inr ⟨_, rfl⟩) ((hL.b 1 rfl).t 0 rfl) ((hL.b 1 rfl).p 6 rfl) dX6_expand_57 ?_
  refine z_iload_n 1 dX6_expand_60 rfl rfl ?_
  obtain ⟨hi_8, hf⟩ := zck_some hf
  refine z_iald ((hL.b 1 rfl).t 29 rfl) hi_8 dX6_expand_61 ?_
  refine z_icmp_ge 93 dX6_expand_62 rfl hf (fun _ hf => ?_) (fun _ hf => ?_)
  · refine z_iconst 1 dX6_expand_93 rfl ?_
    cases hf
    exact z_zret dX6_expand_94 rfl (Or.inr rfl) (hM.2 _ rfl)
  · refine z_aload_n 0 dX6_expand_65 rfl rfl ?_
    refine z_aload_n 0 dX6_expand_66 rfl rfl ?_
    refine z_getr fdX6_3_4 (Or.inl ⟨_, rfl⟩) ((hL.b 0 rfl).t 0 rfl) (hL.f 1 rfl) dX6_expand_67 ?_
    refine z_getr fdX6_67_0 (Or.inr ⟨_, rfl⟩) ((hL.b 1 rfl).t 0 rfl) ((hL.b 1 rfl).p 7 rfl) dX6_expand_70 ?_
    refine z_iconst 4 dX6_expand_73 rfl ?_
    refine z_iload_n 1 dX6_expand_74 rfl rfl ?_
    refine z_imul dX6_expand_75 ?_
    refine z_iload_n 2 dX6_expand_76 rfl rfl ?_
    refine z_iadd dX6_expand_77 ?_
    obtain ⟨hi_9, hf⟩ := zck_some hf
    refine z_iald ((hL.b 1 rfl).t 30 rfl) hi_9 dX6_expand_78 ?_
    obtain ⟨v_11, h_12, hc_10, hf⟩ := zb2_some hf
    have hct := hg (l := F.1) hL hc_10
    refine z_invVi suX6_70_4 hct ((hL.b 0 rfl).t 0 rfl) ⟨hD.1, by decide⟩ rfl rfl (Nat.le_of_ble_eq_true rfl) dX6_expand_79 ?_
    have hL := hL.ext hct.1
    refine z_if_ne 87 dX6_expand_82 rfl hf (fun _ hf => ?_) (fun _ hf => ?_)
    · refine z_iinc 2 (x3 + 1) dX6_expand_87 rfl rfl (by decide) (lc' := [(0, .ref a), (2, .int x2), (3, .int (x3 + 1))]) rfl ?_
      refine z_goto 52 dX6_expand_90 rfl ?_
      cases hf
      exact (hM.1 _ rfl) hL
    · refine z_iconst 0 dX6_expand_85 rfl ?_
      cases hf
      exact z_zret dX6_expand_86 rfl (Or.inl rfl) (hM.2 _ rfl)
theorem fdX6_15_4 : zFd RX6 15 4 13 (.array .int) true := ⟨_, _, _, rfl, rfl, by decide, rfl, rfl, Or.inl q427, Or.inl rfl⟩
theorem fdX6_57_4 : zFd RX6 57 4 14 .int false := ⟨_, _, _, rfl, rfl, by decide, rfl, rfl, Or.inl q428, Or.inl rfl⟩
noncomputable def fX6_expand_B (g : (zH → Nat → Nat → Int32 → Option (Int32 × zH))) (h : zH) (a : Nat) (xx : Nat) (x1 : Int32) : Option (Int32 × zH) := zb1 (zP h a 2) (fun b_1 => zb1 (fV_Page_code h b_1 x1) (fun v_3 => if (lg_cmp v_3 0) < 0 then (zb1 (fX0_fallbackOf h xx x1) (fun v_6 => if 0 ≤ v_6 then (zlp (fun s => fX6_expand_L52 g s.1 a xx v_6 s.2) (h, 0)) else (some ((0, h))))) else (zck (vp_in (zI h a 14) 16) (zlet (zsI h (a + 2) (zI h a 14).toNatClampNeg x1) (fun h_14 => zlet (zsI h_14 a 14 ((zI h_14 a 14) + 1)) (fun h_15 => some ((1, h_15))))))))
theorem zX6_expand_B {F : zF} {g : (zH → Nat → Nat → Int32 → Option (Int32 × zH))} {h : zH} {a : Nat} {xx : Nat} {x1 : Int32} {y : Int32 × zH} {dg : Nat} (hD : dg + 1 ≤ F.2.1 ∧ 4 ≤ F.2.1) (hg : ∀ {l : Launch} {h : zH} {a : Nat} {xx : Nat} {x1 : Int32} {v : Int32} {h' : zH}, zWr h a xx → g h a xx x1 = some (v, h') → zC l yX6_expand (ws_ yX6_expand cX6_expand 4 (some .boolean)) dg [.ref a, .int x1] h (.inl (some (.int v)), h')) (hL : zWr h a xx) (hf : fX6_expand_B g h a xx x1 = some y) (hM : ((.inl (some (.int y.1)), y.2) : zX) = zEnd F) : Z F 4 cX6_expand RX6 "expand" (some .boolean) [] h 0 [(0, .ref a), (1, .int x1)] [] := by
  unfold fX6_expand_B at hf
  refine z_aload_n 0 dX6_expand_0 rfl rfl ?_
  obtain ⟨b_1, hb_1, hf⟩ := zb1_some hf
  refine z_getr fdX6_31_4 (Or.inl ⟨_, rfl⟩) ((hL.b 0 rfl).t 0 rfl) hb_1 dX6_expand_1 ?_
  refine z_iload_n 1 dX6_expand_4 rfl rfl ?_
  obtain ⟨v_3, hc_2, hf⟩ := zb1_some hf
  refine zVX6_53l (Nat.le_trans (by decide) hD.2) hc_2 (Nat.le_of_ble_eq_true rfl) dX6_expand_5 ?_
  refine z_lconst 0 dX6_expand_8 rfl ?_
  refine z_lcmp dX6_expand_9 ?_
  refine z_if_lt 35 dX6_expand_10 rfl hf (fun _ hf => ?_) (fun _ hf => ?_)
  · refine z_aload_n 0 dX6_expand_35 rfl rfl ?_
    refine z_getr fdX6_3_4 (Or.inl ⟨_, rfl⟩) ((hL.b 0 rfl).t 0 rfl) (hL.f 1 rfl) dX6_expand_36 ?_
    refine z_iload_n 1 dX6_expand_39 rfl rfl ?_
    obtain ⟨v_6, hc_5, hf⟩ := zb1_some hf
    refine z_invVi suX6_60_0 (ctX0_fallbackOf (hL.sub [1] [] rfl rfl) hc_5) ((hL.b 1 rfl).t 0 rfl) ⟨Nat.le_trans (by decide) hD.2, by decide⟩ rfl rfl (Nat.le_of_ble_eq_true rfl) dX6_expand_40 ?_
    refine z_istore_n dX6_expand_43 rfl (by decide) (lc' := [(0, .ref a), (1, .int x1), (2, .int v_6)]) rfl ?_
    refine z_iload_n 2 dX6_expand_44 rfl rfl ?_
    refine z_if_ge 50 dX6_expand_45 rfl hf (fun _ hf => ?_) (fun _ hf => ?_)
    · refine z_iconst 0 dX6_expand_50 rfl ?_
      refine z_istore_n dX6_expand_51 rfl (by decide) (lc' := [(0, .ref a), (1, .int x1), (2, .int v_6), (3, .int 0)]) rfl ?_
      refine z_sub [0, 2, 3] rfl ?_
      exact z_loop (fun (s : zH × Int32) => (zWr s.1 a xx → Z F 4 cX6_expand RX6 "expand" (some .boolean) [] s.1 52 [(0, .ref a), (2, .int v_6), (3, .int s.2)] [])) (fun (r : (Int32 × zH)) => ((.inl (some (.int r.1)), r.2) : zX) = zEnd F) (fun s y hb hs hr hL => zX6_expand_L52 hD hg hL hb ⟨hs, hr⟩) hf hM hL
    · refine z_iconst 0 dX6_expand_48 rfl ?_
      cases hf
      exact z_zret dX6_expand_49 rfl (Or.inl rfl) hM
  · refine z_aload_n 0 dX6_expand_13 rfl rfl ?_
    refine z_getr fdX6_15_4 (Or.inr ⟨_, rfl⟩) ((hL.b 0 rfl).t 0 rfl) ((hL.b 0 rfl).p 1 rfl) dX6_expand_14 ?_
    refine z_aload_n 0 dX6_expand_17 rfl rfl ?_
    refine z_geti fdX6_57_4 ((hL.b 0 rfl).t 0 rfl) dX6_expand_18 ?_
    refine z_iload_n 1 dX6_expand_21 rfl rfl ?_
    obtain ⟨hi_13, hf⟩ := zck_some hf
    obtain ⟨h_14, he, hf⟩ := zlet_some hf
    refine z_iast ((hL.b 0 rfl).t 2 rfl) ((hL.b 0 rfl).nz 2) hi_13 he dX6_expand_22 ?_
    have hL := hL.I he
    refine z_aload_n 0 dX6_expand_23 rfl rfl ?_
    refine z_dup dX6_expand_24 rfl ?_
    refine z_geti fdX6_57_4 ((hL.b 0 rfl).t 0 rfl) dX6_expand_25 ?_
    refine z_iconst 1 dX6_expand_28 rfl ?_
    refine z_iadd dX6_expand_29 ?_
    obtain ⟨h_15, he, hf⟩ := zlet_some hf
    refine z_puti fdX6_57_4 ((hL.b 0 rfl).t 0 rfl) ((hL.b 0 rfl).nz 0) he dX6_expand_30 ?_
    have hL := hL.I he
    refine z_iconst 1 dX6_expand_33 rfl ?_
    cases hf
    exact z_zret dX6_expand_34 rfl (Or.inr rfl) hM
noncomputable def fX6_expand : Nat → zH → Nat → Nat → Int32 → Option (Int32 × zH)
  | 0 => fun _ _ _ _ => none
  | n + 1 => fX6_expand_B (fX6_expand n)
theorem ctX6_expand (n : Nat) : ∀ {l : Launch} {h : zH} {a : Nat} {xx : Nat} {x1 : Int32} {v : Int32} {h' : zH}, zWr h a xx → fX6_expand n h a xx x1 = some (v, h') → zC l yX6_expand (ws_ yX6_expand cX6_expand 4 (some .boolean)) (n + 4) [.ref a, .int x1] h (.inl (some (.int v)), h') := by
  induction n with
  | zero => intro l h a xx x1 v h' hL hf; cases hf
  | succ n ih =>
    intro l h a xx x1 v h' hL hf
    exact z_start (by decide) (Nat.le_of_ble_eq_true rfl) (zX6_expand_B (F := (l, n + 1 + 4, h, (.inl (some (.int v)), h'))) (dg := n + 4) ⟨by show n + 4 + 1 ≤ n + 1 + 4; omega, by show 4 ≤ n + 1 + 4; omega⟩ ih hL hf rfl)
theorem fdX4_3_4 : zFd RX4 3 4 11 (.object "CodeExchange") true := ⟨_, _, _, rfl, rfl, by decide, rfl, rfl, Or.inl q389, Or.inl rfl⟩
noncomputable def fX4_ends_4 (h : zH) (a : Nat) (xx : Nat) (x1 : Int32) (x2 : Int32) : Option (Option Nat × zH) := zlet (zsI h xx 19 ((zI h a 9) - x2)) (fun h_1 => zlet (zsI h_1 a 10 2) (fun h_2 => zlet (zsI h_2 a 8 0) (fun h_3 => zlet (zsI h_3 a 7 4) (fun h_4 => zb2 (fX0_refused h_4 xx x1) (fun v_6 h_7 => zb1 v_6 (fun b_8 => some (((some b_8), h_7))))))))
theorem zX4_ends_4 {F : zF} {h : zH} {a : Nat} {xx : Nat} {x1 : Int32} {x2 : Int32} {y : Option Nat × zH} (hD : 2 ≤ F.2.1) (hL : zWr h a xx) (hf : fX4_ends_4 h a xx x1 x2 = some y) (hM : ((.inl (some (va_rf y.1)), y.2) : zX) = zEnd F) : Z F 3 cX4_ends RX4 "ends" (some (.object "CodeExchange$Refusal")) [] h 0 [(0, .ref a), (1, .int x1), (2, .int x2)] [] := by
  unfold fX4_ends_4 at hf
  refine z_aload_n 0 dX4_ends_0 rfl rfl ?_
  refine z_getr fdX4_3_4 (Or.inl ⟨_, rfl⟩) ((hL.b 0 rfl).t 0 rfl) (hL.f 0 rfl) dX4_ends_1 ?_
  refine z_aload_n 0 dX4_ends_4 rfl rfl ?_
  refine z_geti fdX4_46_4 ((hL.b 0 rfl).t 0 rfl) dX4_ends_5 ?_
  refine z_iload_n 2 dX4_ends_8 rfl rfl ?_
  refine z_isub dX4_ends_9 ?_
  obtain ⟨h_1, he, hf⟩ := zlet_some hf
  refine z_puti fdX4_58_0 ((hL.b 1 rfl).t 0 rfl) ((hL.b 1 rfl).nz 0) he dX4_ends_10 ?_
  have hL := hL.I he
  refine z_aload_n 0 dX4_ends_13 rfl rfl ?_
  refine z_iconst 2 dX4_ends_14 rfl ?_
  obtain ⟨h_2, he, hf⟩ := zlet_some hf
  refine z_puti fdX4_49_4 ((hL.b 0 rfl).t 0 rfl) ((hL.b 0 rfl).nz 0) he dX4_ends_15 ?_
  have hL := hL.I he
  refine z_aload_n 0 dX4_ends_18 rfl rfl ?_
  refine z_iconst 0 dX4_ends_19 rfl ?_
  obtain ⟨h_3, he, hf⟩ := zlet_some hf
  refine z_puti fdX4_43_4 ((hL.b 0 rfl).t 0 rfl) ((hL.b 0 rfl).nz 0) he dX4_ends_20 ?_
  have hL := hL.I he
  refine z_aload_n 0 dX4_ends_23 rfl rfl ?_
  refine z_iconst 4 dX4_ends_24 rfl ?_
  obtain ⟨h_4, he, hf⟩ := zlet_some hf
  refine z_puti fdX4_40_4 ((hL.b 0 rfl).t 0 rfl) ((hL.b 0 rfl).nz 0) he dX4_ends_25 ?_
  have hL := hL.I he
  refine z_aload_n 0 dX4_ends_28 rfl rfl ?_
  refine z_getr fdX4_3_4 (Or.inl ⟨_, rfl⟩) ((hL.b 0 rfl).t 0 rfl) (hL.f 0 rfl) dX4_ends_29 ?_
  refine z_iload_n 1 dX4_ends_32 rfl rfl ?_
  obtain ⟨v_6, h_7, hc_5, hf⟩ := zb2_some hf
  have hct := ctX0_refused (l := F.1) (hL.sub [1] [] rfl rfl) hc_5
  refine z_invVq suX4_61_0 hct ((hL.b 1 rfl).t 0 rfl) ⟨Nat.le_trans (by decide) hD, by decide⟩ rfl rfl (Nat.le_of_ble_eq_true rfl) dX4_ends_33 ?_
  have hL := hL.ext hct.1
  obtain ⟨b_8, e9, hf9⟩ := zb1_some hf
  subst e9
  have hf := hf9
  cases hf
  exact z_aret (o := (some b_8)) dX4_ends_36 rfl (Or.inl ⟨_, rfl⟩) hM
theorem ctX4_ends_4 {l : Launch} {h : zH} {a : Nat} {xx : Nat} {x1 : Int32} {x2 : Int32} {v : Option Nat} {h' : zH} (hL : zWr h a xx) (hf : fX4_ends_4 h a xx x1 x2 = some (v, h')) : zC l yX4_ends (ws_ yX4_ends cX4_ends 3 (some (.object "CodeExchange$Refusal"))) 2 [.ref a, .int x1, .int x2] h (.inl (some (va_rf v)), h') :=
  z_start (by decide) (Nat.le_of_ble_eq_true rfl) (zX4_ends_4 (F := (l, 2, h, (.inl (some (va_rf v)), h'))) (Nat.le_refl _) hL hf rfl)
theorem suX6_74_s : zIs RX6 74 yX0_isPoint (ws_ yX0_isPoint cX0_isPoint 1 (some .boolean)) 1 1 := ⟨(zGood_c q747 q97), (Or.inr ⟨_, q1107⟩), q746, ⟨by decide, by decide⟩, by decide +kernel⟩
theorem fdX6_80_4 : zFd RX6 80 4 3 .int false := ⟨_, _, _, rfl, rfl, by decide, rfl, rfl, Or.inl q362, Or.inr q363⟩
theorem suX6_89_4 : zIu RX6 89 ⟨"CodeExchange$Writer", "ends", "(II)LCodeExchange$Refusal;"⟩ "CodeExchange$Machine" yX4_ends (ws_ yX4_ends cX4_ends 3 (some (.object "CodeExchange$Refusal"))) 3 4 2 := ⟨(zGood_c q1065 q104), ⟨_, _, rfl, rfl, q1153⟩, q1151, q1152, (Or.inl ⟨q1064, _, _, _, q1065⟩), by decide, q1064, by decide +kernel⟩
theorem suX6_77_4 : zIv RX6 77 yX6_write (ws_ yX6_write cX6_write 2 none) 2 4 1 := ⟨(zGood_c q1112 q106), ⟨_, _, rfl, rfl, qs30⟩, (Or.inl q1109), q1111, ⟨by decide, by decide⟩, by decide +kernel⟩
noncomputable def fX6_all_L190 (h : zH) (a : Nat) (xx : Nat) (x4 : Int32) (x6 : Int32) : Option ((zH × Int32) ⊕ (zX)) := if (zI h a 14) ≤ x6 then (some (.inr ((.inl none, h)))) else (if x4 = 0 then (some (.inr ((.inl none, h)))) else (zck (vp_in x6 16) (zxv (fX6_write h a xx (zI h (a + 2) x6.toNatClampNeg)) (fun h_12 => some (.inl ((h_12, x6 + 1)))) (fun e_13 h_14 => some (.inr ((.inr e_13, h_14)))))))
theorem zX6_all_L190 {F : zF} {h : zH} {a : Nat} {xx : Nat} {x4 : Int32} {x6 : Int32} {y : (zH × Int32) ⊕ (zX)} (hD : 55 ≤ F.2.1) (hL : zWr h a xx) (hf : fX6_all_L190 h a xx x4 x6 = some y) (hM : ((∀ s' : zH × Int32, y = .inl s' → (zWr s'.1 a xx → Z F 7 cX6_all RX6 "all" none [] s'.1 190 [(0, .ref a), (4, .int x4), (6, .int s'.2)] [])) ∧ ∀ r : zX, y = .inr r → (r : zX) = zEnd F)) : Z F 7 cX6_all RX6 "all" none [] h 190 [(0, .ref a), (4, .int x4), (6, .int x6)] [] := by
  unfold fX6_all_L190 at hf
  refine z_iload 2 dX6_all_190 rfl ?_
  refine z_aload_n 0 dX6_all_192 rfl rfl ?_
  refine z_geti fdX6_57_4 ((hL.b 0 rfl).t 0 rfl) dX6_all_193 ?_
  refine z_icmp_ge 221 dX6_all_196 rfl hf (fun _ hf => ?_) (fun _ hf => ?_)
  · cases hf
    exact z_vret dX6_all_221 rfl (hM.2 _ rfl)
  · refine z_iload 1 dX6_all_199 rfl ?_
    refine z_if_eq 221 dX6_all_201 rfl hf (fun _ hf => ?_) (fun _ hf => ?_)
    · cases hf
      exact z_vret dX6_all_221 rfl (hM.2 _ rfl)
    · refine z_aload_n 0 dX6_all_204 rfl rfl ?_
      refine z_aload_n 0 dX6_all_205 rfl rfl ?_
      refine z_getr fdX6_15_4 (Or.inr ⟨_, rfl⟩) ((hL.b 0 rfl).t 0 rfl) ((hL.b 0 rfl).p 1 rfl) dX6_all_206 ?_
      refine z_iload 2 dX6_all_209 rfl ?_
      obtain ⟨hi_9, hf⟩ := zck_some hf
      refine z_iald ((hL.b 0 rfl).t 2 rfl) hi_9 dX6_all_211 ?_
      rcases zxv_some hf with ⟨h_12, hc_10, hf⟩ | ⟨e_13, h_14, hc_15, hf⟩
      rotate_left
      · have hct := ctX6_write (l := F.1) hL hc_15
        refine z_invVt suX6_77_4 hct ((hL.b 0 rfl).t 0 rfl) ⟨Nat.le_trans (by decide) hD, by decide⟩ rfl rfl (Nat.le_of_ble_eq_true rfl) dX6_all_212 ?_
        have hL := hL.ext hct.1
        cases hf
        exact zt_out rfl (hM.2 _ rfl)
      have hct := ctX6_write (l := F.1) hL hc_10
      refine z_invVv suX6_77_4 hct ((hL.b 0 rfl).t 0 rfl) ⟨Nat.le_trans (by decide) hD, by decide⟩ rfl rfl (Nat.le_of_ble_eq_true rfl) dX6_all_212 ?_
      have hL := hL.ext hct.1
      refine z_iinc 2 (x6 + 1) dX6_all_215 rfl rfl (by decide) (lc' := [(0, .ref a), (4, .int x4), (6, .int (x6 + 1))]) rfl ?_
      refine z_goto 190 dX6_all_218 rfl ?_
      cases hf
      exact (hM.1 _ rfl) hL
noncomputable def fX6_all_J187 (h : zH) (a : Nat) (xx : Nat) (x4 : Int32) : Option (zX) := zlp (fun s => fX6_all_L190 s.1 a xx x4 s.2) (h, 0)
theorem zX6_all_J187 {F : zF} {h : zH} {a : Nat} {xx : Nat} {x4 : Int32} {y : zX} (hD : 55 ≤ F.2.1) (hL : zWr h a xx) (hf : fX6_all_J187 h a xx x4 = some y) (hM : (y : zX) = zEnd F) : Z F 7 cX6_all RX6 "all" none [] h 187 [(0, .ref a), (4, .int x4)] [] := by
  unfold fX6_all_J187 at hf
  refine z_iconst 0 dX6_all_187 rfl ?_
  refine z_istore dX6_all_188 (by decide) (lc' := [(0, .ref a), (4, .int x4), (6, .int 0)]) rfl ?_
  exact z_loop (fun (s : zH × Int32) => (zWr s.1 a xx → Z F 7 cX6_all RX6 "all" none [] s.1 190 [(0, .ref a), (4, .int x4), (6, .int s.2)] [])) (fun (r : zX) => (r : zX) = zEnd F) (fun s y hb hs hr hL => zX6_all_L190 hD hL hb ⟨hs, hr⟩) hf hM hL
theorem fdX6_93_0 : zFd RX6 93 0 8 (.array .int) true := ⟨_, _, _, rfl, rfl, by decide, rfl, rfl, Or.inr ⟨_, q489⟩, Or.inl rfl⟩
noncomputable def fX6_all_J145 (h : zH) (a : Nat) (xx : Nat) (x4 : Int32) : Option (zX) := if (zI h a 3) = 1 then (zb1 (zP h a 2) (fun b_16 => zck (vp_in 1 2) (zb1 (fV_Page_code h b_16 (zI h (xx + 27) (1 : Int32).toNatClampNeg)) (fun v_19 => if (lg_cmp v_19 0) < 0 then (fX6_all_J187 h a xx x4) else (zck (vp_in 1 2) (zxv (fX6_write h a xx (zI h (xx + 27) (1 : Int32).toNatClampNeg)) (fun h_24 => fX6_all_J187 h_24 a xx x4) (fun e_25 h_26 => some ((.inr e_25, h_26))))))))) else (fX6_all_J187 h a xx x4)
theorem zX6_all_J145 {F : zF} {h : zH} {a : Nat} {xx : Nat} {x4 : Int32} {y : zX} (hD : 55 ≤ F.2.1) (hL : zWr h a xx) (hf : fX6_all_J145 h a xx x4 = some y) (hM : (y : zX) = zEnd F) : Z F 7 cX6_all RX6 "all" none [] h 145 [(0, .ref a), (4, .int x4)] [] := by
  unfold fX6_all_J145 at hf
  refine z_aload_n 0 dX6_all_145 rfl rfl ?_
  refine z_geti fdX6_80_4 ((hL.b 0 rfl).t 0 rfl) dX6_all_146 ?_
  refine z_iconst 1 dX6_all_149 rfl ?_
  refine z_icmp_ne 187 dX6_all_150 rfl hf (fun _ hf => ?_) (fun _ hf => ?_)
  · exact zX6_all_J187 hD hL hf hM
  · refine z_aload_n 0 dX6_all_153 rfl rfl ?_
    obtain ⟨b_16, hb_16, hf⟩ := zb1_some hf
    refine z_getr fdX6_31_4 (Or.inl ⟨_, rfl⟩) ((hL.b 0 rfl).t 0 rfl) hb_16 dX6_all_154 ?_
    refine z_aload_n 0 dX6_all_157 rfl rfl ?_
    refine z_getr fdX6_3_4 (Or.inl ⟨_, rfl⟩) ((hL.b 0 rfl).t 0 rfl) (hL.f 1 rfl) dX6_all_158 ?_
    refine z_getr fdX6_93_0 (Or.inr ⟨_, rfl⟩) ((hL.b 1 rfl).t 0 rfl) ((hL.b 1 rfl).p 4 rfl) dX6_all_161 ?_
    refine z_iconst 1 dX6_all_164 rfl ?_
    obtain ⟨hi_17, hf⟩ := zck_some hf
    refine z_iald ((hL.b 1 rfl).t 27 rfl) hi_17 dX6_all_165 ?_
    obtain ⟨v_19, hc_18, hf⟩ := zb1_some hf
    refine zVX6_53l (Nat.le_trans (by decide) hD) hc_18 (Nat.le_of_ble_eq_true rfl) dX6_all_166 ?_
    refine z_lconst 0 dX6_all_169 rfl ?_
    refine z_lcmp dX6_all_170 ?_
    refine z_if_lt 187 dX6_all_171 rfl hf (fun _ hf => ?_) (fun _ hf => ?_)
    · exact zX6_all_J187 hD hL hf hM
    · refine z_aload_n 0 dX6_all_174 rfl rfl ?_
      refine z_aload_n 0 dX6_all_175 rfl rfl ?_
      refine z_getr fdX6_3_4 (Or.inl ⟨_, rfl⟩) ((hL.b 0 rfl).t 0 rfl) (hL.f 1 rfl) dX6_all_176 ?_
      refine z_getr fdX6_93_0 (Or.inr ⟨_, rfl⟩) ((hL.b 1 rfl).t 0 rfl) ((hL.b 1 rfl).p 4 rfl) dX6_all_179 ?_
      refine z_iconst 1 dX6_all_182 rfl ?_
      obtain ⟨hi_21, hf⟩ := zck_some hf
      refine z_iald ((hL.b 1 rfl).t 27 rfl) hi_21 dX6_all_183 ?_
      rcases zxv_some hf with ⟨h_24, hc_22, hf⟩ | ⟨e_25, h_26, hc_27, hf⟩
      rotate_left
      · have hct := ctX6_write (l := F.1) hL hc_27
        refine z_invVt suX6_77_4 hct ((hL.b 0 rfl).t 0 rfl) ⟨Nat.le_trans (by decide) hD, by decide⟩ rfl rfl (Nat.le_of_ble_eq_true rfl) dX6_all_184 ?_
        have hL := hL.ext hct.1
        cases hf
        exact zt_out rfl hM
      have hct := ctX6_write (l := F.1) hL hc_22
      refine z_invVv suX6_77_4 hct ((hL.b 0 rfl).t 0 rfl) ⟨Nat.le_trans (by decide) hD, by decide⟩ rfl rfl (Nat.le_of_ble_eq_true rfl) dX6_all_184 ?_
      have hL := hL.ext hct.1
      exact zX6_all_J187 hD hL hf hM
noncomputable def fX6_all_J127 (h : zH) (a : Nat) (xx : Nat) (x1 : Int32) (x4 : Int32) (x5 : Int32) : Option (zX) := if x5 = 0 then (fX6_all_J145 h a xx x4) else (zb1 (zP h a 1) (fun b_28 => zxv (fV_Sink_put h b_28 (x1 - 56320)) (fun h_31 => fX6_all_J145 h_31 a xx x4) (fun e_32 h_33 => some ((.inr e_32, h_33)))))
theorem zX6_all_J127 {F : zF} {h : zH} {a : Nat} {xx : Nat} {x1 : Int32} {x4 : Int32} {x5 : Int32} {y : zX} (hD : 55 ≤ F.2.1) (hL : zWr h a xx) (hf : fX6_all_J127 h a xx x1 x4 x5 = some y) (hM : (y : zX) = zEnd F) : Z F 7 cX6_all RX6 "all" none [] h 127 [(0, .ref a), (1, .int x1), (4, .int x4), (5, .int x5)] [] := by
  unfold fX6_all_J127 at hf
  refine z_iload 3 dX6_all_127 rfl ?_
  refine z_if_eq 145 dX6_all_129 rfl hf (fun _ hf => ?_) (fun _ hf => ?_)
  · refine z_sub [0, 2] rfl ?_
    exact zX6_all_J145 hD hL hf hM
  · refine z_aload_n 0 dX6_all_132 rfl rfl ?_
    obtain ⟨b_28, hb_28, hf⟩ := zb1_some hf
    refine z_getr fdX6_19_4 (Or.inl ⟨_, rfl⟩) ((hL.b 0 rfl).t 0 rfl) hb_28 dX6_all_133 ?_
    refine z_iload_n 1 dX6_all_136 rfl rfl ?_
    refine z_ldc q1148 dX6_all_137 ?_
    refine z_isub dX6_all_139 ?_
    rcases zxv_some hf with ⟨h_31, hc_29, hf⟩ | ⟨e_32, h_33, hc_34, hf⟩
    rotate_left
    · have hct : zLx _ _ ∧ True := ⟨lV_Sink_put (l := F.1) hc_34, trivial⟩
      refine zVX6_25t (Nat.le_trans (by decide) hD) hc_34 (Nat.le_of_ble_eq_true rfl) dX6_all_140 ?_
      have hL := hL.ext hct.1
      cases hf
      exact zt_out rfl hM
    have hct : zLx _ _ ∧ True := ⟨lV_Sink_put (l := F.1) hc_29, trivial⟩
    refine zVX6_25v (Nat.le_trans (by decide) hD) hc_29 (Nat.le_of_ble_eq_true rfl) dX6_all_140 ?_
    have hL := hL.ext hct.1
    refine z_sub [0, 2] rfl ?_
    exact zX6_all_J145 hD hL hf hM
noncomputable def fX6_all_J106 (h : zH) (a : Nat) (xx : Nat) (x1 : Int32) (x2 : Int32) (x4 : Int32) (x5 : Int32) : Option (zX) := if (zI h a 3) = 4 then (if x4 = 0 then (zb2 (fX4_ends_4 h a xx ((-10)) x2) (fun v_36 h_37 => zb1 v_36 (fun b_38 => some ((.inr b_38, h_37))))) else (fX6_all_J127 h a xx x1 x4 x5)) else (fX6_all_J127 h a xx x1 x4 x5)
theorem zX6_all_J106 {F : zF} {h : zH} {a : Nat} {xx : Nat} {x1 : Int32} {x2 : Int32} {x4 : Int32} {x5 : Int32} {y : zX} (hD : 55 ≤ F.2.1) (hL : zWr h a xx) (hf : fX6_all_J106 h a xx x1 x2 x4 x5 = some y) (hM : (y : zX) = zEnd F) : Z F 7 cX6_all RX6 "all" none [] h 106 [(0, .ref a), (1, .int x1), (2, .int x2), (4, .int x4), (5, .int x5)] [] := by
  unfold fX6_all_J106 at hf
  refine z_aload_n 0 dX6_all_106 rfl rfl ?_
  refine z_geti fdX6_80_4 ((hL.b 0 rfl).t 0 rfl) dX6_all_107 ?_
  refine z_iconst 4 dX6_all_110 rfl ?_
  refine z_icmp_ne 127 dX6_all_111 rfl hf (fun _ hf => ?_) (fun _ hf => ?_)
  · refine z_sub [0, 1, 3, 4] rfl ?_
    exact zX6_all_J127 hD hL hf hM
  · refine z_iload 3 dX6_all_114 rfl ?_
    refine z_if_ne 127 dX6_all_116 rfl hf (fun _ hf => ?_) (fun _ hf => ?_)
    · refine z_sub [0, 1, 3, 4] rfl ?_
      exact zX6_all_J127 hD hL hf hM
    · refine z_aload_n 0 dX6_all_119 rfl rfl ?_
      refine z_bipush (-10) dX6_all_120 rfl ?_
      refine z_iload_n 2 dX6_all_122 rfl rfl ?_
      obtain ⟨v_36, h_37, hc_35, hf⟩ := zb2_some hf
      have hct := ctX4_ends_4 (l := F.1) hL hc_35
      refine z_invUq suX6_89_4 hct ((hL.b 0 rfl).t 0 rfl) ⟨Nat.le_trans (by decide) hD, by decide⟩ rfl rfl (Nat.le_of_ble_eq_true rfl) dX6_all_123 ?_
      have hL := hL.ext hct.1
      obtain ⟨b_38, e9, hf9⟩ := zb1_some hf
      subst e9
      have hf := hf9
      refine z_athrow dX6_all_126 ?_
      cases hf
      exact zt_out rfl hM
noncomputable def fX6_all_J84 (h : zH) (a : Nat) (xx : Nat) (x1 : Int32) (x2 : Int32) (x4 : Int32) (k0 : Int32) : Option (zX) := if (zI h a 3) = 0 then (zb2 (fX4_ends_4 h a xx ((-10)) x2) (fun v_6 h_7 => zb1 v_6 (fun b_8 => some ((.inr b_8, h_7))))) else (if (zI h a 3) = 3 then (if k0 = 0 then (zb2 (fX4_ends_4 h a xx ((-10)) x2) (fun v_40 h_41 => zb1 v_40 (fun b_42 => some ((.inr b_42, h_41))))) else (fX6_all_J106 h a xx x1 x2 x4 k0)) else (fX6_all_J106 h a xx x1 x2 x4 k0))
theorem zX6_all_J84 {F : zF} {h : zH} {a : Nat} {xx : Nat} {x1 : Int32} {x2 : Int32} {x4 : Int32} {k0 : Int32} {y : zX} (hD : 55 ≤ F.2.1) (hL : zWr h a xx) (hf : fX6_all_J84 h a xx x1 x2 x4 k0 = some y) (hM : (y : zX) = zEnd F) : Z F 7 cX6_all RX6 "all" none [] h 84 [(0, .ref a), (1, .int x1), (2, .int x2), (4, .int x4)] [.int k0] := by
  unfold fX6_all_J84 at hf
  refine z_istore dX6_all_84 (by decide) (lc' := [(0, .ref a), (1, .int x1), (2, .int x2), (4, .int x4), (5, .int k0)]) rfl ?_
  refine z_aload_n 0 dX6_all_86 rfl rfl ?_
  refine z_geti fdX6_80_4 ((hL.b 0 rfl).t 0 rfl) dX6_all_87 ?_
  refine z_if_eq 119 dX6_all_90 rfl hf (fun _ hf => ?_) (fun _ hf => ?_)
  · refine z_aload_n 0 dX6_all_119 rfl rfl ?_
    refine z_bipush (-10) dX6_all_120 rfl ?_
    refine z_iload_n 2 dX6_all_122 rfl rfl ?_
    obtain ⟨v_6, h_7, hc_5, hf⟩ := zb2_some hf
    have hct := ctX4_ends_4 (l := F.1) hL hc_5
    refine z_invUq suX6_89_4 hct ((hL.b 0 rfl).t 0 rfl) ⟨Nat.le_trans (by decide) hD, by decide⟩ rfl rfl (Nat.le_of_ble_eq_true rfl) dX6_all_123 ?_
    have hL := hL.ext hct.1
    obtain ⟨b_8, e9, hf9⟩ := zb1_some hf
    subst e9
    have hf := hf9
    refine z_athrow dX6_all_126 ?_
    cases hf
    exact zt_out rfl hM
  · refine z_aload_n 0 dX6_all_93 rfl rfl ?_
    refine z_geti fdX6_80_4 ((hL.b 0 rfl).t 0 rfl) dX6_all_94 ?_
    refine z_iconst 3 dX6_all_97 rfl ?_
    refine z_icmp_ne 106 dX6_all_98 rfl hf (fun _ hf => ?_) (fun _ hf => ?_)
    · exact zX6_all_J106 hD hL hf hM
    · refine z_iload 4 dX6_all_101 rfl ?_
      refine z_if_eq 119 dX6_all_103 rfl hf (fun _ hf => ?_) (fun _ hf => ?_)
      · refine z_aload_n 0 dX6_all_119 rfl rfl ?_
        refine z_bipush (-10) dX6_all_120 rfl ?_
        refine z_iload_n 2 dX6_all_122 rfl rfl ?_
        obtain ⟨v_40, h_41, hc_39, hf⟩ := zb2_some hf
        have hct := ctX4_ends_4 (l := F.1) hL hc_39
        refine z_invUq suX6_89_4 hct ((hL.b 0 rfl).t 0 rfl) ⟨Nat.le_trans (by decide) hD, by decide⟩ rfl rfl (Nat.le_of_ble_eq_true rfl) dX6_all_123 ?_
        have hL := hL.ext hct.1
        obtain ⟨b_42, e9, hf9⟩ := zb1_some hf
        subst e9
        have hf := hf9
        refine z_athrow dX6_all_126 ?_
        cases hf
        exact zt_out rfl hM
      · exact zX6_all_J106 hD hL hf hM
noncomputable def fX6_all_J83 (h : zH) (a : Nat) (xx : Nat) (x1 : Int32) (x2 : Int32) (x4 : Int32) : Option (zX) := fX6_all_J84 h a xx x1 x2 x4 0
theorem zX6_all_J83 {F : zF} {h : zH} {a : Nat} {xx : Nat} {x1 : Int32} {x2 : Int32} {x4 : Int32} {y : zX} (hD : 55 ≤ F.2.1) (hL : zWr h a xx) (hf : fX6_all_J83 h a xx x1 x2 x4 = some y) (hM : (y : zX) = zEnd F) : Z F 7 cX6_all RX6 "all" none [] h 83 [(0, .ref a), (1, .int x1), (2, .int x2), (4, .int x4)] [] := by
  unfold fX6_all_J83 at hf
  refine z_iconst 0 dX6_all_83 rfl ?_
  exact zX6_all_J84 hD hL hf hM
theorem suX6_85_s : zIs RX6 85 yX0_in (ws_ yX0_in cX0_in 3 (some .boolean)) 3 3 := ⟨(zGood_c q592 q97), (Or.inr ⟨_, q1150⟩), q591, ⟨by decide, by decide⟩, by decide +kernel⟩
noncomputable def fX6_all_J58 (h : zH) (a : Nat) (xx : Nat) (x1 : Int32) (x2 : Int32) (k0 : Int32) : Option (zX) := if (zI h a 3) = 3 then (zb1 (fX0_in x1 56320 56575) (fun v_44 => if v_44 = 0 then (fX6_all_J83 h a xx x1 x2 k0) else (fX6_all_J84 h a xx x1 x2 k0 1))) else (fX6_all_J83 h a xx x1 x2 k0)
theorem zX6_all_J58 {F : zF} {h : zH} {a : Nat} {xx : Nat} {x1 : Int32} {x2 : Int32} {k0 : Int32} {y : zX} (hD : 55 ≤ F.2.1) (hL : zWr h a xx) (hf : fX6_all_J58 h a xx x1 x2 k0 = some y) (hM : (y : zX) = zEnd F) : Z F 7 cX6_all RX6 "all" none [] h 58 [(0, .ref a), (1, .int x1), (2, .int x2)] [.int k0] := by
  unfold fX6_all_J58 at hf
  refine z_istore dX6_all_58 (by decide) (lc' := [(0, .ref a), (1, .int x1), (2, .int x2), (4, .int k0)]) rfl ?_
  refine z_aload_n 0 dX6_all_60 rfl rfl ?_
  refine z_geti fdX6_80_4 ((hL.b 0 rfl).t 0 rfl) dX6_all_61 ?_
  refine z_iconst 3 dX6_all_64 rfl ?_
  refine z_icmp_ne 83 dX6_all_65 rfl hf (fun _ hf => ?_) (fun _ hf => ?_)
  · exact zX6_all_J83 hD hL hf hM
  · refine z_iload_n 1 dX6_all_68 rfl rfl ?_
    refine z_ldc q1148 dX6_all_69 ?_
    refine z_ldc q1149 dX6_all_71 ?_
    obtain ⟨v_44, hc_43, hf⟩ := zb1_some hf
    refine z_invSi suX6_85_s (ctX0_in hc_43) ⟨Nat.le_trans (by decide) hD, by decide⟩ rfl rfl (Nat.le_of_ble_eq_true rfl) dX6_all_73 ?_
    refine z_if_eq 83 dX6_all_76 rfl hf (fun _ hf => ?_) (fun _ hf => ?_)
    · exact zX6_all_J83 hD hL hf hM
    · refine z_iconst 1 dX6_all_79 rfl ?_
      refine z_goto 84 dX6_all_80 rfl ?_
      exact zX6_all_J84 hD hL hf hM
noncomputable def fX6_all_J57 (h : zH) (a : Nat) (xx : Nat) (x1 : Int32) (x2 : Int32) : Option (zX) := fX6_all_J58 h a xx x1 x2 0
theorem zX6_all_J57 {F : zF} {h : zH} {a : Nat} {xx : Nat} {x1 : Int32} {x2 : Int32} {y : zX} (hD : 55 ≤ F.2.1) (hL : zWr h a xx) (hf : fX6_all_J57 h a xx x1 x2 = some y) (hM : (y : zX) = zEnd F) : Z F 7 cX6_all RX6 "all" none [] h 57 [(0, .ref a), (1, .int x1), (2, .int x2)] [] := by
  unfold fX6_all_J57 at hf
  refine z_iconst 0 dX6_all_57 rfl ?_
  exact zX6_all_J58 hD hL hf hM
noncomputable def fX6_all_J28 (h : zH) (a : Nat) (xx : Nat) (x1 : Int32) (x2 : Int32) (x3 : Int32) : Option (zX) := zlet (zsI h a 14 0) (fun h_4 => if (zI h_4 a 3) = 4 then (if x3 = 0 then (fX6_all_J57 h_4 a xx x1 x2) else (zb2 (fX6_expand 50 h_4 a xx x1) (fun v_47 h_48 => if v_47 = 0 then (fX6_all_J57 h_48 a xx x1 x2) else (fX6_all_J58 h_48 a xx x1 x2 1)))) else (fX6_all_J57 h_4 a xx x1 x2))
theorem zX6_all_J28 {F : zF} {h : zH} {a : Nat} {xx : Nat} {x1 : Int32} {x2 : Int32} {x3 : Int32} {y : zX} (hD : 55 ≤ F.2.1) (hL : zWr h a xx) (hf : fX6_all_J28 h a xx x1 x2 x3 = some y) (hM : (y : zX) = zEnd F) : Z F 7 cX6_all RX6 "all" none [] h 28 [(0, .ref a), (1, .int x1), (2, .int x2), (3, .int x3)] [] := by
  unfold fX6_all_J28 at hf
  refine z_aload_n 0 dX6_all_28 rfl rfl ?_
  refine z_iconst 0 dX6_all_29 rfl ?_
  obtain ⟨h_4, he, hf⟩ := zlet_some hf
  refine z_puti fdX6_57_4 ((hL.b 0 rfl).t 0 rfl) ((hL.b 0 rfl).nz 0) he dX6_all_30 ?_
  have hL := hL.I he
  refine z_aload_n 0 dX6_all_33 rfl rfl ?_
  refine z_geti fdX6_80_4 ((hL.b 0 rfl).t 0 rfl) dX6_all_34 ?_
  refine z_iconst 4 dX6_all_37 rfl ?_
  refine z_icmp_ne 57 dX6_all_38 rfl hf (fun _ hf => ?_) (fun _ hf => ?_)
  · refine z_sub [0, 1, 2] rfl ?_
    exact zX6_all_J57 hD hL hf hM
  · refine z_iload_n 3 dX6_all_41 rfl rfl ?_
    refine z_if_eq 57 dX6_all_42 rfl hf (fun _ hf => ?_) (fun _ hf => ?_)
    · refine z_sub [0, 1, 2] rfl ?_
      exact zX6_all_J57 hD hL hf hM
    · refine z_aload_n 0 dX6_all_45 rfl rfl ?_
      refine z_iload_n 1 dX6_all_46 rfl rfl ?_
      obtain ⟨v_47, h_48, hc_46, hf⟩ := zb2_some hf
      have hct := ctX6_expand 50 (l := F.1) hL hc_46
      refine z_invVi suX6_70_4 hct ((hL.b 0 rfl).t 0 rfl) ⟨Nat.le_trans (by decide) hD, by decide⟩ rfl rfl (Nat.le_of_ble_eq_true rfl) dX6_all_47 ?_
      have hL := hL.ext hct.1
      refine z_if_eq 57 dX6_all_50 rfl hf (fun _ hf => ?_) (fun _ hf => ?_)
      · refine z_sub [0, 1, 2] rfl ?_
        exact zX6_all_J57 hD hL hf hM
      · refine z_iconst 1 dX6_all_53 rfl ?_
        refine z_goto 58 dX6_all_54 rfl ?_
        refine z_sub [0, 1, 2] rfl ?_
        exact zX6_all_J58 hD hL hf hM
noncomputable def fX6_all (h : zH) (a : Nat) (xx : Nat) (x1 : Int32) (x2 : Int32) : Option (zX) := zb1 (fX0_isPoint x1) (fun v_2 => if v_2 = 0 then (fX6_all_J28 h a xx x1 x2 v_2) else (zb1 (zP h a 2) (fun b_49 => zb1 (fV_Page_code h b_49 x1) (fun v_51 => if (lg_cmp v_51 0) < 0 then (fX6_all_J28 h a xx x1 x2 v_2) else (zxv (fX6_write h a xx x1) (fun h_55 => some ((.inl none, h_55))) (fun e_56 h_57 => some ((.inr e_56, h_57))))))))
theorem zX6_all {F : zF} {h : zH} {a : Nat} {xx : Nat} {x1 : Int32} {x2 : Int32} {y : zX} (hD : 55 ≤ F.2.1) (hL : zWr h a xx) (hf : fX6_all h a xx x1 x2 = some y) (hM : (y : zX) = zEnd F) : Z F 7 cX6_all RX6 "all" none [] h 0 [(0, .ref a), (1, .int x1), (2, .int x2)] [] := by
  unfold fX6_all at hf
  refine z_iload_n 1 dX6_all_0 rfl rfl ?_
  obtain ⟨v_2, hc_1, hf⟩ := zb1_some hf
  refine z_invSi suX6_74_s (ctX0_isPoint hc_1) ⟨Nat.le_trans (by decide) hD, by decide⟩ rfl rfl (Nat.le_of_ble_eq_true rfl) dX6_all_1 ?_
  refine z_istore_n dX6_all_4 rfl (by decide) (lc' := [(0, .ref a), (1, .int x1), (2, .int x2), (3, .int v_2)]) rfl ?_
  refine z_iload_n 3 dX6_all_5 rfl rfl ?_
  refine z_if_eq 28 dX6_all_6 rfl hf (fun _ hf => ?_) (fun _ hf => ?_)
  · exact zX6_all_J28 hD hL hf hM
  · refine z_aload_n 0 dX6_all_9 rfl rfl ?_
    obtain ⟨b_49, hb_49, hf⟩ := zb1_some hf
    refine z_getr fdX6_31_4 (Or.inl ⟨_, rfl⟩) ((hL.b 0 rfl).t 0 rfl) hb_49 dX6_all_10 ?_
    refine z_iload_n 1 dX6_all_13 rfl rfl ?_
    obtain ⟨v_51, hc_50, hf⟩ := zb1_some hf
    refine zVX6_53l (Nat.le_trans (by decide) hD) hc_50 (Nat.le_of_ble_eq_true rfl) dX6_all_14 ?_
    refine z_lconst 0 dX6_all_17 rfl ?_
    refine z_lcmp dX6_all_18 ?_
    refine z_if_lt 28 dX6_all_19 rfl hf (fun _ hf => ?_) (fun _ hf => ?_)
    · exact zX6_all_J28 hD hL hf hM
    · refine z_aload_n 0 dX6_all_22 rfl rfl ?_
      refine z_iload_n 1 dX6_all_23 rfl rfl ?_
      rcases zxv_some hf with ⟨h_55, hc_53, hf⟩ | ⟨e_56, h_57, hc_58, hf⟩
      rotate_left
      · have hct := ctX6_write (l := F.1) hL hc_58
        refine z_invVt suX6_77_4 hct ((hL.b 0 rfl).t 0 rfl) ⟨Nat.le_trans (by decide) hD, by decide⟩ rfl rfl (Nat.le_of_ble_eq_true rfl) dX6_all_24 ?_
        have hL := hL.ext hct.1
        cases hf
        exact zt_out rfl hM
      have hct := ctX6_write (l := F.1) hL hc_53
      refine z_invVv suX6_77_4 hct ((hL.b 0 rfl).t 0 rfl) ⟨Nat.le_trans (by decide) hD, by decide⟩ rfl rfl (Nat.le_of_ble_eq_true rfl) dX6_all_24 ?_
      have hL := hL.ext hct.1
      cases hf
      exact z_vret dX6_all_27 rfl hM
theorem ctX6_all {l : Launch} {h : zH} {a : Nat} {xx : Nat} {x1 : Int32} {x2 : Int32} {y : zX} (hL : zWr h a xx) (hf : fX6_all h a xx x1 x2 = some y) : zC l yX6_all (ws_ yX6_all cX6_all 7 none) 55 [.ref a, .int x1, .int x2] h y :=
  z_start (by decide) (Nat.le_of_ble_eq_true rfl) (zX6_all (F := (l, 55, h, y)) (Nat.le_refl _) hL hf rfl)
theorem fdX6_96_4 : zFd RX6 96 4 8 .int false := ⟨_, _, _, rfl, rfl, by decide, rfl, rfl, Or.inl q383, Or.inr q384⟩
theorem suX6_112_s : zIs RX6 112 yX0_isHigh (ws_ yX0_isHigh cX0_isHigh 1 (some .boolean)) 1 1 := ⟨(zGood_c q1020 q97), (Or.inr ⟨_, q1154⟩), q1019, ⟨by decide, by decide⟩, by decide +kernel⟩
theorem suX6_108_4 : zIv RX6 108 yX6_all (ws_ yX6_all cX6_all 7 none) 7 4 2 := ⟨(zGood_c q1106 q106), ⟨_, _, rfl, rfl, qs29⟩, (Or.inl q1103), q1105, ⟨by decide, by decide⟩, by decide +kernel⟩
theorem fdX6_102_4 : zFd RX6 102 4 12 .int false := ⟨_, _, _, rfl, rfl, by decide, rfl, rfl, Or.inl q426, Or.inl rfl⟩
noncomputable def fX6_step_J43 (h : zH) (a : Nat) (xx : Nat) (x1 : Int32) : Option (zX) := zb1 (fX0_isHigh x1) (fun v_2 => if v_2 = 0 then (zxv (fX6_all h a xx x1 1) (fun h_6 => some ((.inl none, h_6))) (fun e_7 h_8 => some ((.inr e_7, h_8)))) else (zlet (zsI h a 12 x1) (fun h_10 => zlet (zsI h_10 a 8 1) (fun h_11 => some ((.inl none, h_11))))))
theorem zX6_step_J43 {F : zF} {h : zH} {a : Nat} {xx : Nat} {x1 : Int32} {y : zX} (hD : 56 ≤ F.2.1) (hL : zWr h a xx) (hf : fX6_step_J43 h a xx x1 = some y) (hM : (y : zX) = zEnd F) : Z F 2 cX6_step RX6 "step" none [] h 43 [(0, .ref a), (1, .int x1)] [] := by
  unfold fX6_step_J43 at hf
  refine z_iload_n 1 dX6_step_43 rfl rfl ?_
  obtain ⟨v_2, hc_1, hf⟩ := zb1_some hf
  refine z_invSi suX6_112_s (ctX0_isHigh hc_1) ⟨Nat.le_trans (by decide) hD, by decide⟩ rfl rfl (Nat.le_of_ble_eq_true rfl) dX6_step_44 ?_
  refine z_if_eq 63 dX6_step_47 rfl hf (fun _ hf => ?_) (fun _ hf => ?_)
  · refine z_aload_n 0 dX6_step_63 rfl rfl ?_
    refine z_iload_n 1 dX6_step_64 rfl rfl ?_
    refine z_iconst 1 dX6_step_65 rfl ?_
    rcases zxv_some hf with ⟨h_6, hc_4, hf⟩ | ⟨e_7, h_8, hc_9, hf⟩
    rotate_left
    · have hct := ctX6_all (l := F.1) hL hc_9
      refine z_invVt suX6_108_4 hct ((hL.b 0 rfl).t 0 rfl) ⟨Nat.le_trans (by decide) hD, by decide⟩ rfl rfl (Nat.le_of_ble_eq_true rfl) dX6_step_66 ?_
      have hL := hL.ext hct.1
      cases hf
      exact zt_out rfl hM
    have hct := ctX6_all (l := F.1) hL hc_4
    refine z_invVv suX6_108_4 hct ((hL.b 0 rfl).t 0 rfl) ⟨Nat.le_trans (by decide) hD, by decide⟩ rfl rfl (Nat.le_of_ble_eq_true rfl) dX6_step_66 ?_
    have hL := hL.ext hct.1
    cases hf
    exact z_vret dX6_step_69 rfl hM
  · refine z_aload_n 0 dX6_step_50 rfl rfl ?_
    refine z_iload_n 1 dX6_step_51 rfl rfl ?_
    obtain ⟨h_10, he, hf⟩ := zlet_some hf
    refine z_puti fdX6_102_4 ((hL.b 0 rfl).t 0 rfl) ((hL.b 0 rfl).nz 0) he dX6_step_52 ?_
    have hL := hL.I he
    refine z_aload_n 0 dX6_step_55 rfl rfl ?_
    refine z_iconst 1 dX6_step_56 rfl ?_
    obtain ⟨h_11, he, hf⟩ := zlet_some hf
    refine z_puti fdX6_96_4 ((hL.b 0 rfl).t 0 rfl) ((hL.b 0 rfl).nz 0) he dX6_step_57 ?_
    have hL := hL.I he
    refine z_goto 69 dX6_step_60 rfl ?_
    cases hf
    exact z_vret dX6_step_69 rfl hM
theorem suX6_99_s : zIs RX6 99 yX0_isLow (ws_ yX0_isLow cX0_isLow 1 (some .boolean)) 1 1 := ⟨(zGood_c q1024 q97), (Or.inr ⟨_, q1101⟩), q1023, ⟨by decide, by decide⟩, by decide +kernel⟩
theorem suX6_105_s : zIs RX6 105 yX0_paired (ws_ yX0_paired cX0_paired 2 (some .int)) 2 2 := ⟨(zGood_c q1028 q97), (Or.inr ⟨_, q1102⟩), q1027, ⟨by decide, by decide⟩, by decide +kernel⟩
noncomputable def fX6_step (h : zH) (a : Nat) (xx : Nat) (x1 : Int32) : Option (zX) := if (zI h a 8) = 1 then (zlet (zsI h a 8 0) (fun h_12 => zb1 (fX0_isLow x1) (fun v_14 => if v_14 = 0 then (zxv (fX6_all h_12 a xx (zI h_12 a 12) 2) (fun h_18 => fX6_step_J43 h_18 a xx x1) (fun e_19 h_20 => some ((.inr e_19, h_20)))) else (zb1 (fX0_paired (zI h_12 a 12) x1) (fun v_23 => zxv (fX6_all h_12 a xx v_23 2) (fun h_27 => some ((.inl none, h_27))) (fun e_28 h_29 => some ((.inr e_28, h_29)))))))) else (fX6_step_J43 h a xx x1)
theorem zX6_step {F : zF} {h : zH} {a : Nat} {xx : Nat} {x1 : Int32} {y : zX} (hD : 56 ≤ F.2.1) (hL : zWr h a xx) (hf : fX6_step h a xx x1 = some y) (hM : (y : zX) = zEnd F) : Z F 2 cX6_step RX6 "step" none [] h 0 [(0, .ref a), (1, .int x1)] [] := by
  unfold fX6_step at hf
  refine z_aload_n 0 dX6_step_0 rfl rfl ?_
  refine z_geti fdX6_96_4 ((hL.b 0 rfl).t 0 rfl) dX6_step_1 ?_
  refine z_iconst 1 dX6_step_4 rfl ?_
  refine z_icmp_ne 43 dX6_step_5 rfl hf (fun _ hf => ?_) (fun _ hf => ?_)
  · exact zX6_step_J43 hD hL hf hM
  · refine z_aload_n 0 dX6_step_8 rfl rfl ?_
    refine z_iconst 0 dX6_step_9 rfl ?_
    obtain ⟨h_12, he, hf⟩ := zlet_some hf
    refine z_puti fdX6_96_4 ((hL.b 0 rfl).t 0 rfl) ((hL.b 0 rfl).nz 0) he dX6_step_10 ?_
    have hL := hL.I he
    refine z_iload_n 1 dX6_step_13 rfl rfl ?_
    obtain ⟨v_14, hc_13, hf⟩ := zb1_some hf
    refine z_invSi suX6_99_s (ctX0_isLow hc_13) ⟨Nat.le_trans (by decide) hD, by decide⟩ rfl rfl (Nat.le_of_ble_eq_true rfl) dX6_step_14 ?_
    refine z_if_eq 34 dX6_step_17 rfl hf (fun _ hf => ?_) (fun _ hf => ?_)
    · refine z_aload_n 0 dX6_step_34 rfl rfl ?_
      refine z_aload_n 0 dX6_step_35 rfl rfl ?_
      refine z_geti fdX6_102_4 ((hL.b 0 rfl).t 0 rfl) dX6_step_36 ?_
      refine z_iconst 2 dX6_step_39 rfl ?_
      rcases zxv_some hf with ⟨h_18, hc_16, hf⟩ | ⟨e_19, h_20, hc_21, hf⟩
      rotate_left
      · have hct := ctX6_all (l := F.1) hL hc_21
        refine z_invVt suX6_108_4 hct ((hL.b 0 rfl).t 0 rfl) ⟨Nat.le_trans (by decide) hD, by decide⟩ rfl rfl (Nat.le_of_ble_eq_true rfl) dX6_step_40 ?_
        have hL := hL.ext hct.1
        cases hf
        exact zt_out rfl hM
      have hct := ctX6_all (l := F.1) hL hc_16
      refine z_invVv suX6_108_4 hct ((hL.b 0 rfl).t 0 rfl) ⟨Nat.le_trans (by decide) hD, by decide⟩ rfl rfl (Nat.le_of_ble_eq_true rfl) dX6_step_40 ?_
      have hL := hL.ext hct.1
      exact zX6_step_J43 hD hL hf hM
    · refine z_aload_n 0 dX6_step_20 rfl rfl ?_
      refine z_aload_n 0 dX6_step_21 rfl rfl ?_
      refine z_geti fdX6_102_4 ((hL.b 0 rfl).t 0 rfl) dX6_step_22 ?_
      refine z_iload_n 1 dX6_step_25 rfl rfl ?_
      obtain ⟨v_23, hc_22, hf⟩ := zb1_some hf
      refine z_invSi suX6_105_s (ctX0_paired hc_22) ⟨Nat.le_trans (by decide) hD, by decide⟩ rfl rfl (Nat.le_of_ble_eq_true rfl) dX6_step_26 ?_
      refine z_iconst 2 dX6_step_29 rfl ?_
      rcases zxv_some hf with ⟨h_27, hc_25, hf⟩ | ⟨e_28, h_29, hc_30, hf⟩
      rotate_left
      · have hct := ctX6_all (l := F.1) hL hc_30
        refine z_invVt suX6_108_4 hct ((hL.b 0 rfl).t 0 rfl) ⟨Nat.le_trans (by decide) hD, by decide⟩ rfl rfl (Nat.le_of_ble_eq_true rfl) dX6_step_30 ?_
        have hL := hL.ext hct.1
        cases hf
        exact zt_out rfl hM
      have hct := ctX6_all (l := F.1) hL hc_25
      refine z_invVv suX6_108_4 hct ((hL.b 0 rfl).t 0 rfl) ⟨Nat.le_trans (by decide) hD, by decide⟩ rfl rfl (Nat.le_of_ble_eq_true rfl) dX6_step_30 ?_
      have hL := hL.ext hct.1
      cases hf
      exact z_vret dX6_step_33 rfl hM
theorem ctX6_step {l : Launch} {h : zH} {a : Nat} {xx : Nat} {x1 : Int32} {y : zX} (hL : zWr h a xx) (hf : fX6_step h a xx x1 = some y) : zC l yX6_step (ws_ yX6_step cX6_step 2 none) 56 [.ref a, .int x1] h y :=
  z_start (by decide) (Nat.le_of_ble_eq_true rfl) (zX6_step (F := (l, 56, h, y)) (Nat.le_refl _) hL hf rfl)
theorem suX4_65_4 : zIu RX4 65 ⟨"CodeExchange$Machine", "step", "(I)V"⟩ "CodeExchange$Machine" yX6_step (ws_ yX6_step cX6_step 2 none) 2 4 1 := ⟨(zGood_c q1100 q106), ⟨_, _, rfl, rfl, q1098⟩, q974, q976, (Or.inr q975), by decide, q1099, by decide +kernel⟩
noncomputable def fX4_feed_4 (h : zH) (a : Nat) (xx : Nat) (x1 : Int32) : Option (zX) := zlet (zsI h a 9 ((zI h a 9) + 1)) (fun h_1 => zxv (fX6_step h_1 a xx x1) (fun h_4 => some ((.inl none, h_4))) (fun e_5 h_6 => some ((.inr e_5, h_6))))
theorem zX4_feed_4 {F : zF} {h : zH} {a : Nat} {xx : Nat} {x1 : Int32} {y : zX} (hD : 57 ≤ F.2.1) (hL : zWr h a xx) (hf : fX4_feed_4 h a xx x1 = some y) (hM : (y : zX) = zEnd F) : Z F 2 cX4_feed RX4 "feed" none [] h 0 [(0, .ref a), (1, .int x1)] [] := by
  unfold fX4_feed_4 at hf
  refine z_aload_n 0 dX4_feed_0 rfl rfl ?_
  refine z_dup dX4_feed_1 rfl ?_
  refine z_geti fdX4_46_4 ((hL.b 0 rfl).t 0 rfl) dX4_feed_2 ?_
  refine z_iconst 1 dX4_feed_5 rfl ?_
  refine z_iadd dX4_feed_6 ?_
  obtain ⟨h_1, he, hf⟩ := zlet_some hf
  refine z_puti fdX4_46_4 ((hL.b 0 rfl).t 0 rfl) ((hL.b 0 rfl).nz 0) he dX4_feed_7 ?_
  have hL := hL.I he
  refine z_aload_n 0 dX4_feed_10 rfl rfl ?_
  refine z_iload_n 1 dX4_feed_11 rfl rfl ?_
  rcases zxv_some hf with ⟨h_4, hc_2, hf⟩ | ⟨e_5, h_6, hc_7, hf⟩
  rotate_left
  · have hct := ctX6_step (l := F.1) hL hc_7
    refine z_invUt suX4_65_4 hct ((hL.b 0 rfl).t 0 rfl) ⟨Nat.le_trans (by decide) hD, by decide⟩ rfl rfl (Nat.le_of_ble_eq_true rfl) dX4_feed_12 ?_
    have hL := hL.ext hct.1
    cases hf
    exact zt_out rfl hM
  have hct := ctX6_step (l := F.1) hL hc_2
  refine z_invUv suX4_65_4 hct ((hL.b 0 rfl).t 0 rfl) ⟨Nat.le_trans (by decide) hD, by decide⟩ rfl rfl (Nat.le_of_ble_eq_true rfl) dX4_feed_12 ?_
  have hL := hL.ext hct.1
  cases hf
  exact z_vret dX4_feed_15 rfl hM
theorem ctX4_feed_4 {l : Launch} {h : zH} {a : Nat} {xx : Nat} {x1 : Int32} {y : zX} (hL : zWr h a xx) (hf : fX4_feed_4 h a xx x1 = some y) : zC l yX4_feed (ws_ yX4_feed cX4_feed 2 none) 57 [.ref a, .int x1] h y :=
  z_start (by decide) (Nat.le_of_ble_eq_true rfl) (zX4_feed_4 (F := (l, 57, h, y)) (Nat.le_refl _) hL hf rfl)
noncomputable def fX2_end_8 (a : Nat) (x1 : Int32) : Option (Int64) := some 0
theorem zX2_end_8 {F : zF} {h : zH} {a : Nat} {x1 : Int32} {y : Int64} (hD : 1 ≤ F.2.1) (hL : zOb 8 h a) (hf : fX2_end_8 a x1 = some y) (hM : ((.inl (some (.long y)), h) : zX) = zEnd F) : Z F 2 cX2_end RX2 "end" (some .long) [] h 0 [(0, .ref a), (1, .int x1)] [] := by
  unfold fX2_end_8 at hf
  refine z_lconst 0 dX2_end_0 rfl ?_
  cases hf
  exact z_lret dX2_end_1 rfl hM
theorem ctX2_end_8 {l : Launch} {h : zH} {a : Nat} {x1 : Int32} {v : Int64} (hL : zOb 8 h a) (hf : fX2_end_8 a x1 = some v) : zC l yX2_end (ws_ yX2_end cX2_end 2 (some .long)) 1 [.ref a, .int x1] h (.inl (some (.long v)), h) :=
  z_start (by decide) (Nat.le_of_ble_eq_true rfl) (zX2_end_8 (F := (l, 1, h, (.inl (some (.long v)), h))) (Nat.le_refl _) hL hf rfl)
noncomputable def fX2_end_9 (a : Nat) (x1 : Int32) : Option (Int64) := some 0
theorem zX2_end_9 {F : zF} {h : zH} {a : Nat} {x1 : Int32} {y : Int64} (hD : 1 ≤ F.2.1) (hL : zOb 9 h a) (hf : fX2_end_9 a x1 = some y) (hM : ((.inl (some (.long y)), h) : zX) = zEnd F) : Z F 2 cX2_end RX2 "end" (some .long) [] h 0 [(0, .ref a), (1, .int x1)] [] := by
  unfold fX2_end_9 at hf
  refine z_lconst 0 dX2_end_0 rfl ?_
  cases hf
  exact z_lret dX2_end_1 rfl hM
theorem ctX2_end_9 {l : Launch} {h : zH} {a : Nat} {x1 : Int32} {v : Int64} (hL : zOb 9 h a) (hf : fX2_end_9 a x1 = some v) : zC l yX2_end (ws_ yX2_end cX2_end 2 (some .long)) 1 [.ref a, .int x1] h (.inl (some (.long v)), h) :=
  z_start (by decide) (Nat.le_of_ble_eq_true rfl) (zX2_end_9 (F := (l, 1, h, (.inl (some (.long v)), h))) (Nat.le_refl _) hL hf rfl)
noncomputable def fX2_end_10 (a : Nat) (x1 : Int32) : Option (Int64) := some 0
theorem zX2_end_10 {F : zF} {h : zH} {a : Nat} {x1 : Int32} {y : Int64} (hD : 1 ≤ F.2.1) (hL : zOb 10 h a) (hf : fX2_end_10 a x1 = some y) (hM : ((.inl (some (.long y)), h) : zX) = zEnd F) : Z F 2 cX2_end RX2 "end" (some .long) [] h 0 [(0, .ref a), (1, .int x1)] [] := by
  unfold fX2_end_10 at hf
  refine z_lconst 0 dX2_end_0 rfl ?_
  cases hf
  exact z_lret dX2_end_1 rfl hM
theorem ctX2_end_10 {l : Launch} {h : zH} {a : Nat} {x1 : Int32} {v : Int64} (hL : zOb 10 h a) (hf : fX2_end_10 a x1 = some v) : zC l yX2_end (ws_ yX2_end cX2_end 2 (some .long)) 1 [.ref a, .int x1] h (.inl (some (.long v)), h) :=
  z_start (by decide) (Nat.le_of_ble_eq_true rfl) (zX2_end_10 (F := (l, 1, h, (.inl (some (.long v)), h))) (Nat.le_refl _) hL hf rfl)
noncomputable def fV_Page_end (h : zH) (b : Nat) (p0 : Int32) : Option (Int64) := if zT h b = (3, 0) then (zck (zTb h b) (fX3_end h b p0)) else if zT h b = (9, 0) then (zck (zOb 8 h b) (fX2_end_8 b p0)) else if zT h b = (10, 0) then (zck (zOb 9 h b) (fX2_end_9 b p0)) else if zT h b = (11, 0) then (zck (zOb 10 h b) (fX2_end_10 b p0)) else none
theorem suX6_115_2 : zIu RX6 115 ⟨"CodeExchange$Page", "end", "(I)J"⟩ "CodeExchange$Page" yX3_end (ws_ yX3_end cX3_end 2 (some .long)) 2 2 1 := ⟨(zGood_c q1176 q103), ⟨_, _, rfl, rfl, q1174⟩, q1170, q1172, (Or.inl ⟨q1171, _, _, _, q1179⟩), by decide, q1175, by decide +kernel⟩
theorem suX6_115_8 : zIu RX6 115 ⟨"CodeExchange$Page", "end", "(I)J"⟩ "CodeExchange$Page" yX2_end (ws_ yX2_end cX2_end 2 (some .long)) 2 8 1 := ⟨(zGood_c q1179 q102), ⟨_, _, rfl, rfl, q1178⟩, q1170, q1172, (Or.inl ⟨q1171, _, _, _, q1179⟩), by decide, q1171, by decide +kernel⟩
theorem suX6_115_9 : zIu RX6 115 ⟨"CodeExchange$Page", "end", "(I)J"⟩ "CodeExchange$Page" yX2_end (ws_ yX2_end cX2_end 2 (some .long)) 2 9 1 := ⟨(zGood_c q1179 q102), ⟨_, _, rfl, rfl, q1177⟩, q1170, q1172, (Or.inl ⟨q1171, _, _, _, q1179⟩), by decide, q1171, by decide +kernel⟩
theorem suX6_115_10 : zIu RX6 115 ⟨"CodeExchange$Page", "end", "(I)J"⟩ "CodeExchange$Page" yX2_end (ws_ yX2_end cX2_end 2 (some .long)) 2 10 1 := ⟨(zGood_c q1179 q102), ⟨_, _, rfl, rfl, q1173⟩, q1170, q1172, (Or.inl ⟨q1171, _, _, _, q1179⟩), by decide, q1171, by decide +kernel⟩
theorem zVX6_115l {F : zF} {nL : Nat} {cc : ByteArray} {nm : String} {ret : Option FieldType} {hh : List (Nat × Nat × Nat × Nat)} {h : zH} {pc b : Nat} {lc : List (Nat × Value)} {st : List Value} {p0 : Int32} {v : Int64} (hD : 2 ≤ F.2.1) (hf : fV_Page_end h b p0 = some v) (hcat : (st.map fun v => v.category).sum ≤ 8) (hd : decode cc pc = .ok (.invokevirtual 115, 3)) (kk : Z F nL cc RX6 nm ret hh h (pc + 3) lc (.long v :: st)) : Z F nL cc RX6 nm ret hh h pc lc (.int p0 :: .ref b :: st) := by
  unfold fV_Page_end at hf
  refine zdsp hf (fun e hf => ?_) (fun _ hf => ?_)
  · obtain ⟨hK, hf⟩ := zck_some hf
    have hc := hf
    exact z_invUl suX6_115_2 (ctX3_end hK hc) e ⟨Nat.le_trans (by decide) hD, by decide⟩ rfl rfl hcat hd kk
  refine zdsp hf (fun e hf => ?_) (fun _ hf => ?_)
  · obtain ⟨hK, hf⟩ := zck_some hf
    have hc := hf
    exact z_invUl suX6_115_8 (ctX2_end_8 hK hc) e ⟨Nat.le_trans (by decide) hD, by decide⟩ rfl rfl hcat hd kk
  refine zdsp hf (fun e hf => ?_) (fun _ hf => ?_)
  · obtain ⟨hK, hf⟩ := zck_some hf
    have hc := hf
    exact z_invUl suX6_115_9 (ctX2_end_9 hK hc) e ⟨Nat.le_trans (by decide) hD, by decide⟩ rfl rfl hcat hd kk
  refine zdsp hf (fun e hf => ?_) (fun _ hf => ?_)
  · obtain ⟨hK, hf⟩ := zck_some hf
    have hc := hf
    exact z_invUl suX6_115_10 (ctX2_end_10 hK hc) e ⟨Nat.le_trans (by decide) hD, by decide⟩ rfl rfl hcat hd kk
  cases hf
noncomputable def fX6_last_J22 (h : zH) (a : Nat) (xx : Nat) : Option (zX) := zb1 (zP h a 2) (fun b_1 => zb1 (fV_Page_end h b_1 (zI h a 6)) (fun v_3 => zxv (fX6_putBytes h a xx v_3) (fun h_7 => zlet (zsI h_7 a 6 0) (fun h_11 => some ((.inl none, h_11)))) (fun e_8 h_9 => some ((.inr e_8, h_9)))))
theorem zX6_last_J22 {F : zF} {h : zH} {a : Nat} {xx : Nat} {y : zX} (hD : 56 ≤ F.2.1) (hL : zWr h a xx) (hf : fX6_last_J22 h a xx = some y) (hM : (y : zX) = zEnd F) : Z F 1 cX6_last RX6 "last" none [] h 22 [(0, .ref a)] [] := by
  unfold fX6_last_J22 at hf
  refine z_aload_n 0 dX6_last_22 rfl rfl ?_
  refine z_aload_n 0 dX6_last_23 rfl rfl ?_
  obtain ⟨b_1, hb_1, hf⟩ := zb1_some hf
  refine z_getr fdX6_31_4 (Or.inl ⟨_, rfl⟩) ((hL.b 0 rfl).t 0 rfl) hb_1 dX6_last_24 ?_
  refine z_aload_n 0 dX6_last_27 rfl rfl ?_
  refine z_geti fdX6_35_4 ((hL.b 0 rfl).t 0 rfl) dX6_last_28 ?_
  obtain ⟨v_3, hc_2, hf⟩ := zb1_some hf
  refine zVX6_115l (Nat.le_trans (by decide) hD) hc_2 (Nat.le_of_ble_eq_true rfl) dX6_last_31 ?_
  rcases zxv_some hf with ⟨h_7, hc_5, hf⟩ | ⟨e_8, h_9, hc_10, hf⟩
  rotate_left
  · have hct := ctX6_putBytes (l := F.1) hL hc_10
    refine z_invVt suX6_45_4 hct ((hL.b 0 rfl).t 0 rfl) ⟨Nat.le_trans (by decide) hD, by decide⟩ rfl rfl (Nat.le_of_ble_eq_true rfl) dX6_last_34 ?_
    have hL := hL.ext hct.1
    cases hf
    exact zt_out rfl hM
  have hct := ctX6_putBytes (l := F.1) hL hc_5
  refine z_invVv suX6_45_4 hct ((hL.b 0 rfl).t 0 rfl) ⟨Nat.le_trans (by decide) hD, by decide⟩ rfl rfl (Nat.le_of_ble_eq_true rfl) dX6_last_34 ?_
  have hL := hL.ext hct.1
  refine z_aload_n 0 dX6_last_37 rfl rfl ?_
  refine z_iconst 0 dX6_last_38 rfl ?_
  obtain ⟨h_11, he, hf⟩ := zlet_some hf
  refine z_puti fdX6_35_4 ((hL.b 0 rfl).t 0 rfl) ((hL.b 0 rfl).nz 0) he dX6_last_39 ?_
  have hL := hL.I he
  cases hf
  exact z_vret dX6_last_42 rfl hM
noncomputable def fX6_last (h : zH) (a : Nat) (xx : Nat) : Option (zX) := if (zI h a 8) = 1 then (zlet (zsI h a 8 0) (fun h_12 => zxv (fX6_all h_12 a xx (zI h_12 a 12) 1) (fun h_15 => fX6_last_J22 h_15 a xx) (fun e_16 h_17 => some ((.inr e_16, h_17))))) else (fX6_last_J22 h a xx)
theorem zX6_last {F : zF} {h : zH} {a : Nat} {xx : Nat} {y : zX} (hD : 56 ≤ F.2.1) (hL : zWr h a xx) (hf : fX6_last h a xx = some y) (hM : (y : zX) = zEnd F) : Z F 1 cX6_last RX6 "last" none [] h 0 [(0, .ref a)] [] := by
  unfold fX6_last at hf
  refine z_aload_n 0 dX6_last_0 rfl rfl ?_
  refine z_geti fdX6_96_4 ((hL.b 0 rfl).t 0 rfl) dX6_last_1 ?_
  refine z_iconst 1 dX6_last_4 rfl ?_
  refine z_icmp_ne 22 dX6_last_5 rfl hf (fun _ hf => ?_) (fun _ hf => ?_)
  · exact zX6_last_J22 hD hL hf hM
  · refine z_aload_n 0 dX6_last_8 rfl rfl ?_
    refine z_iconst 0 dX6_last_9 rfl ?_
    obtain ⟨h_12, he, hf⟩ := zlet_some hf
    refine z_puti fdX6_96_4 ((hL.b 0 rfl).t 0 rfl) ((hL.b 0 rfl).nz 0) he dX6_last_10 ?_
    have hL := hL.I he
    refine z_aload_n 0 dX6_last_13 rfl rfl ?_
    refine z_aload_n 0 dX6_last_14 rfl rfl ?_
    refine z_geti fdX6_102_4 ((hL.b 0 rfl).t 0 rfl) dX6_last_15 ?_
    refine z_iconst 1 dX6_last_18 rfl ?_
    rcases zxv_some hf with ⟨h_15, hc_13, hf⟩ | ⟨e_16, h_17, hc_18, hf⟩
    rotate_left
    · have hct := ctX6_all (l := F.1) hL hc_18
      refine z_invVt suX6_108_4 hct ((hL.b 0 rfl).t 0 rfl) ⟨Nat.le_trans (by decide) hD, by decide⟩ rfl rfl (Nat.le_of_ble_eq_true rfl) dX6_last_19 ?_
      have hL := hL.ext hct.1
      cases hf
      exact zt_out rfl hM
    have hct := ctX6_all (l := F.1) hL hc_13
    refine z_invVv suX6_108_4 hct ((hL.b 0 rfl).t 0 rfl) ⟨Nat.le_trans (by decide) hD, by decide⟩ rfl rfl (Nat.le_of_ble_eq_true rfl) dX6_last_19 ?_
    have hL := hL.ext hct.1
    exact zX6_last_J22 hD hL hf hM
theorem ctX6_last {l : Launch} {h : zH} {a : Nat} {xx : Nat} {y : zX} (hL : zWr h a xx) (hf : fX6_last h a xx = some y) : zC l yX6_last (ws_ yX6_last cX6_last 1 none) 56 [.ref a] h y :=
  z_start (by decide) (Nat.le_of_ble_eq_true rfl) (zX6_last (F := (l, 56, h, y)) (Nat.le_refl _) hL hf rfl)
theorem suX4_69_4 : zIu RX4 69 ⟨"CodeExchange$Machine", "last", "()V"⟩ "CodeExchange$Machine" yX6_last (ws_ yX6_last cX6_last 1 none) 1 4 0 := ⟨(zGood_c q1169 q106), ⟨_, _, rfl, rfl, q1167⟩, q1161, q1163, (Or.inr q1162), by decide, q1168, by decide +kernel⟩
noncomputable def fX4_end_4 (h : zH) (a : Nat) (xx : Nat) : Option (zX) := zxv (fX6_last h a xx) (fun h_3 => zlet (zsI h_3 a 10 1) (fun h_7 => zlet (zsI h_7 a 8 0) (fun h_8 => zlet (zsI h_8 a 7 4) (fun h_9 => some ((.inl none, h_9)))))) (fun e_4 h_5 => some ((.inr e_4, h_5)))
theorem zX4_end_4 {F : zF} {h : zH} {a : Nat} {xx : Nat} {y : zX} (hD : 57 ≤ F.2.1) (hL : zWr h a xx) (hf : fX4_end_4 h a xx = some y) (hM : (y : zX) = zEnd F) : Z F 1 cX4_end RX4 "end" none [] h 0 [(0, .ref a)] [] := by
  unfold fX4_end_4 at hf
  refine z_aload_n 0 dX4_end_0 rfl rfl ?_
  rcases zxv_some hf with ⟨h_3, hc_1, hf⟩ | ⟨e_4, h_5, hc_6, hf⟩
  rotate_left
  · have hct := ctX6_last (l := F.1) hL hc_6
    refine z_invUt suX4_69_4 hct ((hL.b 0 rfl).t 0 rfl) ⟨Nat.le_trans (by decide) hD, by decide⟩ rfl rfl (Nat.le_of_ble_eq_true rfl) dX4_end_1 ?_
    have hL := hL.ext hct.1
    cases hf
    exact zt_out rfl hM
  have hct := ctX6_last (l := F.1) hL hc_1
  refine z_invUv suX4_69_4 hct ((hL.b 0 rfl).t 0 rfl) ⟨Nat.le_trans (by decide) hD, by decide⟩ rfl rfl (Nat.le_of_ble_eq_true rfl) dX4_end_1 ?_
  have hL := hL.ext hct.1
  refine z_aload_n 0 dX4_end_4 rfl rfl ?_
  refine z_iconst 1 dX4_end_5 rfl ?_
  obtain ⟨h_7, he, hf⟩ := zlet_some hf
  refine z_puti fdX4_49_4 ((hL.b 0 rfl).t 0 rfl) ((hL.b 0 rfl).nz 0) he dX4_end_6 ?_
  have hL := hL.I he
  refine z_aload_n 0 dX4_end_9 rfl rfl ?_
  refine z_iconst 0 dX4_end_10 rfl ?_
  obtain ⟨h_8, he, hf⟩ := zlet_some hf
  refine z_puti fdX4_43_4 ((hL.b 0 rfl).t 0 rfl) ((hL.b 0 rfl).nz 0) he dX4_end_11 ?_
  have hL := hL.I he
  refine z_aload_n 0 dX4_end_14 rfl rfl ?_
  refine z_iconst 4 dX4_end_15 rfl ?_
  obtain ⟨h_9, he, hf⟩ := zlet_some hf
  refine z_puti fdX4_40_4 ((hL.b 0 rfl).t 0 rfl) ((hL.b 0 rfl).nz 0) he dX4_end_16 ?_
  have hL := hL.I he
  cases hf
  exact z_vret dX4_end_19 rfl hM
theorem ctX4_end_4 {l : Launch} {h : zH} {a : Nat} {xx : Nat} {y : zX} (hL : zWr h a xx) (hf : fX4_end_4 h a xx = some y) : zC l yX4_end (ws_ yX4_end cX4_end 1 none) 57 [.ref a] h y :=
  z_start (by decide) (Nat.le_of_ble_eq_true rfl) (zX4_end_4 (F := (l, 57, h, y)) (Nat.le_refl _) hL hf rfl)
theorem suX0_287_4 : zIu RX0 287 ⟨"CodeExchange$Machine", "begin", "(LCodeExchange$Page;ILCodeExchange$Sink;)V"⟩ "CodeExchange$Machine" yX4_begin (ws_ yX4_begin cX4_begin 4 none) 4 4 3 := ⟨(zGood_c q967 q104), ⟨_, _, rfl, rfl, q966⟩, q962, q964, (Or.inl ⟨q963, _, _, _, q967⟩), by decide, q963, by decide +kernel⟩
theorem suX0_296_4 : zIu RX0 296 ⟨"CodeExchange$Machine", "end", "()V"⟩ "CodeExchange$Machine" yX4_end (ws_ yX4_end cX4_end 1 none) 1 4 0 := ⟨(zGood_c q1160 q104), ⟨_, _, rfl, rfl, q1159⟩, q1155, q1157, (Or.inl ⟨q1156, _, _, _, q1160⟩), by decide, q1156, by decide +kernel⟩
theorem suX0_293_4 : zIu RX0 293 ⟨"CodeExchange$Machine", "feed", "(I)V"⟩ "CodeExchange$Machine" yX4_feed (ws_ yX4_feed cX4_feed 2 none) 2 4 1 := ⟨(zGood_c q973 q104), ⟨_, _, rfl, rfl, q972⟩, q968, q970, (Or.inl ⟨q969, _, _, _, q973⟩), by decide, q969, by decide +kernel⟩
noncomputable def fX0_run_4_L11 (h : zH) (a : Nat) (x1 : Nat) (x4 : Nat) (x5 : Int32) (x7 : Int32) : Option ((zH × Int32) ⊕ (zX)) := if x5 ≤ x7 then (zxv (fX4_end_4 h x1 a) (fun h_6 => some (.inr ((.inl none, h_6)))) (fun e_7 h_8 => some (.inr ((.inr e_7, h_8))))) else (zck (zAr h x4 x7) (zxv (fX4_feed_4 h x1 a (zI h x4 x7.toNatClampNeg)) (fun h_13 => some (.inl ((h_13, x7 + 1)))) (fun e_14 h_15 => some (.inr ((.inr e_14, h_15))))))
theorem zX0_run_4_L11 {F : zF} {h : zH} {a : Nat} {x1 : Nat} {x4 : Nat} {x5 : Int32} {x7 : Int32} {y : (zH × Int32) ⊕ (zX)} (hD : 58 ≤ F.2.1) (hL : zCt [(xB, xP, a), (wB, wP, x1)] [(x1, 11, a), (x1, 15, a)] h) (hf : fX0_run_4_L11 h a x1 x4 x5 x7 = some y) (hM : ((∀ s' : zH × Int32, y = .inl s' → (zCt [(xB, xP, a), (wB, wP, x1)] [(x1, 11, a), (x1, 15, a)] s'.1 → Z F 8 cX0_run RX0 "run" none [] s'.1 11 [(1, .ref x1), (4, .ref x4), (5, .int x5), (7, .int s'.2)] [])) ∧ ∀ r : zX, y = .inr r → (r : zX) = zEnd F)) : Z F 8 cX0_run RX0 "run" none [] h 11 [(1, .ref x1), (4, .ref x4), (5, .int x5), (7, .int x7)] [] := by
  unfold fX0_run_4_L11 at hf
  refine z_iload 3 dX0_run_11 rfl ?_
  refine z_iload 2 dX0_run_13 rfl ?_
  refine z_icmp_ge 33 dX0_run_15 rfl hf (fun _ hf => ?_) (fun _ hf => ?_)
  · refine z_aload_n 0 dX0_run_33 rfl rfl ?_
    rcases zxv_some hf with ⟨h_6, hc_4, hf⟩ | ⟨e_7, h_8, hc_9, hf⟩
    rotate_left
    · have hct := ctX4_end_4 (l := F.1) (hL.sub [1, 0] [0, 1] rfl rfl) hc_9
      refine z_invUt suX0_296_4 hct ((hL.b 1 rfl).t 0 rfl) ⟨Nat.le_trans (by decide) hD, by decide⟩ rfl rfl (Nat.le_of_ble_eq_true rfl) dX0_run_34 ?_
      have hL := hL.ext hct.1
      cases hf
      exact zt_out rfl (hM.2 _ rfl)
    have hct := ctX4_end_4 (l := F.1) (hL.sub [1, 0] [0, 1] rfl rfl) hc_4
    refine z_invUv suX0_296_4 hct ((hL.b 1 rfl).t 0 rfl) ⟨Nat.le_trans (by decide) hD, by decide⟩ rfl rfl (Nat.le_of_ble_eq_true rfl) dX0_run_34 ?_
    have hL := hL.ext hct.1
    cases hf
    exact z_vret dX0_run_37 rfl (hM.2 _ rfl)
  · refine z_aload_n 0 dX0_run_18 rfl rfl ?_
    refine z_aload 1 dX0_run_19 rfl ?_
    refine z_iload 3 dX0_run_21 rfl ?_
    obtain ⟨hi_10, hf⟩ := zck_some hf
    refine z_iald (zAr_t hi_10) hi_10.2 dX0_run_23 ?_
    rcases zxv_some hf with ⟨h_13, hc_11, hf⟩ | ⟨e_14, h_15, hc_16, hf⟩
    rotate_left
    · have hct := ctX4_feed_4 (l := F.1) (hL.sub [1, 0] [0, 1] rfl rfl) hc_16
      refine z_invUt suX0_293_4 hct ((hL.b 1 rfl).t 0 rfl) ⟨Nat.le_trans (by decide) hD, by decide⟩ rfl rfl (Nat.le_of_ble_eq_true rfl) dX0_run_24 ?_
      have hL := hL.ext hct.1
      cases hf
      exact zt_out rfl (hM.2 _ rfl)
    have hct := ctX4_feed_4 (l := F.1) (hL.sub [1, 0] [0, 1] rfl rfl) hc_11
    refine z_invUv suX0_293_4 hct ((hL.b 1 rfl).t 0 rfl) ⟨Nat.le_trans (by decide) hD, by decide⟩ rfl rfl (Nat.le_of_ble_eq_true rfl) dX0_run_24 ?_
    have hL := hL.ext hct.1
    refine z_iinc 3 (x7 + 1) dX0_run_27 rfl rfl (by decide) (lc' := [(1, .ref x1), (4, .ref x4), (5, .int x5), (7, .int (x7 + 1))]) rfl ?_
    refine z_goto 11 dX0_run_30 rfl ?_
    cases hf
    exact (hM.1 _ rfl) hL
noncomputable def fX0_run_4 (h : zH) (a : Nat) (x1 : Nat) (x2 : Nat) (x3 : Int32) (x4 : Nat) (x5 : Int32) (x6 : Nat) : Option (zX) := zb1 (fX4_begin_4 h x1 a x2 x3 x6) (fun h_3 => zlp (fun s => fX0_run_4_L11 s.1 a x1 x4 x5 s.2) (h_3, 0))
theorem zX0_run_4 {F : zF} {h : zH} {a : Nat} {x1 : Nat} {x2 : Nat} {x3 : Int32} {x4 : Nat} {x5 : Int32} {x6 : Nat} {y : zX} (hD : 58 ≤ F.2.1) (hL : zCt [(xB, xP, a), (wB, wP, x1)] [(x1, 11, a), (x1, 15, a)] h) (hf : fX0_run_4 h a x1 x2 x3 x4 x5 x6 = some y) (hM : (y : zX) = zEnd F) : Z F 8 cX0_run RX0 "run" none [] h 0 [(0, .ref a), (1, .ref x1), (2, .ref x2), (3, .int x3), (4, .ref x4), (5, .int x5), (6, .ref x6)] [] := by
  unfold fX0_run_4 at hf
  refine z_aload_n 1 dX0_run_0 rfl rfl ?_
  refine z_aload_n 2 dX0_run_1 rfl rfl ?_
  refine z_iload_n 3 dX0_run_2 rfl rfl ?_
  refine z_aload 6 dX0_run_3 rfl ?_
  obtain ⟨h_3, hc_1, hf⟩ := zb1_some hf
  have hct := ctX4_begin_4 (l := F.1) (hL.sub [1, 0] [0, 1] rfl rfl) hc_1
  refine z_invUv suX0_287_4 hct ((hL.b 1 rfl).t 0 rfl) ⟨Nat.le_trans (by decide) hD, by decide⟩ rfl rfl (Nat.le_of_ble_eq_true rfl) dX0_run_5 ?_
  have hL := hL.ext hct.1
  refine z_iconst 0 dX0_run_8 rfl ?_
  refine z_istore dX0_run_9 (by decide) (lc' := [(0, .ref a), (1, .ref x1), (2, .ref x2), (3, .int x3), (4, .ref x4), (5, .int x5), (6, .ref x6), (7, .int 0)]) rfl ?_
  refine z_sub [1, 4, 5, 7] rfl ?_
  exact z_loop (fun (s : zH × Int32) => (zCt [(xB, xP, a), (wB, wP, x1)] [(x1, 11, a), (x1, 15, a)] s.1 → Z F 8 cX0_run RX0 "run" none [] s.1 11 [(1, .ref x1), (4, .ref x4), (5, .int x5), (7, .int s.2)] [])) (fun (r : zX) => (r : zX) = zEnd F) (fun s y hb hs hr hL => zX0_run_4_L11 hD hL hb ⟨hs, hr⟩) hf hM hL
theorem ctX0_run_4 {l : Launch} {h : zH} {a : Nat} {x1 : Nat} {x2 : Nat} {x3 : Int32} {x4 : Nat} {x5 : Int32} {x6 : Nat} {y : zX} (hL : zCt [(xB, xP, a), (wB, wP, x1)] [(x1, 11, a), (x1, 15, a)] h) (hf : fX0_run_4 h a x1 x2 x3 x4 x5 x6 = some y) : zC l yX0_run (ws_ yX0_run cX0_run 8 none) 58 [.ref a, .ref x1, .ref x2, .int x3, .ref x4, .int x5, .ref x6] h y :=
  z_start (by decide) (Nat.le_of_ble_eq_true rfl) (zX0_run_4 (F := (l, 58, h, y)) (Nat.le_refl _) hL hf rfl)
theorem fdX0_95_0 : zFd RX0 95 0 18 (.object "CodeExchange$Writer") true := ⟨_, _, _, rfl, rfl, by decide, rfl, rfl, Or.inl q503, Or.inl rfl⟩
theorem suX0_302_0_4 : zIv RX0 302 yX0_run (ws_ yX0_run cX0_run 8 none) 8 0 6 := ⟨(zGood_c q961 q97), ⟨_, _, rfl, rfl, qs25⟩, (Or.inl q958), q960, ⟨by decide, by decide⟩, by decide +kernel⟩
noncomputable def fX0_encode (h : zH) (a : Nat) (x1 : Int32) (x2 : Int32) : Option (Int32 × zH) := zxr (fX0_closedAt h a x1) (fun v_2 h_3 => zb1 v_2 (fun b_12 => zb1 (fX0_in x2 0 4) (fun v_14 => zxv (fX0_need h_3 a v_14 ((-1))) (fun h_18 => zb1 (zP h_18 a 25) (fun b_27 => zck (zRw h_18 b_27 a) (zb1 (fX7_begin h_18 b_27 a 0) (fun h_31 => zb1 (zP h_31 a 25) (fun b_32 => zck (zCt [(xB, xP, a), (wB, wP, a + 38)] [(a + 38, 11, a), (a + 38, 15, a)] h_31) (zxv (fX0_run_4 h_31 a (a + 38) b_12 x2 (a + 26) (zI h_31 a 7) b_32) (fun h_36 => zb2 (fX0_becomes h_36 a 2) (fun v_46 h_47 => some ((v_46, h_47)))) (fun e_37 h_38 => zck (zT h_38 e_37 = (2, 0)) (zck (zOb 1 h_38 e_37) (zb2 (fX0_answer h_38 a (zI h_38 e_37 6)) (fun v_43 h_44 => some ((v_43, h_44)))))))))))) (fun e_19 h_20 => zck (zT h_20 e_19 = (2, 0)) (zck (zOb 1 h_20 e_19) (zb2 (fX0_answer h_20 a (zI h_20 e_19 6)) (fun v_25 h_26 => some ((v_25, h_26))))))))) (fun e_4 h_5 => zck (zT h_5 e_4 = (2, 0)) (zck (zOb 1 h_5 e_4) (zb2 (fX0_answer h_5 a (zI h_5 e_4 6)) (fun v_10 h_11 => some ((v_10, h_11))))))
theorem zX0_encode {F : zF} {h : zH} {a : Nat} {x1 : Int32} {x2 : Int32} {y : Int32 × zH} (hD : 123 ≤ F.2.1) (hL : zXx h a) (hf : fX0_encode h a x1 x2 = some y) (hM : ((.inl (some (.int y.1)), y.2) : zX) = zEnd F) : Z F 4 cX0_encode RX0 "encode" (some .int) [(0, 52, 53, 18)] h 0 [(0, .ref a), (1, .int x1), (2, .int x2)] [] := by
  unfold fX0_encode at hf
  refine z_aload_n 0 dX0_encode_0 rfl rfl ?_
  refine z_iload_n 1 dX0_encode_1 rfl rfl ?_
  rcases zxr_some hf with ⟨v_2, h_3, hc_1, hf⟩ | ⟨e_4, h_5, hc_6, hf⟩
  rotate_left
  · have hct := ctX0_closedAt (l := F.1) hL hc_6
    refine z_invVt suX0_255_0 hct ((hL.b 0 rfl).t 0 rfl) ⟨Nat.le_trans (by decide) hD, by decide⟩ rfl rfl (Nat.le_of_ble_eq_true rfl) dX0_encode_2 ?_
    have hL := hL.ext hct.1
    obtain ⟨ht_7, hf⟩ := zck_some hf
    refine zt_catch (q := (RX1, TX1, 7)) rfl (by decide) q129 rfl rfl ht_7 ?_
    refine z_astore_n dX0_encode_53 rfl (by decide) (lc' := [(0, .ref a), (1, .int x1), (2, .int x2), (3, .ref e_4)]) rfl ?_
    refine z_aload_n 0 dX0_encode_54 rfl rfl ?_
    refine z_aload_n 3 dX0_encode_55 rfl rfl ?_
    obtain ⟨hK_8, hf⟩ := zck_some hf
    refine z_geti fdX0_17_1 ((hK_8.b 0 rfl).t 0 rfl) dX0_encode_56 ?_
    obtain ⟨v_10, h_11, hc_9, hf⟩ := zb2_some hf
    have hct := ctX0_answer (l := F.1) hL hc_9
    refine z_invVi suX0_163_0 hct ((hL.b 0 rfl).t 0 rfl) ⟨Nat.le_trans (by decide) hD, by decide⟩ rfl rfl (Nat.le_of_ble_eq_true rfl) dX0_encode_59 ?_
    have hL := hL.ext hct.1
    have hK_8 := hK_8.ext hct.1
    cases hf
    exact z_iret dX0_encode_62 rfl hM
  have hct := ctX0_closedAt (l := F.1) hL hc_1
  refine z_invVq suX0_255_0 hct ((hL.b 0 rfl).t 0 rfl) ⟨Nat.le_trans (by decide) hD, by decide⟩ rfl rfl (Nat.le_of_ble_eq_true rfl) dX0_encode_2 ?_
  have hL := hL.ext hct.1
  obtain ⟨b_12, e9, hf9⟩ := zb1_some hf
  subst e9
  have hf := hf9
  refine z_astore_n dX0_encode_5 rfl (by decide) (lc' := [(0, .ref a), (1, .int x1), (2, .int x2), (3, .ref b_12)]) rfl ?_
  refine z_aload_n 0 dX0_encode_6 rfl rfl ?_
  refine z_iload_n 2 dX0_encode_7 rfl rfl ?_
  refine z_iconst 0 dX0_encode_8 rfl ?_
  refine z_iconst 4 dX0_encode_9 rfl ?_
  obtain ⟨v_14, hc_13, hf⟩ := zb1_some hf
  refine z_invSi suX0_4_s (ctX0_in hc_13) ⟨Nat.le_trans (by decide) hD, by decide⟩ rfl rfl (Nat.le_of_ble_eq_true rfl) dX0_encode_10 ?_
  refine z_iconst (-1) dX0_encode_13 rfl ?_
  rcases zxv_some hf with ⟨h_18, hc_16, hf⟩ | ⟨e_19, h_20, hc_21, hf⟩
  rotate_left
  · have hct := ctX0_need (l := F.1) hL hc_21
    refine z_invVt suX0_184_0 hct ((hL.b 0 rfl).t 0 rfl) ⟨Nat.le_trans (by decide) hD, by decide⟩ rfl rfl (Nat.le_of_ble_eq_true rfl) dX0_encode_14 ?_
    have hL := hL.ext hct.1
    obtain ⟨ht_22, hf⟩ := zck_some hf
    refine zt_catch (q := (RX1, TX1, 7)) rfl (by decide) q129 rfl rfl ht_22 ?_
    refine z_astore_n dX0_encode_53 rfl (by decide) (lc' := [(0, .ref a), (1, .int x1), (2, .int x2), (3, .ref e_19)]) rfl ?_
    refine z_aload_n 0 dX0_encode_54 rfl rfl ?_
    refine z_aload_n 3 dX0_encode_55 rfl rfl ?_
    obtain ⟨hK_23, hf⟩ := zck_some hf
    refine z_geti fdX0_17_1 ((hK_23.b 0 rfl).t 0 rfl) dX0_encode_56 ?_
    obtain ⟨v_25, h_26, hc_24, hf⟩ := zb2_some hf
    have hct := ctX0_answer (l := F.1) hL hc_24
    refine z_invVi suX0_163_0 hct ((hL.b 0 rfl).t 0 rfl) ⟨Nat.le_trans (by decide) hD, by decide⟩ rfl rfl (Nat.le_of_ble_eq_true rfl) dX0_encode_59 ?_
    have hL := hL.ext hct.1
    have hK_23 := hK_23.ext hct.1
    cases hf
    exact z_iret dX0_encode_62 rfl hM
  have hct := ctX0_need (l := F.1) hL hc_16
  refine z_invVv suX0_184_0 hct ((hL.b 0 rfl).t 0 rfl) ⟨Nat.le_trans (by decide) hD, by decide⟩ rfl rfl (Nat.le_of_ble_eq_true rfl) dX0_encode_14 ?_
  have hL := hL.ext hct.1
  refine z_aload_n 0 dX0_encode_17 rfl rfl ?_
  obtain ⟨b_27, hb_27, hf⟩ := zb1_some hf
  refine z_getr fdX0_106_0 (Or.inl ⟨_, rfl⟩) ((hL.b 0 rfl).t 0 rfl) hb_27 dX0_encode_18 ?_
  refine z_iconst 0 dX0_encode_21 rfl ?_
  obtain ⟨hK_28, hf⟩ := zck_some hf
  obtain ⟨h_31, hc_29, hf⟩ := zb1_some hf
  have hct := ctX7_begin (l := F.1) hK_28 hc_29
  refine z_invVv suX0_299_5 hct ((hK_28.b 0 rfl).t 0 rfl) ⟨Nat.le_trans (by decide) hD, by decide⟩ rfl rfl (Nat.le_of_ble_eq_true rfl) dX0_encode_22 ?_
  have hL := hL.ext hct.1
  have hK_28 := hK_28.ext hct.1
  refine z_aload_n 0 dX0_encode_25 rfl rfl ?_
  refine z_aload_n 0 dX0_encode_26 rfl rfl ?_
  refine z_getr fdX0_95_0 (Or.inl ⟨_, rfl⟩) ((hL.b 0 rfl).t 0 rfl) ((hL.b 0 rfl).p 13 rfl) dX0_encode_27 ?_
  refine z_aload_n 3 dX0_encode_30 rfl rfl ?_
  refine z_iload_n 2 dX0_encode_31 rfl rfl ?_
  refine z_aload_n 0 dX0_encode_32 rfl rfl ?_
  refine z_getr fdX0_53_0 (Or.inr ⟨_, rfl⟩) ((hL.b 0 rfl).t 0 rfl) ((hL.b 0 rfl).p 3 rfl) dX0_encode_33 ?_
  refine z_aload_n 0 dX0_encode_36 rfl rfl ?_
  refine z_geti fdX0_267_0 ((hL.b 0 rfl).t 0 rfl) dX0_encode_37 ?_
  refine z_aload_n 0 dX0_encode_40 rfl rfl ?_
  obtain ⟨b_32, hb_32, hf⟩ := zb1_some hf
  refine z_getr fdX0_106_0 (Or.inl ⟨_, rfl⟩) ((hL.b 0 rfl).t 0 rfl) hb_32 dX0_encode_41 ?_
  obtain ⟨hK_33, hf⟩ := zck_some hf
  rcases zxv_some hf with ⟨h_36, hc_34, hf⟩ | ⟨e_37, h_38, hc_39, hf⟩
  rotate_left
  · have hct := ctX0_run_4 (l := F.1) hK_33 hc_39
    refine z_invVt suX0_302_0_4 hct ((hL.b 0 rfl).t 0 rfl) ⟨Nat.le_trans (by decide) hD, by decide⟩ rfl rfl (Nat.le_of_ble_eq_true rfl) dX0_encode_44 ?_
    have hL := hL.ext hct.1
    have hK_28 := hK_28.ext hct.1
    have hK_33 := hK_33.ext hct.1
    obtain ⟨ht_40, hf⟩ := zck_some hf
    refine zt_catch (q := (RX1, TX1, 7)) rfl (by decide) q129 rfl rfl ht_40 ?_
    refine z_astore_n dX0_encode_53 rfl (by decide) (lc' := [(0, .ref a), (1, .int x1), (2, .int x2), (3, .ref e_37)]) rfl ?_
    refine z_aload_n 0 dX0_encode_54 rfl rfl ?_
    refine z_aload_n 3 dX0_encode_55 rfl rfl ?_
    obtain ⟨hK_41, hf⟩ := zck_some hf
    refine z_geti fdX0_17_1 ((hK_41.b 0 rfl).t 0 rfl) dX0_encode_56 ?_
    obtain ⟨v_43, h_44, hc_42, hf⟩ := zb2_some hf
    have hct := ctX0_answer (l := F.1) hL hc_42
    refine z_invVi suX0_163_0 hct ((hL.b 0 rfl).t 0 rfl) ⟨Nat.le_trans (by decide) hD, by decide⟩ rfl rfl (Nat.le_of_ble_eq_true rfl) dX0_encode_59 ?_
    have hL := hL.ext hct.1
    have hK_28 := hK_28.ext hct.1
    have hK_33 := hK_33.ext hct.1
    have hK_41 := hK_41.ext hct.1
    cases hf
    exact z_iret dX0_encode_62 rfl hM
  have hct := ctX0_run_4 (l := F.1) hK_33 hc_34
  refine z_invVv suX0_302_0_4 hct ((hL.b 0 rfl).t 0 rfl) ⟨Nat.le_trans (by decide) hD, by decide⟩ rfl rfl (Nat.le_of_ble_eq_true rfl) dX0_encode_44 ?_
  have hL := hL.ext hct.1
  have hK_28 := hK_28.ext hct.1
  have hK_33 := hK_33.ext hct.1
  refine z_aload_n 0 dX0_encode_47 rfl rfl ?_
  refine z_iconst 2 dX0_encode_48 rfl ?_
  obtain ⟨v_46, h_47, hc_45, hf⟩ := zb2_some hf
  have hct := ctX0_becomes (l := F.1) hL hc_45
  refine z_invVi suX0_306_0 hct ((hL.b 0 rfl).t 0 rfl) ⟨Nat.le_trans (by decide) hD, by decide⟩ rfl rfl (Nat.le_of_ble_eq_true rfl) dX0_encode_49 ?_
  have hL := hL.ext hct.1
  have hK_28 := hK_28.ext hct.1
  have hK_33 := hK_33.ext hct.1
  cases hf
  exact z_iret dX0_encode_52 rfl hM
theorem ctX0_encode {l : Launch} {h : zH} {a : Nat} {x1 : Int32} {x2 : Int32} {v : Int32} {h' : zH} (hL : zXx h a) (hf : fX0_encode h a x1 x2 = some (v, h')) : zC l yX0_encode (wsW_ yX0_encode cX0_encode 4 (some .int) [(0, 52, 53, 18)]) 123 [.ref a, .int x1, .int x2] h (.inl (some (.int v)), h') :=
  z_startW (by decide) (Nat.le_of_ble_eq_true rfl) (zX0_encode (F := (l, 123, h, (.inl (some (.int v)), h'))) (Nat.le_refl _) hL hf rfl)
theorem fdX0_109_0 : zFd RX0 109 0 26 (.object "CodeExchange$Row") true := ⟨_, _, _, rfl, rfl, by decide, rfl, rfl, Or.inl q512, Or.inl rfl⟩
noncomputable def fX0_transcode_J51 (h : zH) (a : Nat) (x2 : Int32) (x4 : Int32) (x5 : Nat) (x6 : Nat) (k0 : Int32) : Option (Int32 × zH) := zxv (fX0_need h a k0 ((-1))) (fun h_54 => zck (zRw h_54 (a + 45) a) (zb1 (fX7_begin h_54 (a + 45) a 0) (fun h_66 => zck (zCt [(xB, xP, a), (dB, dP, a + 35)] [(a + 35, 11, a), (a + 35, 14, a)] h_66) (zxv (fX0_run_3 h_66 a (a + 35) x5 x2 (a + 25) (zI h_66 a 5) (a + 45)) (fun h_70 => zb1 (zP h_70 a 25) (fun b_79 => zck (zRw h_70 b_79 a) (zb1 (fX7_begin h_70 b_79 a 0) (fun h_83 => zb1 (zP h_83 a 25) (fun b_84 => zck (zCt [(xB, xP, a), (wB, wP, a + 38)] [(a + 38, 11, a), (a + 38, 15, a)] h_83) (zxv (fX0_run_4 h_83 a (a + 38) x6 x4 (a + 46) (zI h_83 (a + 45) 1) b_84) (fun h_88 => zb2 (fX0_becomes h_88 a 2) (fun v_98 h_99 => some ((v_98, h_99)))) (fun e_89 h_90 => zck (zT h_90 e_89 = (2, 0)) (zck (zOb 1 h_90 e_89) (zb2 (fX0_answer h_90 a (zI h_90 e_89 6)) (fun v_95 h_96 => some ((v_95, h_96)))))))))))) (fun e_71 h_72 => zck (zT h_72 e_71 = (2, 0)) (zck (zOb 1 h_72 e_71) (zb2 (fX0_answer h_72 a (zI h_72 e_71 6)) (fun v_77 h_78 => some ((v_77, h_78)))))))))) (fun e_55 h_56 => zck (zT h_56 e_55 = (2, 0)) (zck (zOb 1 h_56 e_55) (zb2 (fX0_answer h_56 a (zI h_56 e_55 6)) (fun v_61 h_62 => some ((v_61, h_62))))))
theorem zX0_transcode_J51 {F : zF} {h : zH} {a : Nat} {x2 : Int32} {x4 : Int32} {x5 : Nat} {x6 : Nat} {k0 : Int32} {y : Int32 × zH} (hD : 123 ≤ F.2.1) (hL : zXx h a) (hf : fX0_transcode_J51 h a x2 x4 x5 x6 k0 = some y) (hM : ((.inl (some (.int y.1)), y.2) : zX) = zEnd F) : Z F 7 cX0_transcode RX0 "transcode" (some .int) [(0, 129, 130, 18)] h 51 [(0, .ref a), (2, .int x2), (4, .int x4), (5, .ref x5), (6, .ref x6)] [.int k0, .ref a] := by
  unfold fX0_transcode_J51 at hf
  refine z_iconst (-1) dX0_transcode_51 rfl ?_
  rcases zxv_some hf with ⟨h_54, hc_52, hf⟩ | ⟨e_55, h_56, hc_57, hf⟩
  rotate_left
  · have hct := ctX0_need (l := F.1) hL hc_57
    refine z_invVt suX0_184_0 hct ((hL.b 0 rfl).t 0 rfl) ⟨Nat.le_trans (by decide) hD, by decide⟩ rfl rfl (Nat.le_of_ble_eq_true rfl) dX0_transcode_52 ?_
    have hL := hL.ext hct.1
    obtain ⟨ht_58, hf⟩ := zck_some hf
    refine zt_catch (q := (RX1, TX1, 7)) rfl (by decide) q129 rfl rfl ht_58 ?_
    refine z_astore dX0_transcode_130 (by decide) (lc' := [(0, .ref a), (2, .int x2), (4, .int x4), (5, .ref e_55), (6, .ref x6)]) rfl ?_
    refine z_aload_n 0 dX0_transcode_132 rfl rfl ?_
    refine z_aload 3 dX0_transcode_133 rfl ?_
    obtain ⟨hK_59, hf⟩ := zck_some hf
    refine z_geti fdX0_17_1 ((hK_59.b 0 rfl).t 0 rfl) dX0_transcode_135 ?_
    obtain ⟨v_61, h_62, hc_60, hf⟩ := zb2_some hf
    have hct := ctX0_answer (l := F.1) hL hc_60
    refine z_invVi suX0_163_0 hct ((hL.b 0 rfl).t 0 rfl) ⟨Nat.le_trans (by decide) hD, by decide⟩ rfl rfl (Nat.le_of_ble_eq_true rfl) dX0_transcode_138 ?_
    have hL := hL.ext hct.1
    have hK_59 := hK_59.ext hct.1
    cases hf
    exact z_iret dX0_transcode_141 rfl hM
  have hct := ctX0_need (l := F.1) hL hc_52
  refine z_invVv suX0_184_0 hct ((hL.b 0 rfl).t 0 rfl) ⟨Nat.le_trans (by decide) hD, by decide⟩ rfl rfl (Nat.le_of_ble_eq_true rfl) dX0_transcode_52 ?_
  have hL := hL.ext hct.1
  refine z_aload_n 0 dX0_transcode_55 rfl rfl ?_
  refine z_getr fdX0_109_0 (Or.inl ⟨_, rfl⟩) ((hL.b 0 rfl).t 0 rfl) ((hL.b 0 rfl).p 14 rfl) dX0_transcode_56 ?_
  refine z_iconst 0 dX0_transcode_59 rfl ?_
  obtain ⟨hK_63, hf⟩ := zck_some hf
  obtain ⟨h_66, hc_64, hf⟩ := zb1_some hf
  have hct := ctX7_begin (l := F.1) hK_63 hc_64
  refine z_invVv suX0_299_5 hct ((hL.b 0 rfl).t 45 rfl) ⟨Nat.le_trans (by decide) hD, by decide⟩ rfl rfl (Nat.le_of_ble_eq_true rfl) dX0_transcode_60 ?_
  have hL := hL.ext hct.1
  have hK_63 := hK_63.ext hct.1
  refine z_aload_n 0 dX0_transcode_63 rfl rfl ?_
  refine z_aload_n 0 dX0_transcode_64 rfl rfl ?_
  refine z_getr fdX0_90_0 (Or.inl ⟨_, rfl⟩) ((hL.b 0 rfl).t 0 rfl) ((hL.b 0 rfl).p 12 rfl) dX0_transcode_65 ?_
  refine z_aload 3 dX0_transcode_68 rfl ?_
  refine z_iload_n 1 dX0_transcode_70 rfl rfl ?_
  refine z_aload_n 0 dX0_transcode_71 rfl rfl ?_
  refine z_getr fdX0_49_0 (Or.inr ⟨_, rfl⟩) ((hL.b 0 rfl).t 0 rfl) ((hL.b 0 rfl).p 2 rfl) dX0_transcode_72 ?_
  refine z_aload_n 0 dX0_transcode_75 rfl rfl ?_
  refine z_geti fdX0_262_0 ((hL.b 0 rfl).t 0 rfl) dX0_transcode_76 ?_
  refine z_aload_n 0 dX0_transcode_79 rfl rfl ?_
  refine z_getr fdX0_109_0 (Or.inl ⟨_, rfl⟩) ((hL.b 0 rfl).t 0 rfl) ((hL.b 0 rfl).p 14 rfl) dX0_transcode_80 ?_
  obtain ⟨hK_67, hf⟩ := zck_some hf
  rcases zxv_some hf with ⟨h_70, hc_68, hf⟩ | ⟨e_71, h_72, hc_73, hf⟩
  rotate_left
  · have hct := ctX0_run_3 (l := F.1) hK_67 hc_73
    refine z_invVt suX0_302_0_3 hct ((hL.b 0 rfl).t 0 rfl) ⟨Nat.le_trans (by decide) hD, by decide⟩ rfl rfl (Nat.le_of_ble_eq_true rfl) dX0_transcode_83 ?_
    have hL := hL.ext hct.1
    have hK_63 := hK_63.ext hct.1
    have hK_67 := hK_67.ext hct.1
    obtain ⟨ht_74, hf⟩ := zck_some hf
    refine zt_catch (q := (RX1, TX1, 7)) rfl (by decide) q129 rfl rfl ht_74 ?_
    refine z_astore dX0_transcode_130 (by decide) (lc' := [(0, .ref a), (2, .int x2), (4, .int x4), (5, .ref e_71), (6, .ref x6)]) rfl ?_
    refine z_aload_n 0 dX0_transcode_132 rfl rfl ?_
    refine z_aload 3 dX0_transcode_133 rfl ?_
    obtain ⟨hK_75, hf⟩ := zck_some hf
    refine z_geti fdX0_17_1 ((hK_75.b 0 rfl).t 0 rfl) dX0_transcode_135 ?_
    obtain ⟨v_77, h_78, hc_76, hf⟩ := zb2_some hf
    have hct := ctX0_answer (l := F.1) hL hc_76
    refine z_invVi suX0_163_0 hct ((hL.b 0 rfl).t 0 rfl) ⟨Nat.le_trans (by decide) hD, by decide⟩ rfl rfl (Nat.le_of_ble_eq_true rfl) dX0_transcode_138 ?_
    have hL := hL.ext hct.1
    have hK_63 := hK_63.ext hct.1
    have hK_67 := hK_67.ext hct.1
    have hK_75 := hK_75.ext hct.1
    cases hf
    exact z_iret dX0_transcode_141 rfl hM
  have hct := ctX0_run_3 (l := F.1) hK_67 hc_68
  refine z_invVv suX0_302_0_3 hct ((hL.b 0 rfl).t 0 rfl) ⟨Nat.le_trans (by decide) hD, by decide⟩ rfl rfl (Nat.le_of_ble_eq_true rfl) dX0_transcode_83 ?_
  have hL := hL.ext hct.1
  have hK_63 := hK_63.ext hct.1
  have hK_67 := hK_67.ext hct.1
  refine z_aload_n 0 dX0_transcode_86 rfl rfl ?_
  obtain ⟨b_79, hb_79, hf⟩ := zb1_some hf
  refine z_getr fdX0_106_0 (Or.inl ⟨_, rfl⟩) ((hL.b 0 rfl).t 0 rfl) hb_79 dX0_transcode_87 ?_
  refine z_iconst 0 dX0_transcode_90 rfl ?_
  obtain ⟨hK_80, hf⟩ := zck_some hf
  obtain ⟨h_83, hc_81, hf⟩ := zb1_some hf
  have hct := ctX7_begin (l := F.1) hK_80 hc_81
  refine z_invVv suX0_299_5 hct ((hK_80.b 0 rfl).t 0 rfl) ⟨Nat.le_trans (by decide) hD, by decide⟩ rfl rfl (Nat.le_of_ble_eq_true rfl) dX0_transcode_91 ?_
  have hL := hL.ext hct.1
  have hK_63 := hK_63.ext hct.1
  have hK_67 := hK_67.ext hct.1
  have hK_80 := hK_80.ext hct.1
  refine z_aload_n 0 dX0_transcode_94 rfl rfl ?_
  refine z_aload_n 0 dX0_transcode_95 rfl rfl ?_
  refine z_getr fdX0_95_0 (Or.inl ⟨_, rfl⟩) ((hL.b 0 rfl).t 0 rfl) ((hL.b 0 rfl).p 13 rfl) dX0_transcode_96 ?_
  refine z_aload 4 dX0_transcode_99 rfl ?_
  refine z_iload 2 dX0_transcode_101 rfl ?_
  refine z_aload_n 0 dX0_transcode_103 rfl rfl ?_
  refine z_getr fdX0_109_0 (Or.inl ⟨_, rfl⟩) ((hL.b 0 rfl).t 0 rfl) ((hL.b 0 rfl).p 14 rfl) dX0_transcode_104 ?_
  refine z_getr fdX0_278_5 (Or.inr ⟨_, rfl⟩) ((hL.b 0 rfl).t 45 rfl) ((hL.b 0 rfl).p 74 rfl) dX0_transcode_107 ?_
  refine z_aload_n 0 dX0_transcode_110 rfl rfl ?_
  refine z_getr fdX0_109_0 (Or.inl ⟨_, rfl⟩) ((hL.b 0 rfl).t 0 rfl) ((hL.b 0 rfl).p 14 rfl) dX0_transcode_111 ?_
  refine z_geti fdX0_275_5 ((hL.b 0 rfl).t 45 rfl) dX0_transcode_114 ?_
  refine z_aload_n 0 dX0_transcode_117 rfl rfl ?_
  obtain ⟨b_84, hb_84, hf⟩ := zb1_some hf
  refine z_getr fdX0_106_0 (Or.inl ⟨_, rfl⟩) ((hL.b 0 rfl).t 0 rfl) hb_84 dX0_transcode_118 ?_
  obtain ⟨hK_85, hf⟩ := zck_some hf
  rcases zxv_some hf with ⟨h_88, hc_86, hf⟩ | ⟨e_89, h_90, hc_91, hf⟩
  rotate_left
  · have hct := ctX0_run_4 (l := F.1) hK_85 hc_91
    refine z_invVt suX0_302_0_4 hct ((hL.b 0 rfl).t 0 rfl) ⟨Nat.le_trans (by decide) hD, by decide⟩ rfl rfl (Nat.le_of_ble_eq_true rfl) dX0_transcode_121 ?_
    have hL := hL.ext hct.1
    have hK_63 := hK_63.ext hct.1
    have hK_67 := hK_67.ext hct.1
    have hK_80 := hK_80.ext hct.1
    have hK_85 := hK_85.ext hct.1
    obtain ⟨ht_92, hf⟩ := zck_some hf
    refine zt_catch (q := (RX1, TX1, 7)) rfl (by decide) q129 rfl rfl ht_92 ?_
    refine z_astore dX0_transcode_130 (by decide) (lc' := [(0, .ref a), (2, .int x2), (4, .int x4), (5, .ref e_89), (6, .ref x6)]) rfl ?_
    refine z_aload_n 0 dX0_transcode_132 rfl rfl ?_
    refine z_aload 3 dX0_transcode_133 rfl ?_
    obtain ⟨hK_93, hf⟩ := zck_some hf
    refine z_geti fdX0_17_1 ((hK_93.b 0 rfl).t 0 rfl) dX0_transcode_135 ?_
    obtain ⟨v_95, h_96, hc_94, hf⟩ := zb2_some hf
    have hct := ctX0_answer (l := F.1) hL hc_94
    refine z_invVi suX0_163_0 hct ((hL.b 0 rfl).t 0 rfl) ⟨Nat.le_trans (by decide) hD, by decide⟩ rfl rfl (Nat.le_of_ble_eq_true rfl) dX0_transcode_138 ?_
    have hL := hL.ext hct.1
    have hK_63 := hK_63.ext hct.1
    have hK_67 := hK_67.ext hct.1
    have hK_80 := hK_80.ext hct.1
    have hK_85 := hK_85.ext hct.1
    have hK_93 := hK_93.ext hct.1
    cases hf
    exact z_iret dX0_transcode_141 rfl hM
  have hct := ctX0_run_4 (l := F.1) hK_85 hc_86
  refine z_invVv suX0_302_0_4 hct ((hL.b 0 rfl).t 0 rfl) ⟨Nat.le_trans (by decide) hD, by decide⟩ rfl rfl (Nat.le_of_ble_eq_true rfl) dX0_transcode_121 ?_
  have hL := hL.ext hct.1
  have hK_63 := hK_63.ext hct.1
  have hK_67 := hK_67.ext hct.1
  have hK_80 := hK_80.ext hct.1
  have hK_85 := hK_85.ext hct.1
  refine z_aload_n 0 dX0_transcode_124 rfl rfl ?_
  refine z_iconst 2 dX0_transcode_125 rfl ?_
  obtain ⟨v_98, h_99, hc_97, hf⟩ := zb2_some hf
  have hct := ctX0_becomes (l := F.1) hL hc_97
  refine z_invVi suX0_306_0 hct ((hL.b 0 rfl).t 0 rfl) ⟨Nat.le_trans (by decide) hD, by decide⟩ rfl rfl (Nat.le_of_ble_eq_true rfl) dX0_transcode_126 ?_
  have hL := hL.ext hct.1
  have hK_63 := hK_63.ext hct.1
  have hK_67 := hK_67.ext hct.1
  have hK_80 := hK_80.ext hct.1
  have hK_85 := hK_85.ext hct.1
  cases hf
  exact z_iret dX0_transcode_129 rfl hM
noncomputable def fX0_transcode_J50 (h : zH) (a : Nat) (x2 : Int32) (x4 : Int32) (x5 : Nat) (x6 : Nat) : Option (Int32 × zH) := fX0_transcode_J51 h a x2 x4 x5 x6 0
theorem zX0_transcode_J50 {F : zF} {h : zH} {a : Nat} {x2 : Int32} {x4 : Int32} {x5 : Nat} {x6 : Nat} {y : Int32 × zH} (hD : 123 ≤ F.2.1) (hL : zXx h a) (hf : fX0_transcode_J50 h a x2 x4 x5 x6 = some y) (hM : ((.inl (some (.int y.1)), y.2) : zX) = zEnd F) : Z F 7 cX0_transcode RX0 "transcode" (some .int) [(0, 129, 130, 18)] h 50 [(0, .ref a), (2, .int x2), (4, .int x4), (5, .ref x5), (6, .ref x6)] [.ref a] := by
  unfold fX0_transcode_J50 at hf
  refine z_iconst 0 dX0_transcode_50 rfl ?_
  exact zX0_transcode_J51 hD hL hf hM
noncomputable def fX0_transcode (h : zH) (a : Nat) (x1 : Int32) (x2 : Int32) (x3 : Int32) (x4 : Int32) : Option (Int32 × zH) := zxr (fX0_pageAt h a x1) (fun v_2 h_3 => zb1 v_2 (fun b_12 => zxr (fX0_pageAt h_3 a x3) (fun v_14 h_15 => zb1 v_14 (fun b_24 => zxr (fX0_closedAt h_15 a x1) (fun v_26 h_27 => zb1 v_26 (fun b_36 => zxr (fX0_closedAt h_27 a x3) (fun v_38 h_39 => zb1 v_38 (fun b_48 => zb1 (fX0_in x2 0 3) (fun v_50 => if v_50 = 0 then (fX0_transcode_J50 h_39 a x2 x4 b_36 b_48) else (zb1 (fX0_in x4 0 4) (fun v_101 => if v_101 = 0 then (fX0_transcode_J50 h_39 a x2 x4 b_36 b_48) else (fX0_transcode_J51 h_39 a x2 x4 b_36 b_48 1)))))) (fun e_40 h_41 => zck (zT h_41 e_40 = (2, 0)) (zck (zOb 1 h_41 e_40) (zb2 (fX0_answer h_41 a (zI h_41 e_40 6)) (fun v_46 h_47 => some ((v_46, h_47)))))))) (fun e_28 h_29 => zck (zT h_29 e_28 = (2, 0)) (zck (zOb 1 h_29 e_28) (zb2 (fX0_answer h_29 a (zI h_29 e_28 6)) (fun v_34 h_35 => some ((v_34, h_35)))))))) (fun e_16 h_17 => zck (zT h_17 e_16 = (2, 0)) (zck (zOb 1 h_17 e_16) (zb2 (fX0_answer h_17 a (zI h_17 e_16 6)) (fun v_22 h_23 => some ((v_22, h_23)))))))) (fun e_4 h_5 => zck (zT h_5 e_4 = (2, 0)) (zck (zOb 1 h_5 e_4) (zb2 (fX0_answer h_5 a (zI h_5 e_4 6)) (fun v_10 h_11 => some ((v_10, h_11))))))
theorem zX0_transcode {F : zF} {h : zH} {a : Nat} {x1 : Int32} {x2 : Int32} {x3 : Int32} {x4 : Int32} {y : Int32 × zH} (hD : 123 ≤ F.2.1) (hL : zXx h a) (hf : fX0_transcode h a x1 x2 x3 x4 = some y) (hM : ((.inl (some (.int y.1)), y.2) : zX) = zEnd F) : Z F 7 cX0_transcode RX0 "transcode" (some .int) [(0, 129, 130, 18)] h 0 [(0, .ref a), (1, .int x1), (2, .int x2), (3, .int x3), (4, .int x4)] [] := by
  unfold fX0_transcode at hf
  refine z_aload_n 0 dX0_transcode_0 rfl rfl ?_
  refine z_iload_n 1 dX0_transcode_1 rfl rfl ?_
  rcases zxr_some hf with ⟨v_2, h_3, hc_1, hf⟩ | ⟨e_4, h_5, hc_6, hf⟩
  rotate_left
  · have hct := ctX0_pageAt (l := F.1) hL hc_6
    refine z_invVt suX0_152_0 hct ((hL.b 0 rfl).t 0 rfl) ⟨Nat.le_trans (by decide) hD, by decide⟩ rfl rfl (Nat.le_of_ble_eq_true rfl) dX0_transcode_2 ?_
    have hL := hL.ext hct.1
    obtain ⟨ht_7, hf⟩ := zck_some hf
    refine zt_catch (q := (RX1, TX1, 7)) rfl (by decide) q129 rfl rfl ht_7 ?_
    refine z_astore dX0_transcode_130 (by decide) (lc' := [(0, .ref a), (1, .int x1), (2, .int x2), (3, .int x3), (4, .int x4), (5, .ref e_4)]) rfl ?_
    refine z_aload_n 0 dX0_transcode_132 rfl rfl ?_
    refine z_aload 5 dX0_transcode_133 rfl ?_
    obtain ⟨hK_8, hf⟩ := zck_some hf
    refine z_geti fdX0_17_1 ((hK_8.b 0 rfl).t 0 rfl) dX0_transcode_135 ?_
    obtain ⟨v_10, h_11, hc_9, hf⟩ := zb2_some hf
    have hct := ctX0_answer (l := F.1) hL hc_9
    refine z_invVi suX0_163_0 hct ((hL.b 0 rfl).t 0 rfl) ⟨Nat.le_trans (by decide) hD, by decide⟩ rfl rfl (Nat.le_of_ble_eq_true rfl) dX0_transcode_138 ?_
    have hL := hL.ext hct.1
    have hK_8 := hK_8.ext hct.1
    cases hf
    exact z_iret dX0_transcode_141 rfl hM
  have hct := ctX0_pageAt (l := F.1) hL hc_1
  refine z_invVq suX0_152_0 hct ((hL.b 0 rfl).t 0 rfl) ⟨Nat.le_trans (by decide) hD, by decide⟩ rfl rfl (Nat.le_of_ble_eq_true rfl) dX0_transcode_2 ?_
  have hL := hL.ext hct.1
  obtain ⟨b_12, e9, hf9⟩ := zb1_some hf
  subst e9
  have hf := hf9
  refine z_pop dX0_transcode_5 rfl ?_
  refine z_aload_n 0 dX0_transcode_6 rfl rfl ?_
  refine z_iload_n 3 dX0_transcode_7 rfl rfl ?_
  rcases zxr_some hf with ⟨v_14, h_15, hc_13, hf⟩ | ⟨e_16, h_17, hc_18, hf⟩
  rotate_left
  · have hct := ctX0_pageAt (l := F.1) hL hc_18
    refine z_invVt suX0_152_0 hct ((hL.b 0 rfl).t 0 rfl) ⟨Nat.le_trans (by decide) hD, by decide⟩ rfl rfl (Nat.le_of_ble_eq_true rfl) dX0_transcode_8 ?_
    have hL := hL.ext hct.1
    obtain ⟨ht_19, hf⟩ := zck_some hf
    refine zt_catch (q := (RX1, TX1, 7)) rfl (by decide) q129 rfl rfl ht_19 ?_
    refine z_astore dX0_transcode_130 (by decide) (lc' := [(0, .ref a), (1, .int x1), (2, .int x2), (3, .int x3), (4, .int x4), (5, .ref e_16)]) rfl ?_
    refine z_aload_n 0 dX0_transcode_132 rfl rfl ?_
    refine z_aload 5 dX0_transcode_133 rfl ?_
    obtain ⟨hK_20, hf⟩ := zck_some hf
    refine z_geti fdX0_17_1 ((hK_20.b 0 rfl).t 0 rfl) dX0_transcode_135 ?_
    obtain ⟨v_22, h_23, hc_21, hf⟩ := zb2_some hf
    have hct := ctX0_answer (l := F.1) hL hc_21
    refine z_invVi suX0_163_0 hct ((hL.b 0 rfl).t 0 rfl) ⟨Nat.le_trans (by decide) hD, by decide⟩ rfl rfl (Nat.le_of_ble_eq_true rfl) dX0_transcode_138 ?_
    have hL := hL.ext hct.1
    have hK_20 := hK_20.ext hct.1
    cases hf
    exact z_iret dX0_transcode_141 rfl hM
  have hct := ctX0_pageAt (l := F.1) hL hc_13
  refine z_invVq suX0_152_0 hct ((hL.b 0 rfl).t 0 rfl) ⟨Nat.le_trans (by decide) hD, by decide⟩ rfl rfl (Nat.le_of_ble_eq_true rfl) dX0_transcode_8 ?_
  have hL := hL.ext hct.1
  obtain ⟨b_24, e9, hf9⟩ := zb1_some hf
  subst e9
  have hf := hf9
  refine z_pop dX0_transcode_11 rfl ?_
  refine z_aload_n 0 dX0_transcode_12 rfl rfl ?_
  refine z_iload_n 1 dX0_transcode_13 rfl rfl ?_
  rcases zxr_some hf with ⟨v_26, h_27, hc_25, hf⟩ | ⟨e_28, h_29, hc_30, hf⟩
  rotate_left
  · have hct := ctX0_closedAt (l := F.1) hL hc_30
    refine z_invVt suX0_255_0 hct ((hL.b 0 rfl).t 0 rfl) ⟨Nat.le_trans (by decide) hD, by decide⟩ rfl rfl (Nat.le_of_ble_eq_true rfl) dX0_transcode_14 ?_
    have hL := hL.ext hct.1
    obtain ⟨ht_31, hf⟩ := zck_some hf
    refine zt_catch (q := (RX1, TX1, 7)) rfl (by decide) q129 rfl rfl ht_31 ?_
    refine z_astore dX0_transcode_130 (by decide) (lc' := [(0, .ref a), (1, .int x1), (2, .int x2), (3, .int x3), (4, .int x4), (5, .ref e_28)]) rfl ?_
    refine z_aload_n 0 dX0_transcode_132 rfl rfl ?_
    refine z_aload 5 dX0_transcode_133 rfl ?_
    obtain ⟨hK_32, hf⟩ := zck_some hf
    refine z_geti fdX0_17_1 ((hK_32.b 0 rfl).t 0 rfl) dX0_transcode_135 ?_
    obtain ⟨v_34, h_35, hc_33, hf⟩ := zb2_some hf
    have hct := ctX0_answer (l := F.1) hL hc_33
    refine z_invVi suX0_163_0 hct ((hL.b 0 rfl).t 0 rfl) ⟨Nat.le_trans (by decide) hD, by decide⟩ rfl rfl (Nat.le_of_ble_eq_true rfl) dX0_transcode_138 ?_
    have hL := hL.ext hct.1
    have hK_32 := hK_32.ext hct.1
    cases hf
    exact z_iret dX0_transcode_141 rfl hM
  have hct := ctX0_closedAt (l := F.1) hL hc_25
  refine z_invVq suX0_255_0 hct ((hL.b 0 rfl).t 0 rfl) ⟨Nat.le_trans (by decide) hD, by decide⟩ rfl rfl (Nat.le_of_ble_eq_true rfl) dX0_transcode_14 ?_
  have hL := hL.ext hct.1
  obtain ⟨b_36, e9, hf9⟩ := zb1_some hf
  subst e9
  have hf := hf9
  refine z_astore dX0_transcode_17 (by decide) (lc' := [(0, .ref a), (1, .int x1), (2, .int x2), (3, .int x3), (4, .int x4), (5, .ref b_36)]) rfl ?_
  refine z_aload_n 0 dX0_transcode_19 rfl rfl ?_
  refine z_iload_n 3 dX0_transcode_20 rfl rfl ?_
  rcases zxr_some hf with ⟨v_38, h_39, hc_37, hf⟩ | ⟨e_40, h_41, hc_42, hf⟩
  rotate_left
  · have hct := ctX0_closedAt (l := F.1) hL hc_42
    refine z_invVt suX0_255_0 hct ((hL.b 0 rfl).t 0 rfl) ⟨Nat.le_trans (by decide) hD, by decide⟩ rfl rfl (Nat.le_of_ble_eq_true rfl) dX0_transcode_21 ?_
    have hL := hL.ext hct.1
    obtain ⟨ht_43, hf⟩ := zck_some hf
    refine zt_catch (q := (RX1, TX1, 7)) rfl (by decide) q129 rfl rfl ht_43 ?_
    refine z_astore dX0_transcode_130 (by decide) (lc' := [(0, .ref a), (1, .int x1), (2, .int x2), (3, .int x3), (4, .int x4), (5, .ref e_40)]) rfl ?_
    refine z_aload_n 0 dX0_transcode_132 rfl rfl ?_
    refine z_aload 5 dX0_transcode_133 rfl ?_
    obtain ⟨hK_44, hf⟩ := zck_some hf
    refine z_geti fdX0_17_1 ((hK_44.b 0 rfl).t 0 rfl) dX0_transcode_135 ?_
    obtain ⟨v_46, h_47, hc_45, hf⟩ := zb2_some hf
    have hct := ctX0_answer (l := F.1) hL hc_45
    refine z_invVi suX0_163_0 hct ((hL.b 0 rfl).t 0 rfl) ⟨Nat.le_trans (by decide) hD, by decide⟩ rfl rfl (Nat.le_of_ble_eq_true rfl) dX0_transcode_138 ?_
    have hL := hL.ext hct.1
    have hK_44 := hK_44.ext hct.1
    cases hf
    exact z_iret dX0_transcode_141 rfl hM
  have hct := ctX0_closedAt (l := F.1) hL hc_37
  refine z_invVq suX0_255_0 hct ((hL.b 0 rfl).t 0 rfl) ⟨Nat.le_trans (by decide) hD, by decide⟩ rfl rfl (Nat.le_of_ble_eq_true rfl) dX0_transcode_21 ?_
  have hL := hL.ext hct.1
  obtain ⟨b_48, e9, hf9⟩ := zb1_some hf
  subst e9
  have hf := hf9
  refine z_astore dX0_transcode_24 (by decide) (lc' := [(0, .ref a), (1, .int x1), (2, .int x2), (3, .int x3), (4, .int x4), (5, .ref b_36), (6, .ref b_48)]) rfl ?_
  refine z_aload_n 0 dX0_transcode_26 rfl rfl ?_
  refine z_iload_n 2 dX0_transcode_27 rfl rfl ?_
  refine z_iconst 0 dX0_transcode_28 rfl ?_
  refine z_iconst 3 dX0_transcode_29 rfl ?_
  obtain ⟨v_50, hc_49, hf⟩ := zb1_some hf
  refine z_invSi suX0_4_s (ctX0_in hc_49) ⟨Nat.le_trans (by decide) hD, by decide⟩ rfl rfl (Nat.le_of_ble_eq_true rfl) dX0_transcode_30 ?_
  refine z_if_eq 50 dX0_transcode_33 rfl hf (fun _ hf => ?_) (fun _ hf => ?_)
  · refine z_sub [0, 2, 4, 5, 6] rfl ?_
    exact zX0_transcode_J50 hD hL hf hM
  · refine z_iload 4 dX0_transcode_36 rfl ?_
    refine z_iconst 0 dX0_transcode_38 rfl ?_
    refine z_iconst 4 dX0_transcode_39 rfl ?_
    obtain ⟨v_101, hc_100, hf⟩ := zb1_some hf
    refine z_invSi suX0_4_s (ctX0_in hc_100) ⟨Nat.le_trans (by decide) hD, by decide⟩ rfl rfl (Nat.le_of_ble_eq_true rfl) dX0_transcode_40 ?_
    refine z_if_eq 50 dX0_transcode_43 rfl hf (fun _ hf => ?_) (fun _ hf => ?_)
    · refine z_sub [0, 2, 4, 5, 6] rfl ?_
      exact zX0_transcode_J50 hD hL hf hM
    · refine z_iconst 1 dX0_transcode_46 rfl ?_
      refine z_goto 51 dX0_transcode_47 rfl ?_
      refine z_sub [0, 2, 4, 5, 6] rfl ?_
      exact zX0_transcode_J51 hD hL hf hM
theorem ctX0_transcode {l : Launch} {h : zH} {a : Nat} {x1 : Int32} {x2 : Int32} {x3 : Int32} {x4 : Int32} {v : Int32} {h' : zH} (hL : zXx h a) (hf : fX0_transcode h a x1 x2 x3 x4 = some (v, h')) : zC l yX0_transcode (wsW_ yX0_transcode cX0_transcode 7 (some .int) [(0, 129, 130, 18)]) 123 [.ref a, .int x1, .int x2, .int x3, .int x4] h (.inl (some (.int v)), h') :=
  z_startW (by decide) (Nat.le_of_ble_eq_true rfl) (zX0_transcode (F := (l, 123, h, (.inl (some (.int v)), h'))) (Nat.le_refl _) hL hf rfl)
noncomputable def fX0_result (h : zH) (a : Nat) (x1 : Int32) : Option (Int32 × zH) := if (zI h a 27) ≤ 0 then (zb2 (fX0_answer h a ((-2))) (fun v_2 h_3 => some ((v_2, h_3)))) else (zb1 (zP h a 24) (fun b_4 => zck (zOb 5 h b_4) (zb1 (fX0_in x1 0 ((zI h b_4 1) - 1)) (fun v_7 => if v_7 = 0 then (zb2 (fX0_answer h a ((-2))) (fun v_10 h_11 => some ((v_10, h_11)))) else (zb1 (zP h a 24) (fun b_12 => zck (zOb 5 h b_12) (zb1 (zP h b_12 0) (fun b_14 => zck (zAr h b_14 x1) (some ((zI h b_14 x1.toNatClampNeg, h)))))))))))
theorem zX0_result {F : zF} {h : zH} {a : Nat} {x1 : Int32} {y : Int32 × zH} (hD : 2 ≤ F.2.1) (hL : zXx h a) (hf : fX0_result h a x1 = some y) (hM : ((.inl (some (.int y.1)), y.2) : zX) = zEnd F) : Z F 2 cX0_result RX0 "result" (some .int) [] h 0 [(0, .ref a), (1, .int x1)] [] := by
  unfold fX0_result at hf
  refine z_aload_n 0 dX0_result_0 rfl rfl ?_
  refine z_geti fdX0_272_0 ((hL.b 0 rfl).t 0 rfl) dX0_result_1 ?_
  refine z_if_le 36 dX0_result_4 rfl hf (fun _ hf => ?_) (fun _ hf => ?_)
  · refine z_aload_n 0 dX0_result_36 rfl rfl ?_
    refine z_bipush (-2) dX0_result_37 rfl ?_
    obtain ⟨v_2, h_3, hc_1, hf⟩ := zb2_some hf
    have hct := ctX0_answer (l := F.1) hL hc_1
    refine z_invVi suX0_163_0 hct ((hL.b 0 rfl).t 0 rfl) ⟨Nat.le_trans (by decide) hD, by decide⟩ rfl rfl (Nat.le_of_ble_eq_true rfl) dX0_result_39 ?_
    have hL := hL.ext hct.1
    cases hf
    exact z_iret dX0_result_42 rfl hM
  · refine z_iload_n 1 dX0_result_7 rfl rfl ?_
    refine z_iconst 0 dX0_result_8 rfl ?_
    refine z_aload_n 0 dX0_result_9 rfl rfl ?_
    obtain ⟨b_4, hb_4, hf⟩ := zb1_some hf
    refine z_getr fdX0_102_0 (Or.inl ⟨_, rfl⟩) ((hL.b 0 rfl).t 0 rfl) hb_4 dX0_result_10 ?_
    obtain ⟨hK_5, hf⟩ := zck_some hf
    refine z_geti fdX0_275_5 ((hK_5.b 0 rfl).t 0 rfl) dX0_result_13 ?_
    refine z_iconst 1 dX0_result_16 rfl ?_
    refine z_isub dX0_result_17 ?_
    obtain ⟨v_7, hc_6, hf⟩ := zb1_some hf
    refine z_invSi suX0_4_s (ctX0_in hc_6) ⟨Nat.le_trans (by decide) hD, by decide⟩ rfl rfl (Nat.le_of_ble_eq_true rfl) dX0_result_18 ?_
    refine z_if_eq 36 dX0_result_21 rfl hf (fun _ hf => ?_) (fun _ hf => ?_)
    · refine z_aload_n 0 dX0_result_36 rfl rfl ?_
      refine z_bipush (-2) dX0_result_37 rfl ?_
      obtain ⟨v_10, h_11, hc_9, hf⟩ := zb2_some hf
      have hct := ctX0_answer (l := F.1) hL hc_9
      refine z_invVi suX0_163_0 hct ((hL.b 0 rfl).t 0 rfl) ⟨Nat.le_trans (by decide) hD, by decide⟩ rfl rfl (Nat.le_of_ble_eq_true rfl) dX0_result_39 ?_
      have hL := hL.ext hct.1
      have hK_5 := hK_5.ext hct.1
      cases hf
      exact z_iret dX0_result_42 rfl hM
    · refine z_aload_n 0 dX0_result_24 rfl rfl ?_
      obtain ⟨b_12, hb_12, hf⟩ := zb1_some hf
      refine z_getr fdX0_102_0 (Or.inl ⟨_, rfl⟩) ((hL.b 0 rfl).t 0 rfl) hb_12 dX0_result_25 ?_
      obtain ⟨hK_13, hf⟩ := zck_some hf
      obtain ⟨b_14, hb_14, hf⟩ := zb1_some hf
      refine z_getr fdX0_278_5 (Or.inr ⟨_, rfl⟩) ((hK_13.b 0 rfl).t 0 rfl) hb_14 dX0_result_28 ?_
      refine z_iload_n 1 dX0_result_31 rfl rfl ?_
      obtain ⟨hi_15, hf⟩ := zck_some hf
      refine z_iald (zAr_t hi_15) hi_15.2 dX0_result_32 ?_
      refine z_goto 42 dX0_result_33 rfl ?_
      cases hf
      exact z_iret dX0_result_42 rfl hM
theorem ctX0_result {l : Launch} {h : zH} {a : Nat} {x1 : Int32} {v : Int32} {h' : zH} (hL : zXx h a) (hf : fX0_result h a x1 = some (v, h')) : zC l yX0_result (ws_ yX0_result cX0_result 2 (some .int)) 2 [.ref a, .int x1] h (.inl (some (.int v)), h') :=
  z_start (by decide) (Nat.le_of_ble_eq_true rfl) (zX0_result (F := (l, 2, h, (.inl (some (.int v)), h'))) (Nat.le_refl _) hL hf rfl)
theorem fdX0_57_0 : zFd RX0 57 0 8 (.array .int) true := ⟨_, _, _, rfl, rfl, by decide, rfl, rfl, Or.inl q491, Or.inl rfl⟩
noncomputable def fX0_sign (h : zH) (a : Nat) (x1 : Int32) (x2 : Int32) : Option (Int32 × zH) := zb1 (fX0_in x1 0 1) (fun v_2 => if v_2 = 0 then (zb2 (fX0_answer h a ((-1))) (fun v_5 h_6 => some ((v_5, h_6)))) else (zb1 (fX0_isPoint x2) (fun v_8 => if v_8 = 0 then (zb2 (fX0_answer h a ((-1))) (fun v_14 h_15 => some ((v_14, h_15)))) else (zck (vp_in x1 2) (zck (vp_in x1 2) (zlet (zsI h (a + 27) x1.toNatClampNeg x2) (fun h_12 => some ((zI h (a + 27) x1.toNatClampNeg, h_12)))))))))
theorem zX0_sign {F : zF} {h : zH} {a : Nat} {x1 : Int32} {x2 : Int32} {y : Int32 × zH} (hD : 3 ≤ F.2.1) (hL : zXx h a) (hf : fX0_sign h a x1 x2 = some y) (hM : ((.inl (some (.int y.1)), y.2) : zX) = zEnd F) : Z F 4 cX0_sign RX0 "sign" (some .int) [] h 0 [(0, .ref a), (1, .int x1), (2, .int x2)] [] := by
  unfold fX0_sign at hf
  refine z_iload_n 1 dX0_sign_0 rfl rfl ?_
  refine z_iconst 0 dX0_sign_1 rfl ?_
  refine z_iconst 1 dX0_sign_2 rfl ?_
  obtain ⟨v_2, hc_1, hf⟩ := zb1_some hf
  refine z_invSi suX0_4_s (ctX0_in hc_1) ⟨Nat.le_trans (by decide) hD, by decide⟩ rfl rfl (Nat.le_of_ble_eq_true rfl) dX0_sign_3 ?_
  refine z_if_eq 16 dX0_sign_6 rfl hf (fun _ hf => ?_) (fun _ hf => ?_)
  · refine z_aload_n 0 dX0_sign_16 rfl rfl ?_
    refine z_iconst (-1) dX0_sign_17 rfl ?_
    obtain ⟨v_5, h_6, hc_4, hf⟩ := zb2_some hf
    have hct := ctX0_answer (l := F.1) hL hc_4
    refine z_invVi suX0_163_0 hct ((hL.b 0 rfl).t 0 rfl) ⟨Nat.le_trans (by decide) hD, by decide⟩ rfl rfl (Nat.le_of_ble_eq_true rfl) dX0_sign_18 ?_
    have hL := hL.ext hct.1
    cases hf
    exact z_iret dX0_sign_21 rfl hM
  · refine z_iload_n 2 dX0_sign_9 rfl rfl ?_
    obtain ⟨v_8, hc_7, hf⟩ := zb1_some hf
    refine z_invSi suX0_195_s (ctX0_isPoint hc_7) ⟨Nat.le_trans (by decide) hD, by decide⟩ rfl rfl (Nat.le_of_ble_eq_true rfl) dX0_sign_10 ?_
    refine z_if_ne 22 dX0_sign_13 rfl hf (fun _ hf => ?_) (fun _ hf => ?_)
    · refine z_aload_n 0 dX0_sign_22 rfl rfl ?_
      refine z_getr fdX0_57_0 (Or.inr ⟨_, rfl⟩) ((hL.b 0 rfl).t 0 rfl) ((hL.b 0 rfl).p 4 rfl) dX0_sign_23 ?_
      refine z_iload_n 1 dX0_sign_26 rfl rfl ?_
      obtain ⟨hi_10, hf⟩ := zck_some hf
      refine z_iald ((hL.b 0 rfl).t 27 rfl) hi_10 dX0_sign_27 ?_
      refine z_istore_n dX0_sign_28 rfl (by decide) (lc' := [(0, .ref a), (1, .int x1), (2, .int x2), (3, .int (zI h (a + 27) x1.toNatClampNeg))]) rfl ?_
      refine z_aload_n 0 dX0_sign_29 rfl rfl ?_
      refine z_getr fdX0_57_0 (Or.inr ⟨_, rfl⟩) ((hL.b 0 rfl).t 0 rfl) ((hL.b 0 rfl).p 4 rfl) dX0_sign_30 ?_
      refine z_iload_n 1 dX0_sign_33 rfl rfl ?_
      refine z_iload_n 2 dX0_sign_34 rfl rfl ?_
      obtain ⟨hi_11, hf⟩ := zck_some hf
      obtain ⟨h_12, he, hf⟩ := zlet_some hf
      refine z_iast ((hL.b 0 rfl).t 27 rfl) ((hL.b 0 rfl).nz 27) hi_11 he dX0_sign_35 ?_
      have hL := hL.I he
      refine z_iload_n 3 dX0_sign_36 rfl rfl ?_
      cases hf
      exact z_iret dX0_sign_37 rfl hM
    · refine z_aload_n 0 dX0_sign_16 rfl rfl ?_
      refine z_iconst (-1) dX0_sign_17 rfl ?_
      obtain ⟨v_14, h_15, hc_13, hf⟩ := zb2_some hf
      have hct := ctX0_answer (l := F.1) hL hc_13
      refine z_invVi suX0_163_0 hct ((hL.b 0 rfl).t 0 rfl) ⟨Nat.le_trans (by decide) hD, by decide⟩ rfl rfl (Nat.le_of_ble_eq_true rfl) dX0_sign_18 ?_
      have hL := hL.ext hct.1
      cases hf
      exact z_iret dX0_sign_21 rfl hM
theorem ctX0_sign {l : Launch} {h : zH} {a : Nat} {x1 : Int32} {x2 : Int32} {v : Int32} {h' : zH} (hL : zXx h a) (hf : fX0_sign h a x1 x2 = some (v, h')) : zC l yX0_sign (ws_ yX0_sign cX0_sign 4 (some .int)) 3 [.ref a, .int x1, .int x2] h (.inl (some (.int v)), h') :=
  z_start (by decide) (Nat.le_of_ble_eq_true rfl) (zX0_sign (F := (l, 3, h, (.inl (some (.int v)), h'))) (Nat.le_refl _) hL hf rfl)
theorem suX0_320_s : zIs RX0 320 yX0_isHigh (ws_ yX0_isHigh cX0_isHigh 1 (some .boolean)) 1 1 := ⟨(zGood_c q1020 q97), (Or.inl q1208), q1019, ⟨by decide, by decide⟩, by decide +kernel⟩
theorem fdX0_66_0 : zFd RX0 66 0 12 (.array .int) true := ⟨_, _, _, rfl, rfl, by decide, rfl, rfl, Or.inl q497, Or.inl rfl⟩
noncomputable def fX0_takeText_J66 (h : zH) (a : Nat) (x1 : Int32) (x2 : Int32) (x3 : Int32) : Option ((zH × Int32 × Int32) ⊕ ((Int32 × zH))) := zb1 (fX0_isPoint x3) (fun v_6 => if v_6 = 0 then (some (.inr (((-1), h)))) else (if x1 = 4 then (some (.inr (((-1), h)))) else (zck (vp_in ((160 : Int32) + x1) 164) (zlet (zsI h (a + 30) ((160 : Int32) + x1).toNatClampNeg x3) (fun h_9 => some (.inl ((h_9, x1 + 1, x2 + 1))))))))
theorem zX0_takeText_J66 {F : zF} {h : zH} {a : Nat} {x1 : Int32} {x2 : Int32} {x3 : Int32} {y : (zH × Int32 × Int32) ⊕ ((Int32 × zH))} (hD : 3 ≤ F.2.1) (hL : zXx h a) (hf : fX0_takeText_J66 h a x1 x2 x3 = some y) (hM : ((∀ s' : zH × Int32 × Int32, y = .inl s' → (zXx s'.1 a → Z F 4 cX0_takeText RX0 "takeText" (some .int) [] s'.1 4 [(0, .ref a), (1, .int s'.2.1), (2, .int s'.2.2)] [])) ∧ ∀ r : (Int32 × zH), y = .inr r → ((.inl (some (.int r.1)), r.2) : zX) = zEnd F)) : Z F 4 cX0_takeText RX0 "takeText" (some .int) [] h 66 [(0, .ref a), (1, .int x1), (2, .int x2), (3, .int x3)] [] := by
  unfold fX0_takeText_J66 at hf
  refine z_iload_n 3 dX0_takeText_66 rfl rfl ?_
  obtain ⟨v_6, hc_5, hf⟩ := zb1_some hf
  refine z_invSi suX0_195_s (ctX0_isPoint hc_5) ⟨Nat.le_trans (by decide) hD, by decide⟩ rfl rfl (Nat.le_of_ble_eq_true rfl) dX0_takeText_67 ?_
  refine z_if_eq 78 dX0_takeText_70 rfl hf (fun _ hf => ?_) (fun _ hf => ?_)
  · refine z_iconst (-1) dX0_takeText_78 rfl ?_
    cases hf
    exact z_iret dX0_takeText_79 rfl (hM.2 _ rfl)
  · refine z_iload_n 1 dX0_takeText_73 rfl rfl ?_
    refine z_iconst 4 dX0_takeText_74 rfl ?_
    refine z_icmp_ne 80 dX0_takeText_75 rfl hf (fun _ hf => ?_) (fun _ hf => ?_)
    · refine z_aload_n 0 dX0_takeText_80 rfl rfl ?_
      refine z_getr fdX0_66_0 (Or.inr ⟨_, rfl⟩) ((hL.b 0 rfl).t 0 rfl) ((hL.b 0 rfl).p 7 rfl) dX0_takeText_81 ?_
      refine z_sipush 160 dX0_takeText_84 rfl ?_
      refine z_iload_n 1 dX0_takeText_87 rfl rfl ?_
      refine z_iadd dX0_takeText_88 ?_
      refine z_iload_n 3 dX0_takeText_89 rfl rfl ?_
      obtain ⟨hi_8, hf⟩ := zck_some hf
      obtain ⟨h_9, he, hf⟩ := zlet_some hf
      refine z_iast ((hL.b 0 rfl).t 30 rfl) ((hL.b 0 rfl).nz 30) hi_8 he dX0_takeText_90 ?_
      have hL := hL.I he
      refine z_iinc 1 (x1 + 1) dX0_takeText_91 rfl rfl (by decide) (lc' := [(0, .ref a), (1, .int (x1 + 1)), (2, .int x2), (3, .int x3)]) rfl ?_
      refine z_iinc 2 (x2 + 1) dX0_takeText_94 rfl rfl (by decide) (lc' := [(0, .ref a), (1, .int (x1 + 1)), (2, .int (x2 + 1)), (3, .int x3)]) rfl ?_
      refine z_goto 4 dX0_takeText_97 rfl ?_
      cases hf
      refine z_sub [0, 1, 2] rfl ?_
      exact (hM.1 _ rfl) hL
    · refine z_iconst (-1) dX0_takeText_78 rfl ?_
      cases hf
      exact z_iret dX0_takeText_79 rfl (hM.2 _ rfl)
theorem suX0_323_s : zIs RX0 323 yX0_isLow (ws_ yX0_isLow cX0_isLow 1 (some .boolean)) 1 1 := ⟨(zGood_c q1024 q97), (Or.inl q1209), q1023, ⟨by decide, by decide⟩, by decide +kernel⟩
theorem suX0_326_s : zIs RX0 326 yX0_paired (ws_ yX0_paired cX0_paired 2 (some .int)) 2 2 := ⟨(zGood_c q1028 q97), (Or.inl q1210), q1027, ⟨by decide, by decide⟩, by decide +kernel⟩
noncomputable def fX0_takeText_L4 (h : zH) (a : Nat) (x1 : Int32) (x2 : Int32) : Option ((zH × Int32 × Int32) ⊕ ((Int32 × zH))) := if (zI h a 7) ≤ x2 then (some (.inr ((x1, h)))) else (zck (vp_in x2 1000) (zb1 (fX0_isHigh (zI h (a + 26) x2.toNatClampNeg)) (fun v_3 => if v_3 = 0 then (fX0_takeText_J66 h a x1 x2 (zI h (a + 26) x2.toNatClampNeg)) else (if (zI h a 7) ≤ (x2 + 1) then (fX0_takeText_J66 h a x1 x2 (zI h (a + 26) x2.toNatClampNeg)) else (zck (vp_in (x2 + 1) 1000) (zb1 (fX0_isLow (zI h (a + 26) (x2 + 1).toNatClampNeg)) (fun v_12 => if v_12 = 0 then (fX0_takeText_J66 h a x1 x2 (zI h (a + 26) x2.toNatClampNeg)) else (zck (vp_in (x2 + 1) 1000) (zb1 (fX0_paired (zI h (a + 26) x2.toNatClampNeg) (zI h (a + 26) (x2 + 1).toNatClampNeg)) (fun v_16 => fX0_takeText_J66 h a x1 (x2 + 1) v_16))))))))))
theorem zX0_takeText_L4 {F : zF} {h : zH} {a : Nat} {x1 : Int32} {x2 : Int32} {y : (zH × Int32 × Int32) ⊕ ((Int32 × zH))} (hD : 3 ≤ F.2.1) (hL : zXx h a) (hf : fX0_takeText_L4 h a x1 x2 = some y) (hM : ((∀ s' : zH × Int32 × Int32, y = .inl s' → (zXx s'.1 a → Z F 4 cX0_takeText RX0 "takeText" (some .int) [] s'.1 4 [(0, .ref a), (1, .int s'.2.1), (2, .int s'.2.2)] [])) ∧ ∀ r : (Int32 × zH), y = .inr r → ((.inl (some (.int r.1)), r.2) : zX) = zEnd F)) : Z F 4 cX0_takeText RX0 "takeText" (some .int) [] h 4 [(0, .ref a), (1, .int x1), (2, .int x2)] [] := by
  unfold fX0_takeText_L4 at hf
  refine z_iload_n 2 dX0_takeText_4 rfl rfl ?_
  refine z_aload_n 0 dX0_takeText_5 rfl rfl ?_
  refine z_geti fdX0_267_0 ((hL.b 0 rfl).t 0 rfl) dX0_takeText_6 ?_
  refine z_icmp_ge 100 dX0_takeText_9 rfl hf (fun _ hf => ?_) (fun _ hf => ?_)
  · refine z_iload_n 1 dX0_takeText_100 rfl rfl ?_
    cases hf
    exact z_iret dX0_takeText_101 rfl (hM.2 _ rfl)
  · refine z_aload_n 0 dX0_takeText_12 rfl rfl ?_
    refine z_getr fdX0_53_0 (Or.inr ⟨_, rfl⟩) ((hL.b 0 rfl).t 0 rfl) ((hL.b 0 rfl).p 3 rfl) dX0_takeText_13 ?_
    refine z_iload_n 2 dX0_takeText_16 rfl rfl ?_
    obtain ⟨hi_1, hf⟩ := zck_some hf
    refine z_iald ((hL.b 0 rfl).t 26 rfl) hi_1 dX0_takeText_17 ?_
    refine z_istore_n dX0_takeText_18 rfl (by decide) (lc' := [(0, .ref a), (1, .int x1), (2, .int x2), (3, .int (zI h (a + 26) x2.toNatClampNeg))]) rfl ?_
    refine z_iload_n 3 dX0_takeText_19 rfl rfl ?_
    obtain ⟨v_3, hc_2, hf⟩ := zb1_some hf
    refine z_invSi suX0_320_s (ctX0_isHigh hc_2) ⟨Nat.le_trans (by decide) hD, by decide⟩ rfl rfl (Nat.le_of_ble_eq_true rfl) dX0_takeText_20 ?_
    refine z_if_eq 66 dX0_takeText_23 rfl hf (fun _ hf => ?_) (fun _ hf => ?_)
    · exact zX0_takeText_J66 hD hL hf hM
    · refine z_iload_n 2 dX0_takeText_26 rfl rfl ?_
      refine z_iconst 1 dX0_takeText_27 rfl ?_
      refine z_iadd dX0_takeText_28 ?_
      refine z_aload_n 0 dX0_takeText_29 rfl rfl ?_
      refine z_geti fdX0_267_0 ((hL.b 0 rfl).t 0 rfl) dX0_takeText_30 ?_
      refine z_icmp_ge 66 dX0_takeText_33 rfl hf (fun _ hf => ?_) (fun _ hf => ?_)
      · exact zX0_takeText_J66 hD hL hf hM
      · refine z_aload_n 0 dX0_takeText_36 rfl rfl ?_
        refine z_getr fdX0_53_0 (Or.inr ⟨_, rfl⟩) ((hL.b 0 rfl).t 0 rfl) ((hL.b 0 rfl).p 3 rfl) dX0_takeText_37 ?_
        refine z_iload_n 2 dX0_takeText_40 rfl rfl ?_
        refine z_iconst 1 dX0_takeText_41 rfl ?_
        refine z_iadd dX0_takeText_42 ?_
        obtain ⟨hi_10, hf⟩ := zck_some hf
        refine z_iald ((hL.b 0 rfl).t 26 rfl) hi_10 dX0_takeText_43 ?_
        obtain ⟨v_12, hc_11, hf⟩ := zb1_some hf
        refine z_invSi suX0_323_s (ctX0_isLow hc_11) ⟨Nat.le_trans (by decide) hD, by decide⟩ rfl rfl (Nat.le_of_ble_eq_true rfl) dX0_takeText_44 ?_
        refine z_if_eq 66 dX0_takeText_47 rfl hf (fun _ hf => ?_) (fun _ hf => ?_)
        · exact zX0_takeText_J66 hD hL hf hM
        · refine z_iload_n 3 dX0_takeText_50 rfl rfl ?_
          refine z_aload_n 0 dX0_takeText_51 rfl rfl ?_
          refine z_getr fdX0_53_0 (Or.inr ⟨_, rfl⟩) ((hL.b 0 rfl).t 0 rfl) ((hL.b 0 rfl).p 3 rfl) dX0_takeText_52 ?_
          refine z_iload_n 2 dX0_takeText_55 rfl rfl ?_
          refine z_iconst 1 dX0_takeText_56 rfl ?_
          refine z_iadd dX0_takeText_57 ?_
          obtain ⟨hi_14, hf⟩ := zck_some hf
          refine z_iald ((hL.b 0 rfl).t 26 rfl) hi_14 dX0_takeText_58 ?_
          obtain ⟨v_16, hc_15, hf⟩ := zb1_some hf
          refine z_invSi suX0_326_s (ctX0_paired hc_15) ⟨Nat.le_trans (by decide) hD, by decide⟩ rfl rfl (Nat.le_of_ble_eq_true rfl) dX0_takeText_59 ?_
          refine z_istore_n dX0_takeText_62 rfl (by decide) (lc' := [(0, .ref a), (1, .int x1), (2, .int x2), (3, .int v_16)]) rfl ?_
          refine z_iinc 2 (x2 + 1) dX0_takeText_63 rfl rfl (by decide) (lc' := [(0, .ref a), (1, .int x1), (2, .int (x2 + 1)), (3, .int v_16)]) rfl ?_
          exact zX0_takeText_J66 hD hL hf hM
noncomputable def fX0_takeText (h : zH) (a : Nat) : Option (Int32 × zH) := zlp (fun s => fX0_takeText_L4 s.1 a s.2.1 s.2.2) (h, 0, 0)
theorem zX0_takeText {F : zF} {h : zH} {a : Nat} {y : Int32 × zH} (hD : 3 ≤ F.2.1) (hL : zXx h a) (hf : fX0_takeText h a = some y) (hM : ((.inl (some (.int y.1)), y.2) : zX) = zEnd F) : Z F 4 cX0_takeText RX0 "takeText" (some .int) [] h 0 [(0, .ref a)] [] := by
  unfold fX0_takeText at hf
  refine z_iconst 0 dX0_takeText_0 rfl ?_
  refine z_istore_n dX0_takeText_1 rfl (by decide) (lc' := [(0, .ref a), (1, .int 0)]) rfl ?_
  refine z_iconst 0 dX0_takeText_2 rfl ?_
  refine z_istore_n dX0_takeText_3 rfl (by decide) (lc' := [(0, .ref a), (1, .int 0), (2, .int 0)]) rfl ?_
  exact z_loop (fun (s : zH × Int32 × Int32) => (zXx s.1 a → Z F 4 cX0_takeText RX0 "takeText" (some .int) [] s.1 4 [(0, .ref a), (1, .int s.2.1), (2, .int s.2.2)] [])) (fun (r : (Int32 × zH)) => ((.inl (some (.int r.1)), r.2) : zX) = zEnd F) (fun s y hb hs hr hL => zX0_takeText_L4 hD hL hb ⟨hs, hr⟩) hf hM hL
theorem ctX0_takeText {l : Launch} {h : zH} {a : Nat} {v : Int32} {h' : zH} (hL : zXx h a) (hf : fX0_takeText h a = some (v, h')) : zC l yX0_takeText (ws_ yX0_takeText cX0_takeText 4 (some .int)) 3 [.ref a] h (.inl (some (.int v)), h') :=
  z_start (by decide) (Nat.le_of_ble_eq_true rfl) (zX0_takeText (F := (l, 3, h, (.inl (some (.int v)), h'))) (Nat.le_refl _) hL hf rfl)
theorem fdX0_63_0 : zFd RX0 63 0 11 (.array .int) true := ⟨_, _, _, rfl, rfl, by decide, rfl, rfl, Or.inl q495, Or.inl rfl⟩
noncomputable def fX0_setFallback_L26 (h : zH) (a : Nat) (x1 : Int32) (x2 : Int32) (x3 : Int32) : Option ((zH × Int32) ⊕ (zH)) := if 4 ≤ x3 then (some (.inr h)) else (zck (vp_in (((4 : Int32) * x2) + x3) 164) (zck (vp_in (((4 : Int32) * x1) + x3) 164) (zlet (zsI h (a + 30) (((4 : Int32) * x1) + x3).toNatClampNeg (zI h (a + 30) (((4 : Int32) * x2) + x3).toNatClampNeg)) (fun h_9 => some (.inl ((h_9, x3 + 1)))))))
theorem zX0_setFallback_L26 {F : zF} {h : zH} {a : Nat} {x1 : Int32} {x2 : Int32} {x3 : Int32} {y : (zH × Int32) ⊕ (zH)} (hD : 1 ≤ F.2.1) (hL : zXx h a) (hf : fX0_setFallback_L26 h a x1 x2 x3 = some y) (hM : ((∀ s' : zH × Int32, y = .inl s' → (zXx s'.1 a → Z F 4 cX0_setFallback RX0 "setFallback" none [] s'.1 26 [(0, .ref a), (1, .int x1), (2, .int x2), (3, .int s'.2)] [])) ∧ ∀ r : zH, y = .inr r → ((.inl none, r) : zX) = zEnd F)) : Z F 4 cX0_setFallback RX0 "setFallback" none [] h 26 [(0, .ref a), (1, .int x1), (2, .int x2), (3, .int x3)] [] := by
  unfold fX0_setFallback_L26 at hf
  refine z_iload_n 3 dX0_setFallback_26 rfl rfl ?_
  refine z_iconst 4 dX0_setFallback_27 rfl ?_
  refine z_icmp_ge 57 dX0_setFallback_28 rfl hf (fun _ hf => ?_) (fun _ hf => ?_)
  · cases hf
    exact z_vret dX0_setFallback_57 rfl (hM.2 _ rfl)
  · refine z_aload_n 0 dX0_setFallback_31 rfl rfl ?_
    refine z_getr fdX0_66_0 (Or.inr ⟨_, rfl⟩) ((hL.b 0 rfl).t 0 rfl) ((hL.b 0 rfl).p 7 rfl) dX0_setFallback_32 ?_
    refine z_iconst 4 dX0_setFallback_35 rfl ?_
    refine z_iload_n 1 dX0_setFallback_36 rfl rfl ?_
    refine z_imul dX0_setFallback_37 ?_
    refine z_iload_n 3 dX0_setFallback_38 rfl rfl ?_
    refine z_iadd dX0_setFallback_39 ?_
    refine z_aload_n 0 dX0_setFallback_40 rfl rfl ?_
    refine z_getr fdX0_66_0 (Or.inr ⟨_, rfl⟩) ((hL.b 0 rfl).t 0 rfl) ((hL.b 0 rfl).p 7 rfl) dX0_setFallback_41 ?_
    refine z_iconst 4 dX0_setFallback_44 rfl ?_
    refine z_iload_n 2 dX0_setFallback_45 rfl rfl ?_
    refine z_imul dX0_setFallback_46 ?_
    refine z_iload_n 3 dX0_setFallback_47 rfl rfl ?_
    refine z_iadd dX0_setFallback_48 ?_
    obtain ⟨hi_7, hf⟩ := zck_some hf
    refine z_iald ((hL.b 0 rfl).t 30 rfl) hi_7 dX0_setFallback_49 ?_
    obtain ⟨hi_8, hf⟩ := zck_some hf
    obtain ⟨h_9, he, hf⟩ := zlet_some hf
    refine z_iast ((hL.b 0 rfl).t 30 rfl) ((hL.b 0 rfl).nz 30) hi_8 he dX0_setFallback_50 ?_
    have hL := hL.I he
    refine z_iinc 3 (x3 + 1) dX0_setFallback_51 rfl rfl (by decide) (lc' := [(0, .ref a), (1, .int x1), (2, .int x2), (3, .int (x3 + 1))]) rfl ?_
    refine z_goto 26 dX0_setFallback_54 rfl ?_
    cases hf
    exact (hM.1 _ rfl) hL
noncomputable def fX0_setFallback (h : zH) (a : Nat) (x1 : Int32) (x2 : Int32) : Option (zH) := zck (vp_in x2 41) (zck (vp_in x1 41) (zlet (zsI h (a + 28) x1.toNatClampNeg (zI h (a + 28) x2.toNatClampNeg)) (fun h_3 => zck (vp_in x2 41) (zck (vp_in x1 41) (zlet (zsI h_3 (a + 29) x1.toNatClampNeg (zI h_3 (a + 29) x2.toNatClampNeg)) (fun h_6 => zlp (fun s => fX0_setFallback_L26 s.1 a x1 x2 s.2) (h_6, 0)))))))
theorem zX0_setFallback {F : zF} {h : zH} {a : Nat} {x1 : Int32} {x2 : Int32} {y : zH} (hD : 1 ≤ F.2.1) (hL : zXx h a) (hf : fX0_setFallback h a x1 x2 = some y) (hM : ((.inl none, y) : zX) = zEnd F) : Z F 4 cX0_setFallback RX0 "setFallback" none [] h 0 [(0, .ref a), (1, .int x1), (2, .int x2)] [] := by
  unfold fX0_setFallback at hf
  refine z_aload_n 0 dX0_setFallback_0 rfl rfl ?_
  refine z_getr fdX0_60_0 (Or.inr ⟨_, rfl⟩) ((hL.b 0 rfl).t 0 rfl) ((hL.b 0 rfl).p 5 rfl) dX0_setFallback_1 ?_
  refine z_iload_n 1 dX0_setFallback_4 rfl rfl ?_
  refine z_aload_n 0 dX0_setFallback_5 rfl rfl ?_
  refine z_getr fdX0_60_0 (Or.inr ⟨_, rfl⟩) ((hL.b 0 rfl).t 0 rfl) ((hL.b 0 rfl).p 5 rfl) dX0_setFallback_6 ?_
  refine z_iload_n 2 dX0_setFallback_9 rfl rfl ?_
  obtain ⟨hi_1, hf⟩ := zck_some hf
  refine z_iald ((hL.b 0 rfl).t 28 rfl) hi_1 dX0_setFallback_10 ?_
  obtain ⟨hi_2, hf⟩ := zck_some hf
  obtain ⟨h_3, he, hf⟩ := zlet_some hf
  refine z_iast ((hL.b 0 rfl).t 28 rfl) ((hL.b 0 rfl).nz 28) hi_2 he dX0_setFallback_11 ?_
  have hL := hL.I he
  refine z_aload_n 0 dX0_setFallback_12 rfl rfl ?_
  refine z_getr fdX0_63_0 (Or.inr ⟨_, rfl⟩) ((hL.b 0 rfl).t 0 rfl) ((hL.b 0 rfl).p 6 rfl) dX0_setFallback_13 ?_
  refine z_iload_n 1 dX0_setFallback_16 rfl rfl ?_
  refine z_aload_n 0 dX0_setFallback_17 rfl rfl ?_
  refine z_getr fdX0_63_0 (Or.inr ⟨_, rfl⟩) ((hL.b 0 rfl).t 0 rfl) ((hL.b 0 rfl).p 6 rfl) dX0_setFallback_18 ?_
  refine z_iload_n 2 dX0_setFallback_21 rfl rfl ?_
  obtain ⟨hi_4, hf⟩ := zck_some hf
  refine z_iald ((hL.b 0 rfl).t 29 rfl) hi_4 dX0_setFallback_22 ?_
  obtain ⟨hi_5, hf⟩ := zck_some hf
  obtain ⟨h_6, he, hf⟩ := zlet_some hf
  refine z_iast ((hL.b 0 rfl).t 29 rfl) ((hL.b 0 rfl).nz 29) hi_5 he dX0_setFallback_23 ?_
  have hL := hL.I he
  refine z_iconst 0 dX0_setFallback_24 rfl ?_
  refine z_istore_n dX0_setFallback_25 rfl (by decide) (lc' := [(0, .ref a), (1, .int x1), (2, .int x2), (3, .int 0)]) rfl ?_
  exact z_loop (fun (s : zH × Int32) => (zXx s.1 a → Z F 4 cX0_setFallback RX0 "setFallback" none [] s.1 26 [(0, .ref a), (1, .int x1), (2, .int x2), (3, .int s.2)] [])) (fun (r : zH) => ((.inl none, r) : zX) = zEnd F) (fun s y hb hs hr hL => zX0_setFallback_L26 hD hL hb ⟨hs, hr⟩) hf hM hL
theorem ctX0_setFallback {l : Launch} {h : zH} {a : Nat} {x1 : Int32} {x2 : Int32} {h' : zH} (hL : zXx h a) (hf : fX0_setFallback h a x1 x2 = some h') : zC l yX0_setFallback (ws_ yX0_setFallback cX0_setFallback 4 none) 1 [.ref a, .int x1, .int x2] h (.inl none, h') :=
  z_start (by decide) (Nat.le_of_ble_eq_true rfl) (zX0_setFallback (F := (l, 1, h, (.inl none, h'))) (Nat.le_refl _) hL hf rfl)
theorem fdX0_69_0 : zFd RX0 69 0 13 (.array .int) true := ⟨_, _, _, rfl, rfl, by decide, rfl, rfl, Or.inl q498, Or.inl rfl⟩
noncomputable def fX0_areLengths_L2 (h : zH) (a : Nat) (x1 : Int32) : Option ((zH × Int32) ⊕ (zH)) := if (zI h a 9) ≤ x1 then (some (.inr h)) else (zck (vp_in x1 41) (zlet (zsI h (a + 31) x1.toNatClampNeg ((-1))) (fun h_2 => some (.inl ((h_2, x1 + 1))))))
theorem zX0_areLengths_L2 {F : zF} {h : zH} {a : Nat} {x1 : Int32} {y : (zH × Int32) ⊕ (zH)} (hD : 2 ≤ F.2.1) (hL : zXx h a) (hf : fX0_areLengths_L2 h a x1 = some y) (hM : ((∀ s' : zH × Int32, y = .inl s' → (zXx s'.1 a → Z F 6 cX0_areLengths RX0 "areLengths" (some .boolean) [] s'.1 2 [(0, .ref a), (1, .int s'.2)] [])) ∧ ∀ r : zH, y = .inr r → (zXx r a → Z F 6 cX0_areLengths RX0 "areLengths" (some .boolean) [] r 23 [(0, .ref a)] []))) : Z F 6 cX0_areLengths RX0 "areLengths" (some .boolean) [] h 2 [(0, .ref a), (1, .int x1)] [] := by
  unfold fX0_areLengths_L2 at hf
  refine z_iload_n 1 dX0_areLengths_2 rfl rfl ?_
  refine z_aload_n 0 dX0_areLengths_3 rfl rfl ?_
  refine z_geti fdX0_309_0 ((hL.b 0 rfl).t 0 rfl) dX0_areLengths_4 ?_
  refine z_icmp_ge 23 dX0_areLengths_7 rfl hf (fun _ hf => ?_) (fun _ hf => ?_)
  · cases hf
    refine z_sub [0] rfl ?_
    exact (hM.2 _ rfl) hL
  · refine z_aload_n 0 dX0_areLengths_10 rfl rfl ?_
    refine z_getr fdX0_69_0 (Or.inr ⟨_, rfl⟩) ((hL.b 0 rfl).t 0 rfl) ((hL.b 0 rfl).p 8 rfl) dX0_areLengths_11 ?_
    refine z_iload_n 1 dX0_areLengths_14 rfl rfl ?_
    refine z_iconst (-1) dX0_areLengths_15 rfl ?_
    obtain ⟨hi_1, hf⟩ := zck_some hf
    obtain ⟨h_2, he, hf⟩ := zlet_some hf
    refine z_iast ((hL.b 0 rfl).t 31 rfl) ((hL.b 0 rfl).nz 31) hi_1 he dX0_areLengths_16 ?_
    have hL := hL.I he
    refine z_iinc 1 (x1 + 1) dX0_areLengths_17 rfl rfl (by decide) (lc' := [(0, .ref a), (1, .int (x1 + 1))]) rfl ?_
    refine z_goto 2 dX0_areLengths_20 rfl ?_
    cases hf
    exact (hM.1 _ rfl) hL
theorem suX0_312_0 : zIv RX0 312 yX0_fallbackOf (ws_ yX0_fallbackOf cX0_fallbackOf 3 (some .int)) 3 0 1 := ⟨(zGood_c q1147 q97), ⟨_, _, rfl, rfl, qs33⟩, (Or.inl q1211), q1146, ⟨by decide, by decide⟩, by decide +kernel⟩
noncomputable def fX0_areLengths_L48 (h : zH) (a : Nat) (x1 : Int32) (x2 : Int32) (x3 : Int32) (x4 : Int32) : Option ((Int32 × Int32) ⊕ (Int32)) := zck (vp_in x2 41) (if (zI h (a + 29) x2.toNatClampNeg) ≤ x4 then (some (.inr x3)) else (if x3 < 0 then (some (.inr x3)) else (zck (vp_in (((4 : Int32) * x2) + x4) 164) (zb1 (fX0_fallbackOf h a (zI h (a + 30) (((4 : Int32) * x2) + x4).toNatClampNeg)) (fun v_7 => if 0 ≤ v_7 then (zck (vp_in v_7 41) (if 0 ≤ (zI h (a + 31) v_7.toNatClampNeg) then (zck (vp_in v_7 41) (some (.inl ((x3 + (zI h (a + 31) v_7.toNatClampNeg), x4 + 1))))) else (some (.inl (((-1), x4 + 1)))))) else (some (.inl ((x3 + 1, x4 + 1)))))))))
theorem zX0_areLengths_L48 {F : zF} {h : zH} {a : Nat} {x1 : Int32} {x2 : Int32} {x3 : Int32} {x4 : Int32} {y : (Int32 × Int32) ⊕ (Int32)} (hD : 2 ≤ F.2.1) (hL : zXx h a) (hf : fX0_areLengths_L48 h a x1 x2 x3 x4 = some y) (hM : ((∀ s' : Int32 × Int32, y = .inl s' → Z F 6 cX0_areLengths RX0 "areLengths" (some .boolean) [] h 48 [(0, .ref a), (1, .int x1), (2, .int x2), (3, .int s'.1), (4, .int s'.2)] []) ∧ ∀ r : Int32, y = .inr r → Z F 6 cX0_areLengths RX0 "areLengths" (some .boolean) [] h 121 [(0, .ref a), (1, .int x1), (2, .int x2), (3, .int r)] [])) : Z F 6 cX0_areLengths RX0 "areLengths" (some .boolean) [] h 48 [(0, .ref a), (1, .int x1), (2, .int x2), (3, .int x3), (4, .int x4)] [] := by
  unfold fX0_areLengths_L48 at hf
  refine z_iload 4 dX0_areLengths_48 rfl ?_
  refine z_aload_n 0 dX0_areLengths_50 rfl rfl ?_
  refine z_getr fdX0_63_0 (Or.inr ⟨_, rfl⟩) ((hL.b 0 rfl).t 0 rfl) ((hL.b 0 rfl).p 6 rfl) dX0_areLengths_51 ?_
  refine z_iload_n 2 dX0_areLengths_54 rfl rfl ?_
  obtain ⟨hi_4, hf⟩ := zck_some hf
  refine z_iald ((hL.b 0 rfl).t 29 rfl) hi_4 dX0_areLengths_55 ?_
  refine z_icmp_ge 121 dX0_areLengths_56 rfl hf (fun _ hf => ?_) (fun _ hf => ?_)
  · cases hf
    refine z_sub [0, 1, 2, 3] rfl ?_
    exact (hM.2 _ rfl)
  · refine z_iload_n 3 dX0_areLengths_59 rfl rfl ?_
    refine z_if_lt 121 dX0_areLengths_60 rfl hf (fun _ hf => ?_) (fun _ hf => ?_)
    · cases hf
      refine z_sub [0, 1, 2, 3] rfl ?_
      exact (hM.2 _ rfl)
    · refine z_aload_n 0 dX0_areLengths_63 rfl rfl ?_
      refine z_aload_n 0 dX0_areLengths_64 rfl rfl ?_
      refine z_getr fdX0_66_0 (Or.inr ⟨_, rfl⟩) ((hL.b 0 rfl).t 0 rfl) ((hL.b 0 rfl).p 7 rfl) dX0_areLengths_65 ?_
      refine z_iconst 4 dX0_areLengths_68 rfl ?_
      refine z_iload_n 2 dX0_areLengths_69 rfl rfl ?_
      refine z_imul dX0_areLengths_70 ?_
      refine z_iload 4 dX0_areLengths_71 rfl ?_
      refine z_iadd dX0_areLengths_73 ?_
      obtain ⟨hi_5, hf⟩ := zck_some hf
      refine z_iald ((hL.b 0 rfl).t 30 rfl) hi_5 dX0_areLengths_74 ?_
      obtain ⟨v_7, hc_6, hf⟩ := zb1_some hf
      refine z_invVi suX0_312_0 (ctX0_fallbackOf hL hc_6) ((hL.b 0 rfl).t 0 rfl) ⟨Nat.le_trans (by decide) hD, by decide⟩ rfl rfl (Nat.le_of_ble_eq_true rfl) dX0_areLengths_75 ?_
      refine z_istore dX0_areLengths_78 (by decide) (lc' := [(0, .ref a), (1, .int x1), (2, .int x2), (3, .int x3), (4, .int x4), (5, .int v_7)]) rfl ?_
      refine z_iload 5 dX0_areLengths_80 rfl ?_
      refine z_if_ge 91 dX0_areLengths_82 rfl hf (fun _ hf => ?_) (fun _ hf => ?_)
      · refine z_aload_n 0 dX0_areLengths_91 rfl rfl ?_
        refine z_getr fdX0_69_0 (Or.inr ⟨_, rfl⟩) ((hL.b 0 rfl).t 0 rfl) ((hL.b 0 rfl).p 8 rfl) dX0_areLengths_92 ?_
        refine z_iload 5 dX0_areLengths_95 rfl ?_
        obtain ⟨hi_9, hf⟩ := zck_some hf
        refine z_iald ((hL.b 0 rfl).t 31 rfl) hi_9 dX0_areLengths_97 ?_
        refine z_if_ge 105 dX0_areLengths_98 rfl hf (fun _ hf => ?_) (fun _ hf => ?_)
        · refine z_iload_n 3 dX0_areLengths_105 rfl rfl ?_
          refine z_aload_n 0 dX0_areLengths_106 rfl rfl ?_
          refine z_getr fdX0_69_0 (Or.inr ⟨_, rfl⟩) ((hL.b 0 rfl).t 0 rfl) ((hL.b 0 rfl).p 8 rfl) dX0_areLengths_107 ?_
          refine z_iload 5 dX0_areLengths_110 rfl ?_
          obtain ⟨hi_10, hf⟩ := zck_some hf
          refine z_iald ((hL.b 0 rfl).t 31 rfl) hi_10 dX0_areLengths_112 ?_
          refine z_iadd dX0_areLengths_113 ?_
          refine z_istore_n dX0_areLengths_114 rfl (by decide) (lc' := [(0, .ref a), (1, .int x1), (2, .int x2), (3, .int (x3 + (zI h (a + 31) v_7.toNatClampNeg))), (4, .int x4), (5, .int v_7)]) rfl ?_
          refine z_iinc 4 (x4 + 1) dX0_areLengths_115 rfl rfl (by decide) (lc' := [(0, .ref a), (1, .int x1), (2, .int x2), (3, .int (x3 + (zI h (a + 31) v_7.toNatClampNeg))), (4, .int (x4 + 1)), (5, .int v_7)]) rfl ?_
          refine z_goto 48 dX0_areLengths_118 rfl ?_
          cases hf
          refine z_sub [0, 1, 2, 3, 4] rfl ?_
          exact (hM.1 _ rfl)
        · refine z_iconst (-1) dX0_areLengths_101 rfl ?_
          refine z_goto 114 dX0_areLengths_102 rfl ?_
          refine z_istore_n dX0_areLengths_114 rfl (by decide) (lc' := [(0, .ref a), (1, .int x1), (2, .int x2), (3, .int ((-1))), (4, .int x4), (5, .int v_7)]) rfl ?_
          refine z_iinc 4 (x4 + 1) dX0_areLengths_115 rfl rfl (by decide) (lc' := [(0, .ref a), (1, .int x1), (2, .int x2), (3, .int ((-1))), (4, .int (x4 + 1)), (5, .int v_7)]) rfl ?_
          refine z_goto 48 dX0_areLengths_118 rfl ?_
          cases hf
          refine z_sub [0, 1, 2, 3, 4] rfl ?_
          exact (hM.1 _ rfl)
      · refine z_iload_n 3 dX0_areLengths_85 rfl rfl ?_
        refine z_iconst 1 dX0_areLengths_86 rfl ?_
        refine z_iadd dX0_areLengths_87 ?_
        refine z_goto 114 dX0_areLengths_88 rfl ?_
        refine z_istore_n dX0_areLengths_114 rfl (by decide) (lc' := [(0, .ref a), (1, .int x1), (2, .int x2), (3, .int (x3 + 1)), (4, .int x4), (5, .int v_7)]) rfl ?_
        refine z_iinc 4 (x4 + 1) dX0_areLengths_115 rfl rfl (by decide) (lc' := [(0, .ref a), (1, .int x1), (2, .int x2), (3, .int (x3 + 1)), (4, .int (x4 + 1)), (5, .int v_7)]) rfl ?_
        refine z_goto 48 dX0_areLengths_118 rfl ?_
        cases hf
        refine z_sub [0, 1, 2, 3, 4] rfl ?_
        exact (hM.1 _ rfl)
noncomputable def fX0_areLengths_L35 (h : zH) (a : Nat) (x1 : Int32) (x2 : Int32) : Option ((zH × Int32) ⊕ (zH)) := if (zI h a 9) ≤ x2 then (some (.inr h)) else (zb1 (zlp (fun s => fX0_areLengths_L48 h a x1 x2 s.1 s.2) (0, 0)) (fun t_11 => zck (vp_in x2 41) (zlet (zsI h (a + 31) x2.toNatClampNeg (if 17 < t_11 then 17 else t_11)) (fun h_13 => some (.inl ((h_13, x2 + 1)))))))
theorem zX0_areLengths_L35 {F : zF} {h : zH} {a : Nat} {x1 : Int32} {x2 : Int32} {y : (zH × Int32) ⊕ (zH)} (hD : 2 ≤ F.2.1) (hL : zXx h a) (hf : fX0_areLengths_L35 h a x1 x2 = some y) (hM : ((∀ s' : zH × Int32, y = .inl s' → (zXx s'.1 a → Z F 6 cX0_areLengths RX0 "areLengths" (some .boolean) [] s'.1 35 [(0, .ref a), (1, .int x1), (2, .int s'.2)] [])) ∧ ∀ r : zH, y = .inr r → (zXx r a → Z F 6 cX0_areLengths RX0 "areLengths" (some .boolean) [] r 139 [(0, .ref a), (1, .int x1)] []))) : Z F 6 cX0_areLengths RX0 "areLengths" (some .boolean) [] h 35 [(0, .ref a), (1, .int x1), (2, .int x2)] [] := by
  unfold fX0_areLengths_L35 at hf
  refine z_iload_n 2 dX0_areLengths_35 rfl rfl ?_
  refine z_aload_n 0 dX0_areLengths_36 rfl rfl ?_
  refine z_geti fdX0_309_0 ((hL.b 0 rfl).t 0 rfl) dX0_areLengths_37 ?_
  refine z_icmp_ge 139 dX0_areLengths_40 rfl hf (fun _ hf => ?_) (fun _ hf => ?_)
  · cases hf
    refine z_sub [0, 1] rfl ?_
    exact (hM.2 _ rfl) hL
  · refine z_iconst 0 dX0_areLengths_43 rfl ?_
    refine z_istore_n dX0_areLengths_44 rfl (by decide) (lc' := [(0, .ref a), (1, .int x1), (2, .int x2), (3, .int 0)]) rfl ?_
    refine z_iconst 0 dX0_areLengths_45 rfl ?_
    refine z_istore dX0_areLengths_46 (by decide) (lc' := [(0, .ref a), (1, .int x1), (2, .int x2), (3, .int 0), (4, .int 0)]) rfl ?_
    obtain ⟨t_11, hl, hf⟩ := zb1_some hf
    refine z_loop (fun (s : Int32 × Int32) => Z F 6 cX0_areLengths RX0 "areLengths" (some .boolean) [] h 48 [(0, .ref a), (1, .int x1), (2, .int x2), (3, .int s.1), (4, .int s.2)] []) (fun (r : Int32) => Z F 6 cX0_areLengths RX0 "areLengths" (some .boolean) [] h 121 [(0, .ref a), (1, .int x1), (2, .int x2), (3, .int r)] []) (fun s y hb hs hr => zX0_areLengths_L48 hD hL hb ⟨hs, hr⟩) hl ?_
    show Z F 6 cX0_areLengths RX0 "areLengths" (some .boolean) [] h 121 [(0, .ref a), (1, .int x1), (2, .int x2), (3, .int t_11)] []
    refine z_aload_n 0 dX0_areLengths_121 rfl rfl ?_
    refine z_getr fdX0_69_0 (Or.inr ⟨_, rfl⟩) ((hL.b 0 rfl).t 0 rfl) ((hL.b 0 rfl).p 8 rfl) dX0_areLengths_122 ?_
    refine z_iload_n 2 dX0_areLengths_125 rfl rfl ?_
    refine z_iload_n 3 dX0_areLengths_126 rfl rfl ?_
    refine z_bipush 17 dX0_areLengths_127 rfl ?_
    refine z_mmin q1224 q814 q119 q815 (Nat.le_trans (by decide) hD) (Nat.le_of_ble_eq_true rfl) dX0_areLengths_129 ?_
    obtain ⟨hi_12, hf⟩ := zck_some hf
    obtain ⟨h_13, he, hf⟩ := zlet_some hf
    refine z_iast ((hL.b 0 rfl).t 31 rfl) ((hL.b 0 rfl).nz 31) hi_12 he dX0_areLengths_132 ?_
    have hL := hL.I he
    refine z_iinc 2 (x2 + 1) dX0_areLengths_133 rfl rfl (by decide) (lc' := [(0, .ref a), (1, .int x1), (2, .int (x2 + 1)), (3, .int t_11)]) rfl ?_
    refine z_goto 35 dX0_areLengths_136 rfl ?_
    cases hf
    refine z_sub [0, 1, 2] rfl ?_
    exact (hM.1 _ rfl) hL
noncomputable def fX0_areLengths_L25 (h : zH) (a : Nat) (x1 : Int32) : Option ((zH × Int32) ⊕ (zH)) := if (zI h a 9) ≤ x1 then (some (.inr h)) else (zb1 (zlp (fun s => fX0_areLengths_L35 s.1 a x1 s.2) (h, 0)) (fun t_14 => some (.inl ((t_14, x1 + 1)))))
theorem zX0_areLengths_L25 {F : zF} {h : zH} {a : Nat} {x1 : Int32} {y : (zH × Int32) ⊕ (zH)} (hD : 2 ≤ F.2.1) (hL : zXx h a) (hf : fX0_areLengths_L25 h a x1 = some y) (hM : ((∀ s' : zH × Int32, y = .inl s' → (zXx s'.1 a → Z F 6 cX0_areLengths RX0 "areLengths" (some .boolean) [] s'.1 25 [(0, .ref a), (1, .int s'.2)] [])) ∧ ∀ r : zH, y = .inr r → (zXx r a → Z F 6 cX0_areLengths RX0 "areLengths" (some .boolean) [] r 145 [(0, .ref a)] []))) : Z F 6 cX0_areLengths RX0 "areLengths" (some .boolean) [] h 25 [(0, .ref a), (1, .int x1)] [] := by
  unfold fX0_areLengths_L25 at hf
  refine z_iload_n 1 dX0_areLengths_25 rfl rfl ?_
  refine z_aload_n 0 dX0_areLengths_26 rfl rfl ?_
  refine z_geti fdX0_309_0 ((hL.b 0 rfl).t 0 rfl) dX0_areLengths_27 ?_
  refine z_icmp_ge 145 dX0_areLengths_30 rfl hf (fun _ hf => ?_) (fun _ hf => ?_)
  · cases hf
    refine z_sub [0] rfl ?_
    exact (hM.2 _ rfl) hL
  · refine z_iconst 0 dX0_areLengths_33 rfl ?_
    refine z_istore_n dX0_areLengths_34 rfl (by decide) (lc' := [(0, .ref a), (1, .int x1), (2, .int 0)]) rfl ?_
    obtain ⟨t_14, hl, hf⟩ := zb1_some hf
    refine z_loop (fun (s : zH × Int32) => (zXx s.1 a → Z F 6 cX0_areLengths RX0 "areLengths" (some .boolean) [] s.1 35 [(0, .ref a), (1, .int x1), (2, .int s.2)] [])) (fun (r : zH) => (zXx r a → Z F 6 cX0_areLengths RX0 "areLengths" (some .boolean) [] r 139 [(0, .ref a), (1, .int x1)] [])) (fun s y hb hs hr hL => zX0_areLengths_L35 hD hL hb ⟨hs, hr⟩) hl ?_ hL
    intro hL
    show Z F 6 cX0_areLengths RX0 "areLengths" (some .boolean) [] t_14 139 [(0, .ref a), (1, .int x1)] []
    refine z_iinc 1 (x1 + 1) dX0_areLengths_139 rfl rfl (by decide) (lc' := [(0, .ref a), (1, .int (x1 + 1))]) rfl ?_
    refine z_goto 25 dX0_areLengths_142 rfl ?_
    cases hf
    exact (hM.1 _ rfl) hL
noncomputable def fX0_areLengths_L147 (h : zH) (a : Nat) (x1 : Int32) : Option ((Int32) ⊕ ((Int32 × zH))) := if (zI h a 9) ≤ x1 then (some (.inr ((1, h)))) else (zck (vp_in x1 41) (if 0 ≤ (zI h (a + 31) x1.toNatClampNeg) then (some (.inl (x1 + 1))) else (some (.inr ((0, h))))))
theorem zX0_areLengths_L147 {F : zF} {h : zH} {a : Nat} {x1 : Int32} {y : (Int32) ⊕ ((Int32 × zH))} (hD : 2 ≤ F.2.1) (hL : zXx h a) (hf : fX0_areLengths_L147 h a x1 = some y) (hM : ((∀ s' : Int32, y = .inl s' → Z F 6 cX0_areLengths RX0 "areLengths" (some .boolean) [] h 147 [(0, .ref a), (1, .int s')] []) ∧ ∀ r : (Int32 × zH), y = .inr r → ((.inl (some (.int r.1)), r.2) : zX) = zEnd F)) : Z F 6 cX0_areLengths RX0 "areLengths" (some .boolean) [] h 147 [(0, .ref a), (1, .int x1)] [] := by
  unfold fX0_areLengths_L147 at hf
  refine z_iload_n 1 dX0_areLengths_147 rfl rfl ?_
  refine z_aload_n 0 dX0_areLengths_148 rfl rfl ?_
  refine z_geti fdX0_309_0 ((hL.b 0 rfl).t 0 rfl) dX0_areLengths_149 ?_
  refine z_icmp_ge 172 dX0_areLengths_152 rfl hf (fun _ hf => ?_) (fun _ hf => ?_)
  · refine z_iconst 1 dX0_areLengths_172 rfl ?_
    cases hf
    exact z_zret dX0_areLengths_173 rfl (Or.inr rfl) (hM.2 _ rfl)
  · refine z_aload_n 0 dX0_areLengths_155 rfl rfl ?_
    refine z_getr fdX0_69_0 (Or.inr ⟨_, rfl⟩) ((hL.b 0 rfl).t 0 rfl) ((hL.b 0 rfl).p 8 rfl) dX0_areLengths_156 ?_
    refine z_iload_n 1 dX0_areLengths_159 rfl rfl ?_
    obtain ⟨hi_16, hf⟩ := zck_some hf
    refine z_iald ((hL.b 0 rfl).t 31 rfl) hi_16 dX0_areLengths_160 ?_
    refine z_if_ge 166 dX0_areLengths_161 rfl hf (fun _ hf => ?_) (fun _ hf => ?_)
    · refine z_iinc 1 (x1 + 1) dX0_areLengths_166 rfl rfl (by decide) (lc' := [(0, .ref a), (1, .int (x1 + 1))]) rfl ?_
      refine z_goto 147 dX0_areLengths_169 rfl ?_
      cases hf
      exact (hM.1 _ rfl)
    · refine z_iconst 0 dX0_areLengths_164 rfl ?_
      cases hf
      exact z_zret dX0_areLengths_165 rfl (Or.inl rfl) (hM.2 _ rfl)
noncomputable def fX0_areLengths (h : zH) (a : Nat) : Option (Int32 × zH) := zb1 (zlp (fun s => fX0_areLengths_L2 s.1 a s.2) (h, 0)) (fun t_3 => zb1 (zlp (fun s => fX0_areLengths_L25 s.1 a s.2) (t_3, 0)) (fun t_15 => zlp (fun s => fX0_areLengths_L147 t_15 a s) 0))
theorem zX0_areLengths {F : zF} {h : zH} {a : Nat} {y : Int32 × zH} (hD : 2 ≤ F.2.1) (hL : zXx h a) (hf : fX0_areLengths h a = some y) (hM : ((.inl (some (.int y.1)), y.2) : zX) = zEnd F) : Z F 6 cX0_areLengths RX0 "areLengths" (some .boolean) [] h 0 [(0, .ref a)] [] := by
  unfold fX0_areLengths at hf
  refine z_iconst 0 dX0_areLengths_0 rfl ?_
  refine z_istore_n dX0_areLengths_1 rfl (by decide) (lc' := [(0, .ref a), (1, .int 0)]) rfl ?_
  obtain ⟨t_3, hl, hf⟩ := zb1_some hf
  refine z_loop (fun (s : zH × Int32) => (zXx s.1 a → Z F 6 cX0_areLengths RX0 "areLengths" (some .boolean) [] s.1 2 [(0, .ref a), (1, .int s.2)] [])) (fun (r : zH) => (zXx r a → Z F 6 cX0_areLengths RX0 "areLengths" (some .boolean) [] r 23 [(0, .ref a)] [])) (fun s y hb hs hr hL => zX0_areLengths_L2 hD hL hb ⟨hs, hr⟩) hl ?_ hL
  intro hL
  show Z F 6 cX0_areLengths RX0 "areLengths" (some .boolean) [] t_3 23 [(0, .ref a)] []
  refine z_iconst 0 dX0_areLengths_23 rfl ?_
  refine z_istore_n dX0_areLengths_24 rfl (by decide) (lc' := [(0, .ref a), (1, .int 0)]) rfl ?_
  obtain ⟨t_15, hl, hf⟩ := zb1_some hf
  refine z_loop (fun (s : zH × Int32) => (zXx s.1 a → Z F 6 cX0_areLengths RX0 "areLengths" (some .boolean) [] s.1 25 [(0, .ref a), (1, .int s.2)] [])) (fun (r : zH) => (zXx r a → Z F 6 cX0_areLengths RX0 "areLengths" (some .boolean) [] r 145 [(0, .ref a)] [])) (fun s y hb hs hr hL => zX0_areLengths_L25 hD hL hb ⟨hs, hr⟩) hl ?_ hL
  intro hL
  show Z F 6 cX0_areLengths RX0 "areLengths" (some .boolean) [] t_15 145 [(0, .ref a)] []
  refine z_iconst 0 dX0_areLengths_145 rfl ?_
  refine z_istore_n dX0_areLengths_146 rfl (by decide) (lc' := [(0, .ref a), (1, .int 0)]) rfl ?_
  exact z_loop (fun (s : Int32) => Z F 6 cX0_areLengths RX0 "areLengths" (some .boolean) [] t_15 147 [(0, .ref a), (1, .int s)] []) (fun (r : (Int32 × zH)) => ((.inl (some (.int r.1)), r.2) : zX) = zEnd F) (fun s y hb hs hr => zX0_areLengths_L147 hD hL hb ⟨hs, hr⟩) hf hM
theorem ctX0_areLengths {l : Launch} {h : zH} {a : Nat} {v : Int32} {h' : zH} (hL : zXx h a) (hf : fX0_areLengths h a = some (v, h')) : zC l yX0_areLengths (ws_ yX0_areLengths cX0_areLengths 6 (some .boolean)) 2 [.ref a] h (.inl (some (.int v)), h') :=
  z_start (by decide) (Nat.le_of_ble_eq_true rfl) (zX0_areLengths (F := (l, 2, h, (.inl (some (.int v)), h'))) (Nat.le_refl _) hL hf rfl)
noncomputable def fX0_areShort_L2 (h : zH) (a : Nat) (x1 : Int32) : Option ((Int32) ⊕ (Int32)) := if (zI h a 9) ≤ x1 then (some (.inr 1)) else (zck (vp_in x1 41) (if (zI h (a + 31) x1.toNatClampNeg) ≤ 16 then (some (.inl (x1 + 1))) else (some (.inr 0))))
theorem zX0_areShort_L2 {F : zF} {h : zH} {a : Nat} {x1 : Int32} {y : (Int32) ⊕ (Int32)} (hD : 1 ≤ F.2.1) (hL : zXx h a) (hf : fX0_areShort_L2 h a x1 = some y) (hM : ((∀ s' : Int32, y = .inl s' → Z F 2 cX0_areShort RX0 "areShort" (some .boolean) [] h 2 [(0, .ref a), (1, .int s')] []) ∧ ∀ r : Int32, y = .inr r → ((.inl (some (.int r)), h) : zX) = zEnd F)) : Z F 2 cX0_areShort RX0 "areShort" (some .boolean) [] h 2 [(0, .ref a), (1, .int x1)] [] := by
  unfold fX0_areShort_L2 at hf
  refine z_iload_n 1 dX0_areShort_2 rfl rfl ?_
  refine z_aload_n 0 dX0_areShort_3 rfl rfl ?_
  refine z_geti fdX0_309_0 ((hL.b 0 rfl).t 0 rfl) dX0_areShort_4 ?_
  refine z_icmp_ge 29 dX0_areShort_7 rfl hf (fun _ hf => ?_) (fun _ hf => ?_)
  · refine z_iconst 1 dX0_areShort_29 rfl ?_
    cases hf
    exact z_zret dX0_areShort_30 rfl (Or.inr rfl) (hM.2 _ rfl)
  · refine z_aload_n 0 dX0_areShort_10 rfl rfl ?_
    refine z_getr fdX0_69_0 (Or.inr ⟨_, rfl⟩) ((hL.b 0 rfl).t 0 rfl) ((hL.b 0 rfl).p 8 rfl) dX0_areShort_11 ?_
    refine z_iload_n 1 dX0_areShort_14 rfl rfl ?_
    obtain ⟨hi_1, hf⟩ := zck_some hf
    refine z_iald ((hL.b 0 rfl).t 31 rfl) hi_1 dX0_areShort_15 ?_
    refine z_bipush 16 dX0_areShort_16 rfl ?_
    refine z_icmp_le 23 dX0_areShort_18 rfl hf (fun _ hf => ?_) (fun _ hf => ?_)
    · refine z_iinc 1 (x1 + 1) dX0_areShort_23 rfl rfl (by decide) (lc' := [(0, .ref a), (1, .int (x1 + 1))]) rfl ?_
      refine z_goto 2 dX0_areShort_26 rfl ?_
      cases hf
      exact (hM.1 _ rfl)
    · refine z_iconst 0 dX0_areShort_21 rfl ?_
      cases hf
      exact z_zret dX0_areShort_22 rfl (Or.inl rfl) (hM.2 _ rfl)
noncomputable def fX0_areShort (h : zH) (a : Nat) : Option (Int32) := zlp (fun s => fX0_areShort_L2 h a s) 0
theorem zX0_areShort {F : zF} {h : zH} {a : Nat} {y : Int32} (hD : 1 ≤ F.2.1) (hL : zXx h a) (hf : fX0_areShort h a = some y) (hM : ((.inl (some (.int y)), h) : zX) = zEnd F) : Z F 2 cX0_areShort RX0 "areShort" (some .boolean) [] h 0 [(0, .ref a)] [] := by
  unfold fX0_areShort at hf
  refine z_iconst 0 dX0_areShort_0 rfl ?_
  refine z_istore_n dX0_areShort_1 rfl (by decide) (lc' := [(0, .ref a), (1, .int 0)]) rfl ?_
  exact z_loop (fun (s : Int32) => Z F 2 cX0_areShort RX0 "areShort" (some .boolean) [] h 2 [(0, .ref a), (1, .int s)] []) (fun (r : Int32) => ((.inl (some (.int r)), h) : zX) = zEnd F) (fun s y hb hs hr => zX0_areShort_L2 hD hL hb ⟨hs, hr⟩) hf hM
theorem ctX0_areShort {l : Launch} {h : zH} {a : Nat} {v : Int32} (hL : zXx h a) (hf : fX0_areShort h a = some v) : zC l yX0_areShort (ws_ yX0_areShort cX0_areShort 2 (some .boolean)) 1 [.ref a] h (.inl (some (.int v)), h) :=
  z_start (by decide) (Nat.le_of_ble_eq_true rfl) (zX0_areShort (F := (l, 1, h, (.inl (some (.int v)), h))) (Nat.le_refl _) hL hf rfl)
theorem fdX0_112_0 : zFd RX0 112 0 28 (.array .int) true := ⟨_, _, _, rfl, rfl, by decide, rfl, rfl, Or.inl q514, Or.inl rfl⟩
noncomputable def fX0_lay_L30 (h : zH) (a : Nat) (x1 : Int32) (x2 : Int32) (x3 : Int32) (x4 : Int32) (x5 : Int32) : Option ((zH × Int32) ⊕ (zH)) := if 4 ≤ x5 then (some (.inr h)) else (zck (vp_in (((4 : Int32) * x4) + x5) 164) (zck (vp_in x5 6) (zlet (zsI h (a + 47) x5.toNatClampNeg (zI h (a + 30) (((4 : Int32) * x4) + x5).toNatClampNeg)) (fun h_6 => some (.inl ((h_6, x5 + 1)))))))
theorem zX0_lay_L30 {F : zF} {h : zH} {a : Nat} {x1 : Int32} {x2 : Int32} {x3 : Int32} {x4 : Int32} {x5 : Int32} {y : (zH × Int32) ⊕ (zH)} (hD : 3 ≤ F.2.1) (hL : zXx h a) (hf : fX0_lay_L30 h a x1 x2 x3 x4 x5 = some y) (hM : ((∀ s' : zH × Int32, y = .inl s' → (zXx s'.1 a → Z F 7 cX0_lay RX0 "lay" none [] s'.1 30 [(0, .ref a), (1, .int x1), (2, .int x2), (3, .int x3), (4, .int x4), (5, .int s'.2)] [])) ∧ ∀ r : zH, y = .inr r → (zXx r a → Z F 7 cX0_lay RX0 "lay" none [] r 61 [(0, .ref a), (1, .int x1), (2, .int x2), (3, .int x3), (4, .int x4)] []))) : Z F 7 cX0_lay RX0 "lay" none [] h 30 [(0, .ref a), (1, .int x1), (2, .int x2), (3, .int x3), (4, .int x4), (5, .int x5)] [] := by
  unfold fX0_lay_L30 at hf
  refine z_iload 5 dX0_lay_30 rfl ?_
  refine z_iconst 4 dX0_lay_32 rfl ?_
  refine z_icmp_ge 61 dX0_lay_33 rfl hf (fun _ hf => ?_) (fun _ hf => ?_)
  · cases hf
    refine z_sub [0, 1, 2, 3, 4] rfl ?_
    exact (hM.2 _ rfl) hL
  · refine z_aload_n 0 dX0_lay_36 rfl rfl ?_
    refine z_getr fdX0_112_0 (Or.inr ⟨_, rfl⟩) ((hL.b 0 rfl).t 0 rfl) ((hL.b 0 rfl).p 15 rfl) dX0_lay_37 ?_
    refine z_iload 5 dX0_lay_40 rfl ?_
    refine z_aload_n 0 dX0_lay_42 rfl rfl ?_
    refine z_getr fdX0_66_0 (Or.inr ⟨_, rfl⟩) ((hL.b 0 rfl).t 0 rfl) ((hL.b 0 rfl).p 7 rfl) dX0_lay_43 ?_
    refine z_iconst 4 dX0_lay_46 rfl ?_
    refine z_iload 4 dX0_lay_47 rfl ?_
    refine z_imul dX0_lay_49 ?_
    refine z_iload 5 dX0_lay_50 rfl ?_
    refine z_iadd dX0_lay_52 ?_
    obtain ⟨hi_4, hf⟩ := zck_some hf
    refine z_iald ((hL.b 0 rfl).t 30 rfl) hi_4 dX0_lay_53 ?_
    obtain ⟨hi_5, hf⟩ := zck_some hf
    obtain ⟨h_6, he, hf⟩ := zlet_some hf
    refine z_iast ((hL.b 0 rfl).t 47 rfl) ((hL.b 0 rfl).nz 47) hi_5 he dX0_lay_54 ?_
    have hL := hL.I he
    refine z_iinc 5 (x5 + 1) dX0_lay_55 rfl rfl (by decide) (lc' := [(0, .ref a), (1, .int x1), (2, .int x2), (3, .int x3), (4, .int x4), (5, .int (x5 + 1))]) rfl ?_
    refine z_goto 30 dX0_lay_58 rfl ?_
    cases hf
    exact (hM.1 _ rfl) hL
theorem suX0_332_0 : zIv RX0 332 yX0_setFallback (ws_ yX0_setFallback cX0_setFallback 4 none) 4 0 2 := ⟨(zGood_c q1215 q97), ⟨_, _, rfl, rfl, qs36⟩, (Or.inl q1212), q1214, ⟨by decide, by decide⟩, by decide +kernel⟩
theorem suX0_340_0 : zIv RX0 340 yX0_areLengths (ws_ yX0_areLengths cX0_areLengths 6 (some .boolean)) 6 0 0 := ⟨(zGood_c q1223 q97), ⟨_, _, rfl, rfl, qs38⟩, (Or.inl q1220), q1222, ⟨by decide, by decide⟩, by decide +kernel⟩
noncomputable def fX0_lay_J191 (h : zH) (a : Nat) (x5 : Int32) : Option (zX) := if x5 = 0 then (zb2 (fX0_refused h a ((-11))) (fun v_21 h_22 => zb1 v_21 (fun b_23 => some ((.inr b_23, h_22))))) else (zb2 (fX0_refused h a ((-12))) (fun v_25 h_26 => zb1 v_25 (fun b_27 => some ((.inr b_27, h_26)))))
theorem zX0_lay_J191 {F : zF} {h : zH} {a : Nat} {x5 : Int32} {y : zX} (hD : 3 ≤ F.2.1) (hL : zXx h a) (hf : fX0_lay_J191 h a x5 = some y) (hM : (y : zX) = zEnd F) : Z F 7 cX0_lay RX0 "lay" none [] h 191 [(0, .ref a), (5, .int x5)] [] := by
  unfold fX0_lay_J191 at hf
  refine z_aload_n 0 dX0_lay_191 rfl rfl ?_
  refine z_iload 1 dX0_lay_192 rfl ?_
  refine z_if_eq 202 dX0_lay_194 rfl hf (fun _ hf => ?_) (fun _ hf => ?_)
  · refine z_bipush (-11) dX0_lay_202 rfl ?_
    obtain ⟨v_21, h_22, hc_20, hf⟩ := zb2_some hf
    have hct := ctX0_refused (l := F.1) hL hc_20
    refine z_invVq suX0_140_0 hct ((hL.b 0 rfl).t 0 rfl) ⟨Nat.le_trans (by decide) hD, by decide⟩ rfl rfl (Nat.le_of_ble_eq_true rfl) dX0_lay_204 ?_
    have hL := hL.ext hct.1
    obtain ⟨b_23, e9, hf9⟩ := zb1_some hf
    subst e9
    have hf := hf9
    refine z_athrow dX0_lay_207 ?_
    cases hf
    exact zt_out rfl hM
  · refine z_bipush (-12) dX0_lay_197 rfl ?_
    refine z_goto 204 dX0_lay_199 rfl ?_
    obtain ⟨v_25, h_26, hc_24, hf⟩ := zb2_some hf
    have hct := ctX0_refused (l := F.1) hL hc_24
    refine z_invVq suX0_140_0 hct ((hL.b 0 rfl).t 0 rfl) ⟨Nat.le_trans (by decide) hD, by decide⟩ rfl rfl (Nat.le_of_ble_eq_true rfl) dX0_lay_204 ?_
    have hL := hL.ext hct.1
    obtain ⟨b_27, e9, hf9⟩ := zb1_some hf
    subst e9
    have hf := hf9
    refine z_athrow dX0_lay_207 ?_
    cases hf
    exact zt_out rfl hM
noncomputable def fX0_lay_J191_160 (h : zH) (a : Nat) (x5 : Int32) : Option ((zH × Int32) ⊕ (zX)) := if x5 = 0 then (zb2 (fX0_refused h a ((-11))) (fun v_32 h_33 => zb1 v_32 (fun b_34 => some (.inr ((.inr b_34, h_33)))))) else (zb2 (fX0_refused h a ((-12))) (fun v_36 h_37 => zb1 v_36 (fun b_38 => some (.inr ((.inr b_38, h_37))))))
theorem zX0_lay_J191_160 {F : zF} {h : zH} {a : Nat} {x5 : Int32} {x4 : Int32} {y : (zH × Int32) ⊕ (zX)} (hD : 3 ≤ F.2.1) (hL : zXx h a) (hf : fX0_lay_J191_160 h a x5 = some y) (hM : ((∀ s' : zH × Int32, y = .inl s' → (zXx s'.1 a → Z F 7 cX0_lay RX0 "lay" none [] s'.1 160 [(0, .ref a), (4, .int x4), (5, .int x5), (6, .int s'.2)] [])) ∧ ∀ r : zX, y = .inr r → (r : zX) = zEnd F)) : Z F 7 cX0_lay RX0 "lay" none [] h 191 [(0, .ref a), (5, .int x5)] [] := by
  unfold fX0_lay_J191_160 at hf
  refine z_aload_n 0 dX0_lay_191 rfl rfl ?_
  refine z_iload 1 dX0_lay_192 rfl ?_
  refine z_if_eq 202 dX0_lay_194 rfl hf (fun _ hf => ?_) (fun _ hf => ?_)
  · refine z_bipush (-11) dX0_lay_202 rfl ?_
    obtain ⟨v_32, h_33, hc_31, hf⟩ := zb2_some hf
    have hct := ctX0_refused (l := F.1) hL hc_31
    refine z_invVq suX0_140_0 hct ((hL.b 0 rfl).t 0 rfl) ⟨Nat.le_trans (by decide) hD, by decide⟩ rfl rfl (Nat.le_of_ble_eq_true rfl) dX0_lay_204 ?_
    have hL := hL.ext hct.1
    obtain ⟨b_34, e9, hf9⟩ := zb1_some hf
    subst e9
    have hf := hf9
    refine z_athrow dX0_lay_207 ?_
    cases hf
    exact zt_out rfl (hM.2 _ rfl)
  · refine z_bipush (-12) dX0_lay_197 rfl ?_
    refine z_goto 204 dX0_lay_199 rfl ?_
    obtain ⟨v_36, h_37, hc_35, hf⟩ := zb2_some hf
    have hct := ctX0_refused (l := F.1) hL hc_35
    refine z_invVq suX0_140_0 hct ((hL.b 0 rfl).t 0 rfl) ⟨Nat.le_trans (by decide) hD, by decide⟩ rfl rfl (Nat.le_of_ble_eq_true rfl) dX0_lay_204 ?_
    have hL := hL.ext hct.1
    obtain ⟨b_38, e9, hf9⟩ := zb1_some hf
    subst e9
    have hf := hf9
    refine z_athrow dX0_lay_207 ?_
    cases hf
    exact zt_out rfl (hM.2 _ rfl)
noncomputable def fX0_lay_L160 (h : zH) (a : Nat) (x4 : Int32) (x5 : Int32) (x6 : Int32) : Option ((zH × Int32) ⊕ (zX)) := if 4 ≤ x6 then (fX0_lay_J191_160 h a x5) else (zck (vp_in x6 6) (zck (vp_in (((4 : Int32) * x4) + x6) 164) (zlet (zsI h (a + 30) (((4 : Int32) * x4) + x6).toNatClampNeg (zI h (a + 47) x6.toNatClampNeg)) (fun h_41 => some (.inl ((h_41, x6 + 1)))))))
theorem zX0_lay_L160 {F : zF} {h : zH} {a : Nat} {x4 : Int32} {x5 : Int32} {x6 : Int32} {y : (zH × Int32) ⊕ (zX)} (hD : 3 ≤ F.2.1) (hL : zXx h a) (hf : fX0_lay_L160 h a x4 x5 x6 = some y) (hM : ((∀ s' : zH × Int32, y = .inl s' → (zXx s'.1 a → Z F 7 cX0_lay RX0 "lay" none [] s'.1 160 [(0, .ref a), (4, .int x4), (5, .int x5), (6, .int s'.2)] [])) ∧ ∀ r : zX, y = .inr r → (r : zX) = zEnd F)) : Z F 7 cX0_lay RX0 "lay" none [] h 160 [(0, .ref a), (4, .int x4), (5, .int x5), (6, .int x6)] [] := by
  unfold fX0_lay_L160 at hf
  refine z_iload 3 dX0_lay_160 rfl ?_
  refine z_iconst 4 dX0_lay_162 rfl ?_
  refine z_icmp_ge 191 dX0_lay_163 rfl hf (fun _ hf => ?_) (fun _ hf => ?_)
  · refine z_sub [0, 2] rfl ?_
    exact zX0_lay_J191_160 hD hL hf hM
  · refine z_aload_n 0 dX0_lay_166 rfl rfl ?_
    refine z_getr fdX0_66_0 (Or.inr ⟨_, rfl⟩) ((hL.b 0 rfl).t 0 rfl) ((hL.b 0 rfl).p 7 rfl) dX0_lay_167 ?_
    refine z_iconst 4 dX0_lay_170 rfl ?_
    refine z_iload 1 dX0_lay_171 rfl ?_
    refine z_imul dX0_lay_173 ?_
    refine z_iload 3 dX0_lay_174 rfl ?_
    refine z_iadd dX0_lay_176 ?_
    refine z_aload_n 0 dX0_lay_177 rfl rfl ?_
    refine z_getr fdX0_112_0 (Or.inr ⟨_, rfl⟩) ((hL.b 0 rfl).t 0 rfl) ((hL.b 0 rfl).p 15 rfl) dX0_lay_178 ?_
    refine z_iload 3 dX0_lay_181 rfl ?_
    obtain ⟨hi_39, hf⟩ := zck_some hf
    refine z_iald ((hL.b 0 rfl).t 47 rfl) hi_39 dX0_lay_183 ?_
    obtain ⟨hi_40, hf⟩ := zck_some hf
    obtain ⟨h_41, he, hf⟩ := zlet_some hf
    refine z_iast ((hL.b 0 rfl).t 30 rfl) ((hL.b 0 rfl).nz 30) hi_40 he dX0_lay_184 ?_
    have hL := hL.I he
    refine z_iinc 3 (x6 + 1) dX0_lay_185 rfl rfl (by decide) (lc' := [(0, .ref a), (4, .int x4), (5, .int x5), (6, .int (x6 + 1))]) rfl ?_
    refine z_goto 160 dX0_lay_188 rfl ?_
    cases hf
    exact (hM.1 _ rfl) hL
noncomputable def fX0_lay_J136 (h : zH) (a : Nat) (x3 : Int32) (x4 : Int32) (x5 : Int32) (k0 : Int32) (k1 : Int32) : Option (zX) := zlet (zsI h a 9 (k1 - k0)) (fun h_19 => if x3 < 0 then (fX0_lay_J191 h_19 a x5) else (zck (vp_in 4 6) (zck (vp_in x4 41) (zlet (zsI h_19 (a + 29) x4.toNatClampNeg (zI h_19 (a + 47) (4 : Int32).toNatClampNeg)) (fun h_30 => zlp (fun s => fX0_lay_L160 s.1 a x4 x5 s.2) (h_30, 0))))))
theorem zX0_lay_J136 {F : zF} {h : zH} {a : Nat} {x3 : Int32} {x4 : Int32} {x5 : Int32} {k0 : Int32} {k1 : Int32} {y : zX} (hD : 3 ≤ F.2.1) (hL : zXx h a) (hf : fX0_lay_J136 h a x3 x4 x5 k0 k1 = some y) (hM : (y : zX) = zEnd F) : Z F 7 cX0_lay RX0 "lay" none [] h 136 [(0, .ref a), (3, .int x3), (4, .int x4), (5, .int x5)] [.int k0, .int k1, .ref a] := by
  unfold fX0_lay_J136 at hf
  refine z_isub dX0_lay_136 ?_
  obtain ⟨h_19, he, hf⟩ := zlet_some hf
  refine z_puti fdX0_309_0 ((hL.b 0 rfl).t 0 rfl) ((hL.b 0 rfl).nz 0) he dX0_lay_137 ?_
  have hL := hL.I he
  refine z_iload_n 1 dX0_lay_140 rfl rfl ?_
  refine z_if_lt 191 dX0_lay_141 rfl hf (fun _ hf => ?_) (fun _ hf => ?_)
  · refine z_sub [0, 3] rfl ?_
    exact zX0_lay_J191 hD hL hf hM
  · refine z_aload_n 0 dX0_lay_144 rfl rfl ?_
    refine z_getr fdX0_63_0 (Or.inr ⟨_, rfl⟩) ((hL.b 0 rfl).t 0 rfl) ((hL.b 0 rfl).p 6 rfl) dX0_lay_145 ?_
    refine z_iload 2 dX0_lay_148 rfl ?_
    refine z_aload_n 0 dX0_lay_150 rfl rfl ?_
    refine z_getr fdX0_112_0 (Or.inr ⟨_, rfl⟩) ((hL.b 0 rfl).t 0 rfl) ((hL.b 0 rfl).p 15 rfl) dX0_lay_151 ?_
    refine z_iconst 4 dX0_lay_154 rfl ?_
    obtain ⟨hi_28, hf⟩ := zck_some hf
    refine z_iald ((hL.b 0 rfl).t 47 rfl) hi_28 dX0_lay_155 ?_
    obtain ⟨hi_29, hf⟩ := zck_some hf
    obtain ⟨h_30, he, hf⟩ := zlet_some hf
    refine z_iast ((hL.b 0 rfl).t 29 rfl) ((hL.b 0 rfl).nz 29) hi_29 he dX0_lay_156 ?_
    have hL := hL.I he
    refine z_iconst 0 dX0_lay_157 rfl ?_
    refine z_istore dX0_lay_158 (by decide) (lc' := [(0, .ref a), (3, .int x3), (4, .int x4), (5, .int x5), (6, .int 0)]) rfl ?_
    refine z_sub [0, 2, 3, 4] rfl ?_
    exact z_loop (fun (s : zH × Int32) => (zXx s.1 a → Z F 7 cX0_lay RX0 "lay" none [] s.1 160 [(0, .ref a), (4, .int x4), (5, .int x5), (6, .int s.2)] [])) (fun (r : zX) => (r : zX) = zEnd F) (fun s y hb hs hr hL => zX0_lay_L160 hD hL hb ⟨hs, hr⟩) hf hM hL
noncomputable def fX0_lay_J122 (h : zH) (a : Nat) (x3 : Int32) (x4 : Int32) (x5 : Int32) : Option (zX) := if 0 ≤ x3 then (fX0_lay_J136 h a x3 x4 x5 0 (zI h a 9)) else (fX0_lay_J136 h a x3 x4 x5 1 (zI h a 9))
theorem zX0_lay_J122 {F : zF} {h : zH} {a : Nat} {x3 : Int32} {x4 : Int32} {x5 : Int32} {y : zX} (hD : 3 ≤ F.2.1) (hL : zXx h a) (hf : fX0_lay_J122 h a x3 x4 x5 = some y) (hM : (y : zX) = zEnd F) : Z F 7 cX0_lay RX0 "lay" none [] h 122 [(0, .ref a), (3, .int x3), (4, .int x4), (5, .int x5)] [] := by
  unfold fX0_lay_J122 at hf
  refine z_aload_n 0 dX0_lay_122 rfl rfl ?_
  refine z_dup dX0_lay_123 rfl ?_
  refine z_geti fdX0_309_0 ((hL.b 0 rfl).t 0 rfl) dX0_lay_124 ?_
  refine z_iload_n 1 dX0_lay_127 rfl rfl ?_
  refine z_if_ge 135 dX0_lay_128 rfl hf (fun _ hf => ?_) (fun _ hf => ?_)
  · refine z_iconst 0 dX0_lay_135 rfl ?_
    exact zX0_lay_J136 hD hL hf hM
  · refine z_iconst 1 dX0_lay_131 rfl ?_
    refine z_goto 136 dX0_lay_132 rfl ?_
    exact zX0_lay_J136 hD hL hf hM
theorem suX0_343_0 : zIv RX0 343 yX0_areShort (ws_ yX0_areShort cX0_areShort 2 (some .boolean)) 2 0 0 := ⟨(zGood_c q1228 q97), ⟨_, _, rfl, rfl, qs39⟩, (Or.inl q1225), q1227, ⟨by decide, by decide⟩, by decide +kernel⟩
noncomputable def fX0_lay_J99 (h : zH) (a : Nat) (x3 : Int32) (x4 : Int32) (k0 : Int32) (k1 : Int32) : Option (zX) := zlet (zsI h a 9 (k1 + k0)) (fun h_15 => zb2 (fX0_areLengths h_15 a) (fun v_17 h_18 => if v_17 = 0 then (fX0_lay_J122 h_18 a x3 x4 v_17) else (zb1 (fX0_areShort h_18 a) (fun v_43 => if v_43 = 0 then (fX0_lay_J122 h_18 a x3 x4 v_17) else (some ((.inl none, h_18)))))))
theorem zX0_lay_J99 {F : zF} {h : zH} {a : Nat} {x3 : Int32} {x4 : Int32} {k0 : Int32} {k1 : Int32} {y : zX} (hD : 3 ≤ F.2.1) (hL : zXx h a) (hf : fX0_lay_J99 h a x3 x4 k0 k1 = some y) (hM : (y : zX) = zEnd F) : Z F 7 cX0_lay RX0 "lay" none [] h 99 [(0, .ref a), (3, .int x3), (4, .int x4)] [.int k0, .int k1, .ref a] := by
  unfold fX0_lay_J99 at hf
  refine z_iadd dX0_lay_99 ?_
  obtain ⟨h_15, he, hf⟩ := zlet_some hf
  refine z_puti fdX0_309_0 ((hL.b 0 rfl).t 0 rfl) ((hL.b 0 rfl).nz 0) he dX0_lay_100 ?_
  have hL := hL.I he
  refine z_aload_n 0 dX0_lay_103 rfl rfl ?_
  obtain ⟨v_17, h_18, hc_16, hf⟩ := zb2_some hf
  have hct := ctX0_areLengths (l := F.1) hL hc_16
  refine z_invVi suX0_340_0 hct ((hL.b 0 rfl).t 0 rfl) ⟨Nat.le_trans (by decide) hD, by decide⟩ rfl rfl (Nat.le_of_ble_eq_true rfl) dX0_lay_104 ?_
  have hL := hL.ext hct.1
  refine z_istore dX0_lay_107 (by decide) (lc' := [(0, .ref a), (3, .int x3), (4, .int x4), (5, .int v_17)]) rfl ?_
  refine z_iload 3 dX0_lay_109 rfl ?_
  refine z_if_eq 122 dX0_lay_111 rfl hf (fun _ hf => ?_) (fun _ hf => ?_)
  · exact zX0_lay_J122 hD hL hf hM
  · refine z_aload_n 0 dX0_lay_114 rfl rfl ?_
    obtain ⟨v_43, hc_42, hf⟩ := zb1_some hf
    refine z_invVi suX0_343_0 (ctX0_areShort hL hc_42) ((hL.b 0 rfl).t 0 rfl) ⟨Nat.le_trans (by decide) hD, by decide⟩ rfl rfl (Nat.le_of_ble_eq_true rfl) dX0_lay_115 ?_
    refine z_if_eq 122 dX0_lay_118 rfl hf (fun _ hf => ?_) (fun _ hf => ?_)
    · exact zX0_lay_J122 hD hL hf hM
    · cases hf
      exact z_vret dX0_lay_121 rfl hM
noncomputable def fX0_lay_J12 (h : zH) (a : Nat) (x1 : Int32) (x2 : Int32) (x3 : Int32) (k0 : Int32) : Option (zX) := zck (vp_in k0 41) (zck (vp_in 4 6) (zlet (zsI h (a + 47) (4 : Int32).toNatClampNeg (zI h (a + 29) k0.toNatClampNeg)) (fun h_3 => zb1 (zlp (fun s => fX0_lay_L30 s.1 a x1 x2 x3 k0 s.2) (h_3, 0)) (fun t_7 => zck (vp_in 40 41) (zlet (zsI t_7 (a + 28) (40 : Int32).toNatClampNeg x1) (fun h_9 => zck (vp_in 40 41) (zlet (zsI h_9 (a + 29) (40 : Int32).toNatClampNeg x2) (fun h_11 => zb1 (fX0_setFallback h_11 a k0 40) (fun h_14 => if 0 ≤ x3 then (fX0_lay_J99 h_14 a x3 k0 0 (zI h_14 a 9)) else (fX0_lay_J99 h_14 a x3 k0 1 (zI h_14 a 9)))))))))))
theorem zX0_lay_J12 {F : zF} {h : zH} {a : Nat} {x1 : Int32} {x2 : Int32} {x3 : Int32} {k0 : Int32} {y : zX} (hD : 3 ≤ F.2.1) (hL : zXx h a) (hf : fX0_lay_J12 h a x1 x2 x3 k0 = some y) (hM : (y : zX) = zEnd F) : Z F 7 cX0_lay RX0 "lay" none [] h 12 [(0, .ref a), (1, .int x1), (2, .int x2), (3, .int x3)] [.int k0] := by
  unfold fX0_lay_J12 at hf
  refine z_istore dX0_lay_12 (by decide) (lc' := [(0, .ref a), (1, .int x1), (2, .int x2), (3, .int x3), (4, .int k0)]) rfl ?_
  refine z_aload_n 0 dX0_lay_14 rfl rfl ?_
  refine z_getr fdX0_112_0 (Or.inr ⟨_, rfl⟩) ((hL.b 0 rfl).t 0 rfl) ((hL.b 0 rfl).p 15 rfl) dX0_lay_15 ?_
  refine z_iconst 4 dX0_lay_18 rfl ?_
  refine z_aload_n 0 dX0_lay_19 rfl rfl ?_
  refine z_getr fdX0_63_0 (Or.inr ⟨_, rfl⟩) ((hL.b 0 rfl).t 0 rfl) ((hL.b 0 rfl).p 6 rfl) dX0_lay_20 ?_
  refine z_iload 4 dX0_lay_23 rfl ?_
  obtain ⟨hi_1, hf⟩ := zck_some hf
  refine z_iald ((hL.b 0 rfl).t 29 rfl) hi_1 dX0_lay_25 ?_
  obtain ⟨hi_2, hf⟩ := zck_some hf
  obtain ⟨h_3, he, hf⟩ := zlet_some hf
  refine z_iast ((hL.b 0 rfl).t 47 rfl) ((hL.b 0 rfl).nz 47) hi_2 he dX0_lay_26 ?_
  have hL := hL.I he
  refine z_iconst 0 dX0_lay_27 rfl ?_
  refine z_istore dX0_lay_28 (by decide) (lc' := [(0, .ref a), (1, .int x1), (2, .int x2), (3, .int x3), (4, .int k0), (5, .int 0)]) rfl ?_
  obtain ⟨t_7, hl, hf⟩ := zb1_some hf
  refine z_loop (fun (s : zH × Int32) => (zXx s.1 a → Z F 7 cX0_lay RX0 "lay" none [] s.1 30 [(0, .ref a), (1, .int x1), (2, .int x2), (3, .int x3), (4, .int k0), (5, .int s.2)] [])) (fun (r : zH) => (zXx r a → Z F 7 cX0_lay RX0 "lay" none [] r 61 [(0, .ref a), (1, .int x1), (2, .int x2), (3, .int x3), (4, .int k0)] [])) (fun s y hb hs hr hL => zX0_lay_L30 hD hL hb ⟨hs, hr⟩) hl ?_ hL
  intro hL
  show Z F 7 cX0_lay RX0 "lay" none [] t_7 61 [(0, .ref a), (1, .int x1), (2, .int x2), (3, .int x3), (4, .int k0)] []
  refine z_aload_n 0 dX0_lay_61 rfl rfl ?_
  refine z_getr fdX0_60_0 (Or.inr ⟨_, rfl⟩) ((hL.b 0 rfl).t 0 rfl) ((hL.b 0 rfl).p 5 rfl) dX0_lay_62 ?_
  refine z_bipush 40 dX0_lay_65 rfl ?_
  refine z_iload_n 1 dX0_lay_67 rfl rfl ?_
  obtain ⟨hi_8, hf⟩ := zck_some hf
  obtain ⟨h_9, he, hf⟩ := zlet_some hf
  refine z_iast ((hL.b 0 rfl).t 28 rfl) ((hL.b 0 rfl).nz 28) hi_8 he dX0_lay_68 ?_
  have hL := hL.I he
  refine z_aload_n 0 dX0_lay_69 rfl rfl ?_
  refine z_getr fdX0_63_0 (Or.inr ⟨_, rfl⟩) ((hL.b 0 rfl).t 0 rfl) ((hL.b 0 rfl).p 6 rfl) dX0_lay_70 ?_
  refine z_bipush 40 dX0_lay_73 rfl ?_
  refine z_iload_n 2 dX0_lay_75 rfl rfl ?_
  obtain ⟨hi_10, hf⟩ := zck_some hf
  obtain ⟨h_11, he, hf⟩ := zlet_some hf
  refine z_iast ((hL.b 0 rfl).t 29 rfl) ((hL.b 0 rfl).nz 29) hi_10 he dX0_lay_76 ?_
  have hL := hL.I he
  refine z_aload_n 0 dX0_lay_77 rfl rfl ?_
  refine z_iload 4 dX0_lay_78 rfl ?_
  refine z_bipush 40 dX0_lay_80 rfl ?_
  obtain ⟨h_14, hc_12, hf⟩ := zb1_some hf
  have hct := ctX0_setFallback (l := F.1) hL hc_12
  refine z_invVv suX0_332_0 hct ((hL.b 0 rfl).t 0 rfl) ⟨Nat.le_trans (by decide) hD, by decide⟩ rfl rfl (Nat.le_of_ble_eq_true rfl) dX0_lay_82 ?_
  have hL := hL.ext hct.1
  refine z_aload_n 0 dX0_lay_85 rfl rfl ?_
  refine z_dup dX0_lay_86 rfl ?_
  refine z_geti fdX0_309_0 ((hL.b 0 rfl).t 0 rfl) dX0_lay_87 ?_
  refine z_iload_n 3 dX0_lay_90 rfl rfl ?_
  refine z_if_ge 98 dX0_lay_91 rfl hf (fun _ hf => ?_) (fun _ hf => ?_)
  · refine z_iconst 0 dX0_lay_98 rfl ?_
    refine z_sub [0, 3, 4] rfl ?_
    exact zX0_lay_J99 hD hL hf hM
  · refine z_iconst 1 dX0_lay_94 rfl ?_
    refine z_goto 99 dX0_lay_95 rfl ?_
    refine z_sub [0, 3, 4] rfl ?_
    exact zX0_lay_J99 hD hL hf hM
noncomputable def fX0_lay (h : zH) (a : Nat) (x1 : Int32) (x2 : Int32) (x3 : Int32) : Option (zX) := if 0 ≤ x3 then (fX0_lay_J12 h a x1 x2 x3 x3) else (fX0_lay_J12 h a x1 x2 x3 (zI h a 9))
theorem zX0_lay {F : zF} {h : zH} {a : Nat} {x1 : Int32} {x2 : Int32} {x3 : Int32} {y : zX} (hD : 3 ≤ F.2.1) (hL : zXx h a) (hf : fX0_lay h a x1 x2 x3 = some y) (hM : (y : zX) = zEnd F) : Z F 7 cX0_lay RX0 "lay" none [] h 0 [(0, .ref a), (1, .int x1), (2, .int x2), (3, .int x3)] [] := by
  unfold fX0_lay at hf
  refine z_iload_n 3 dX0_lay_0 rfl rfl ?_
  refine z_if_ge 11 dX0_lay_1 rfl hf (fun _ hf => ?_) (fun _ hf => ?_)
  · refine z_iload_n 3 dX0_lay_11 rfl rfl ?_
    exact zX0_lay_J12 hD hL hf hM
  · refine z_aload_n 0 dX0_lay_4 rfl rfl ?_
    refine z_geti fdX0_309_0 ((hL.b 0 rfl).t 0 rfl) dX0_lay_5 ?_
    refine z_goto 12 dX0_lay_8 rfl ?_
    exact zX0_lay_J12 hD hL hf hM
theorem ctX0_lay {l : Launch} {h : zH} {a : Nat} {x1 : Int32} {x2 : Int32} {x3 : Int32} {y : zX} (hL : zXx h a) (hf : fX0_lay h a x1 x2 x3 = some y) : zC l yX0_lay (ws_ yX0_lay cX0_lay 7 none) 3 [.ref a, .int x1, .int x2, .int x3] h y :=
  z_start (by decide) (Nat.le_of_ble_eq_true rfl) (zX0_lay (F := (l, 3, h, y)) (Nat.le_refl _) hL hf rfl)
theorem suX0_329_0 : zIv RX0 329 yX0_takeText (ws_ yX0_takeText cX0_takeText 4 (some .int)) 4 0 0 := ⟨(zGood_c q1207 q97), ⟨_, _, rfl, rfl, qs35⟩, (Or.inl q1204), q1206, ⟨by decide, by decide⟩, by decide +kernel⟩
theorem suX0_336_0 : zIv RX0 336 yX0_lay (ws_ yX0_lay cX0_lay 7 none) 7 0 3 := ⟨(zGood_c q1219 q97), ⟨_, _, rfl, rfl, qs37⟩, (Or.inl q1216), q1218, ⟨by decide, by decide⟩, by decide +kernel⟩
noncomputable def fX0_fallback_J110 (h : zH) (a : Nat) (x1 : Int32) (x2 : Int32) (x3 : Int32) (k0 : Int32) : Option (Int32 × zH) := zxv (fX0_need h a k0 ((-6))) (fun h_34 => zxv (fX0_lay h_34 a x1 x2 x3) (fun h_45 => zlet (zsI h_45 a 7 0) (fun h_54 => some ((zI h_54 a 9, h_54)))) (fun e_46 h_47 => zck (zT h_47 e_46 = (2, 0)) (zck (zOb 1 h_47 e_46) (zb2 (fX0_answer h_47 a (zI h_47 e_46 6)) (fun v_52 h_53 => some ((v_52, h_53))))))) (fun e_35 h_36 => zck (zT h_36 e_35 = (2, 0)) (zck (zOb 1 h_36 e_35) (zb2 (fX0_answer h_36 a (zI h_36 e_35 6)) (fun v_41 h_42 => some ((v_41, h_42))))))
theorem zX0_fallback_J110 {F : zF} {h : zH} {a : Nat} {x1 : Int32} {x2 : Int32} {x3 : Int32} {k0 : Int32} {y : Int32 × zH} (hD : 4 ≤ F.2.1) (hL : zXx h a) (hf : fX0_fallback_J110 h a x1 x2 x3 k0 = some y) (hM : ((.inl (some (.int y.1)), y.2) : zX) = zEnd F) : Z F 5 cX0_fallback RX0 "fallback" (some .int) [(0, 90, 132, 18), (91, 131, 132, 18)] h 110 [(0, .ref a), (1, .int x1), (2, .int x2), (3, .int x3)] [.int k0, .ref a] := by
  unfold fX0_fallback_J110 at hf
  refine z_bipush (-6) dX0_fallback_110 rfl ?_
  rcases zxv_some hf with ⟨h_34, hc_32, hf⟩ | ⟨e_35, h_36, hc_37, hf⟩
  rotate_left
  · have hct := ctX0_need (l := F.1) hL hc_37
    refine z_invVt suX0_184_0 hct ((hL.b 0 rfl).t 0 rfl) ⟨Nat.le_trans (by decide) hD, by decide⟩ rfl rfl (Nat.le_of_ble_eq_true rfl) dX0_fallback_112 ?_
    have hL := hL.ext hct.1
    obtain ⟨ht_38, hf⟩ := zck_some hf
    refine zt_catch (q := (RX1, TX1, 7)) rfl (by decide) q129 rfl rfl ht_38 ?_
    refine z_astore_n dX0_fallback_132 rfl (by decide) (lc' := [(0, .ref a), (1, .int x1), (2, .ref e_35), (3, .int x3)]) rfl ?_
    refine z_aload_n 0 dX0_fallback_133 rfl rfl ?_
    refine z_aload_n 2 dX0_fallback_134 rfl rfl ?_
    obtain ⟨hK_39, hf⟩ := zck_some hf
    refine z_geti fdX0_17_1 ((hK_39.b 0 rfl).t 0 rfl) dX0_fallback_135 ?_
    obtain ⟨v_41, h_42, hc_40, hf⟩ := zb2_some hf
    have hct := ctX0_answer (l := F.1) hL hc_40
    refine z_invVi suX0_163_0 hct ((hL.b 0 rfl).t 0 rfl) ⟨Nat.le_trans (by decide) hD, by decide⟩ rfl rfl (Nat.le_of_ble_eq_true rfl) dX0_fallback_138 ?_
    have hL := hL.ext hct.1
    have hK_39 := hK_39.ext hct.1
    cases hf
    exact z_iret dX0_fallback_141 rfl hM
  have hct := ctX0_need (l := F.1) hL hc_32
  refine z_invVv suX0_184_0 hct ((hL.b 0 rfl).t 0 rfl) ⟨Nat.le_trans (by decide) hD, by decide⟩ rfl rfl (Nat.le_of_ble_eq_true rfl) dX0_fallback_112 ?_
  have hL := hL.ext hct.1
  refine z_aload_n 0 dX0_fallback_115 rfl rfl ?_
  refine z_iload_n 1 dX0_fallback_116 rfl rfl ?_
  refine z_iload_n 2 dX0_fallback_117 rfl rfl ?_
  refine z_iload_n 3 dX0_fallback_118 rfl rfl ?_
  rcases zxv_some hf with ⟨h_45, hc_43, hf⟩ | ⟨e_46, h_47, hc_48, hf⟩
  rotate_left
  · have hct := ctX0_lay (l := F.1) hL hc_48
    refine z_invVt suX0_336_0 hct ((hL.b 0 rfl).t 0 rfl) ⟨Nat.le_trans (by decide) hD, by decide⟩ rfl rfl (Nat.le_of_ble_eq_true rfl) dX0_fallback_119 ?_
    have hL := hL.ext hct.1
    obtain ⟨ht_49, hf⟩ := zck_some hf
    refine zt_catch (q := (RX1, TX1, 7)) rfl (by decide) q129 rfl rfl ht_49 ?_
    refine z_astore_n dX0_fallback_132 rfl (by decide) (lc' := [(0, .ref a), (1, .int x1), (2, .ref e_46), (3, .int x3)]) rfl ?_
    refine z_aload_n 0 dX0_fallback_133 rfl rfl ?_
    refine z_aload_n 2 dX0_fallback_134 rfl rfl ?_
    obtain ⟨hK_50, hf⟩ := zck_some hf
    refine z_geti fdX0_17_1 ((hK_50.b 0 rfl).t 0 rfl) dX0_fallback_135 ?_
    obtain ⟨v_52, h_53, hc_51, hf⟩ := zb2_some hf
    have hct := ctX0_answer (l := F.1) hL hc_51
    refine z_invVi suX0_163_0 hct ((hL.b 0 rfl).t 0 rfl) ⟨Nat.le_trans (by decide) hD, by decide⟩ rfl rfl (Nat.le_of_ble_eq_true rfl) dX0_fallback_138 ?_
    have hL := hL.ext hct.1
    have hK_50 := hK_50.ext hct.1
    cases hf
    exact z_iret dX0_fallback_141 rfl hM
  have hct := ctX0_lay (l := F.1) hL hc_43
  refine z_invVv suX0_336_0 hct ((hL.b 0 rfl).t 0 rfl) ⟨Nat.le_trans (by decide) hD, by decide⟩ rfl rfl (Nat.le_of_ble_eq_true rfl) dX0_fallback_119 ?_
  have hL := hL.ext hct.1
  refine z_aload_n 0 dX0_fallback_122 rfl rfl ?_
  refine z_iconst 0 dX0_fallback_123 rfl ?_
  obtain ⟨h_54, he, hf⟩ := zlet_some hf
  refine z_puti fdX0_267_0 ((hL.b 0 rfl).t 0 rfl) ((hL.b 0 rfl).nz 0) he dX0_fallback_124 ?_
  have hL := hL.I he
  refine z_aload_n 0 dX0_fallback_127 rfl rfl ?_
  refine z_geti fdX0_309_0 ((hL.b 0 rfl).t 0 rfl) dX0_fallback_128 ?_
  cases hf
  exact z_iret dX0_fallback_131 rfl hM
noncomputable def fX0_fallback_J105 (h : zH) (a : Nat) (x1 : Int32) (x2 : Int32) (x3 : Int32) : Option (Int32 × zH) := fX0_fallback_J110 h a x1 x2 x3 1
theorem zX0_fallback_J105 {F : zF} {h : zH} {a : Nat} {x1 : Int32} {x2 : Int32} {x3 : Int32} {y : Int32 × zH} (hD : 4 ≤ F.2.1) (hL : zXx h a) (hf : fX0_fallback_J105 h a x1 x2 x3 = some y) (hM : ((.inl (some (.int y.1)), y.2) : zX) = zEnd F) : Z F 5 cX0_fallback RX0 "fallback" (some .int) [(0, 90, 132, 18), (91, 131, 132, 18)] h 105 [(0, .ref a), (1, .int x1), (2, .int x2), (3, .int x3)] [.ref a] := by
  unfold fX0_fallback_J105 at hf
  refine z_iconst 1 dX0_fallback_105 rfl ?_
  refine z_goto 110 dX0_fallback_106 rfl ?_
  exact zX0_fallback_J110 hD hL hf hM
noncomputable def fX0_fallback_L56 (h : zH) (a : Nat) (x4 : Int32) : Option ((zH × Int32) ⊕ ((Int32 × zH))) := if (zI h a 9) ≤ x4 then (zlet (zsI h a 7 0) (fun h_57 => some (.inr ((zI h_57 a 9, h_57))))) else (zb1 (fX0_setFallback h a x4 (x4 + 1)) (fun h_60 => some (.inl ((h_60, x4 + 1)))))
theorem zX0_fallback_L56 {F : zF} {h : zH} {a : Nat} {x4 : Int32} {y : (zH × Int32) ⊕ ((Int32 × zH))} (hD : 4 ≤ F.2.1) (hL : zXx h a) (hf : fX0_fallback_L56 h a x4 = some y) (hM : ((∀ s' : zH × Int32, y = .inl s' → (zXx s'.1 a → Z F 5 cX0_fallback RX0 "fallback" (some .int) [(0, 90, 132, 18), (91, 131, 132, 18)] s'.1 56 [(0, .ref a), (4, .int s'.2)] [])) ∧ ∀ r : (Int32 × zH), y = .inr r → ((.inl (some (.int r.1)), r.2) : zX) = zEnd F)) : Z F 5 cX0_fallback RX0 "fallback" (some .int) [(0, 90, 132, 18), (91, 131, 132, 18)] h 56 [(0, .ref a), (4, .int x4)] [] := by
  unfold fX0_fallback_L56 at hf
  refine z_iload 1 dX0_fallback_56 rfl ?_
  refine z_aload_n 0 dX0_fallback_58 rfl rfl ?_
  refine z_geti fdX0_309_0 ((hL.b 0 rfl).t 0 rfl) dX0_fallback_59 ?_
  refine z_icmp_ge 81 dX0_fallback_62 rfl hf (fun _ hf => ?_) (fun _ hf => ?_)
  · refine z_aload_n 0 dX0_fallback_81 rfl rfl ?_
    refine z_iconst 0 dX0_fallback_82 rfl ?_
    obtain ⟨h_57, he, hf⟩ := zlet_some hf
    refine z_puti fdX0_267_0 ((hL.b 0 rfl).t 0 rfl) ((hL.b 0 rfl).nz 0) he dX0_fallback_83 ?_
    have hL := hL.I he
    refine z_aload_n 0 dX0_fallback_86 rfl rfl ?_
    refine z_geti fdX0_309_0 ((hL.b 0 rfl).t 0 rfl) dX0_fallback_87 ?_
    cases hf
    exact z_iret dX0_fallback_90 rfl (hM.2 _ rfl)
  · refine z_aload_n 0 dX0_fallback_65 rfl rfl ?_
    refine z_iload 1 dX0_fallback_66 rfl ?_
    refine z_iload 1 dX0_fallback_68 rfl ?_
    refine z_iconst 1 dX0_fallback_70 rfl ?_
    refine z_iadd dX0_fallback_71 ?_
    obtain ⟨h_60, hc_58, hf⟩ := zb1_some hf
    have hct := ctX0_setFallback (l := F.1) hL hc_58
    refine z_invVv suX0_332_0 hct ((hL.b 0 rfl).t 0 rfl) ⟨Nat.le_trans (by decide) hD, by decide⟩ rfl rfl (Nat.le_of_ble_eq_true rfl) dX0_fallback_72 ?_
    have hL := hL.ext hct.1
    refine z_iinc 1 (x4 + 1) dX0_fallback_75 rfl rfl (by decide) (lc' := [(0, .ref a), (4, .int (x4 + 1))]) rfl ?_
    refine z_goto 56 dX0_fallback_78 rfl ?_
    cases hf
    exact (hM.1 _ rfl) hL
noncomputable def fX0_fallback_J24 (h : zH) (a : Nat) (x1 : Int32) (x2 : Int32) (k0 : Int32) : Option (Int32 × zH) := zxv (fX0_need h a k0 ((-8))) (fun h_20 => zb1 (fX0_fallbackOf h_20 a x1) (fun v_30 => if x2 = 0 then (if v_30 < 0 then (zlet (zsI h_20 a 7 0) (fun h_55 => some ((zI h_55 a 9, h_55)))) else (zlet (zsI h_20 a 9 ((zI h_20 a 9) - 1)) (fun h_56 => zlp (fun s => fX0_fallback_L56 s.1 a s.2) (h_56, v_30)))) else (if 0 ≤ v_30 then (fX0_fallback_J105 h_20 a x1 x2 v_30) else (if 40 ≤ (zI h_20 a 9) then (fX0_fallback_J110 h_20 a x1 x2 v_30 0) else (fX0_fallback_J105 h_20 a x1 x2 v_30))))) (fun e_21 h_22 => zck (zT h_22 e_21 = (2, 0)) (zck (zOb 1 h_22 e_21) (zb2 (fX0_answer h_22 a (zI h_22 e_21 6)) (fun v_27 h_28 => some ((v_27, h_28))))))
theorem zX0_fallback_J24 {F : zF} {h : zH} {a : Nat} {x1 : Int32} {x2 : Int32} {k0 : Int32} {y : Int32 × zH} (hD : 4 ≤ F.2.1) (hL : zXx h a) (hf : fX0_fallback_J24 h a x1 x2 k0 = some y) (hM : ((.inl (some (.int y.1)), y.2) : zX) = zEnd F) : Z F 5 cX0_fallback RX0 "fallback" (some .int) [(0, 90, 132, 18), (91, 131, 132, 18)] h 24 [(0, .ref a), (1, .int x1), (2, .int x2)] [.int k0, .ref a] := by
  unfold fX0_fallback_J24 at hf
  refine z_bipush (-8) dX0_fallback_24 rfl ?_
  rcases zxv_some hf with ⟨h_20, hc_18, hf⟩ | ⟨e_21, h_22, hc_23, hf⟩
  rotate_left
  · have hct := ctX0_need (l := F.1) hL hc_23
    refine z_invVt suX0_184_0 hct ((hL.b 0 rfl).t 0 rfl) ⟨Nat.le_trans (by decide) hD, by decide⟩ rfl rfl (Nat.le_of_ble_eq_true rfl) dX0_fallback_26 ?_
    have hL := hL.ext hct.1
    obtain ⟨ht_24, hf⟩ := zck_some hf
    refine zt_catch (q := (RX1, TX1, 7)) rfl (by decide) q129 rfl rfl ht_24 ?_
    refine z_astore_n dX0_fallback_132 rfl (by decide) (lc' := [(0, .ref a), (1, .int x1), (2, .ref e_21)]) rfl ?_
    refine z_aload_n 0 dX0_fallback_133 rfl rfl ?_
    refine z_aload_n 2 dX0_fallback_134 rfl rfl ?_
    obtain ⟨hK_25, hf⟩ := zck_some hf
    refine z_geti fdX0_17_1 ((hK_25.b 0 rfl).t 0 rfl) dX0_fallback_135 ?_
    obtain ⟨v_27, h_28, hc_26, hf⟩ := zb2_some hf
    have hct := ctX0_answer (l := F.1) hL hc_26
    refine z_invVi suX0_163_0 hct ((hL.b 0 rfl).t 0 rfl) ⟨Nat.le_trans (by decide) hD, by decide⟩ rfl rfl (Nat.le_of_ble_eq_true rfl) dX0_fallback_138 ?_
    have hL := hL.ext hct.1
    have hK_25 := hK_25.ext hct.1
    cases hf
    exact z_iret dX0_fallback_141 rfl hM
  have hct := ctX0_need (l := F.1) hL hc_18
  refine z_invVv suX0_184_0 hct ((hL.b 0 rfl).t 0 rfl) ⟨Nat.le_trans (by decide) hD, by decide⟩ rfl rfl (Nat.le_of_ble_eq_true rfl) dX0_fallback_26 ?_
  have hL := hL.ext hct.1
  refine z_aload_n 0 dX0_fallback_29 rfl rfl ?_
  refine z_iload_n 1 dX0_fallback_30 rfl rfl ?_
  obtain ⟨v_30, hc_29, hf⟩ := zb1_some hf
  refine z_invVi suX0_312_0 (ctX0_fallbackOf hL hc_29) ((hL.b 0 rfl).t 0 rfl) ⟨Nat.le_trans (by decide) hD, by decide⟩ rfl rfl (Nat.le_of_ble_eq_true rfl) dX0_fallback_31 ?_
  refine z_istore_n dX0_fallback_34 rfl (by decide) (lc' := [(0, .ref a), (1, .int x1), (2, .int x2), (3, .int v_30)]) rfl ?_
  refine z_iload_n 2 dX0_fallback_35 rfl rfl ?_
  refine z_if_ne 91 dX0_fallback_36 rfl hf (fun _ hf => ?_) (fun _ hf => ?_)
  · refine z_aload_n 0 dX0_fallback_91 rfl rfl ?_
    refine z_iload_n 3 dX0_fallback_92 rfl rfl ?_
    refine z_if_ge 105 dX0_fallback_93 rfl hf (fun _ hf => ?_) (fun _ hf => ?_)
    · exact zX0_fallback_J105 hD hL hf hM
    · refine z_aload_n 0 dX0_fallback_96 rfl rfl ?_
      refine z_geti fdX0_309_0 ((hL.b 0 rfl).t 0 rfl) dX0_fallback_97 ?_
      refine z_bipush 40 dX0_fallback_100 rfl ?_
      refine z_icmp_ge 109 dX0_fallback_102 rfl hf (fun _ hf => ?_) (fun _ hf => ?_)
      · refine z_iconst 0 dX0_fallback_109 rfl ?_
        exact zX0_fallback_J110 hD hL hf hM
      · exact zX0_fallback_J105 hD hL hf hM
  · refine z_iload_n 3 dX0_fallback_39 rfl rfl ?_
    refine z_if_lt 81 dX0_fallback_40 rfl hf (fun _ hf => ?_) (fun _ hf => ?_)
    · refine z_aload_n 0 dX0_fallback_81 rfl rfl ?_
      refine z_iconst 0 dX0_fallback_82 rfl ?_
      obtain ⟨h_55, he, hf⟩ := zlet_some hf
      refine z_puti fdX0_267_0 ((hL.b 0 rfl).t 0 rfl) ((hL.b 0 rfl).nz 0) he dX0_fallback_83 ?_
      have hL := hL.I he
      refine z_aload_n 0 dX0_fallback_86 rfl rfl ?_
      refine z_geti fdX0_309_0 ((hL.b 0 rfl).t 0 rfl) dX0_fallback_87 ?_
      cases hf
      exact z_iret dX0_fallback_90 rfl hM
    · refine z_aload_n 0 dX0_fallback_43 rfl rfl ?_
      refine z_dup dX0_fallback_44 rfl ?_
      refine z_geti fdX0_309_0 ((hL.b 0 rfl).t 0 rfl) dX0_fallback_45 ?_
      refine z_iconst 1 dX0_fallback_48 rfl ?_
      refine z_isub dX0_fallback_49 ?_
      obtain ⟨h_56, he, hf⟩ := zlet_some hf
      refine z_puti fdX0_309_0 ((hL.b 0 rfl).t 0 rfl) ((hL.b 0 rfl).nz 0) he dX0_fallback_50 ?_
      have hL := hL.I he
      refine z_iload_n 3 dX0_fallback_53 rfl rfl ?_
      refine z_istore dX0_fallback_54 (by decide) (lc' := [(0, .ref a), (1, .int x1), (2, .int x2), (3, .int v_30), (4, .int v_30)]) rfl ?_
      refine z_sub [0, 4] rfl ?_
      exact z_loop (fun (s : zH × Int32) => (zXx s.1 a → Z F 5 cX0_fallback RX0 "fallback" (some .int) [(0, 90, 132, 18), (91, 131, 132, 18)] s.1 56 [(0, .ref a), (4, .int s.2)] [])) (fun (r : (Int32 × zH)) => ((.inl (some (.int r.1)), r.2) : zX) = zEnd F) (fun s y hb hs hr hL => zX0_fallback_L56 hD hL hb ⟨hs, hr⟩) hf hM hL
noncomputable def fX0_fallback (h : zH) (a : Nat) (x1 : Int32) : Option (Int32 × zH) := zb1 (fX0_isPoint x1) (fun v_2 => zxv (fX0_need h a v_2 ((-1))) (fun h_6 => zb2 (fX0_takeText h_6 a) (fun v_16 h_17 => if v_16 < 0 then (fX0_fallback_J24 h_17 a x1 v_16 0) else (fX0_fallback_J24 h_17 a x1 v_16 1))) (fun e_7 h_8 => zck (zT h_8 e_7 = (2, 0)) (zck (zOb 1 h_8 e_7) (zb2 (fX0_answer h_8 a (zI h_8 e_7 6)) (fun v_13 h_14 => some ((v_13, h_14)))))))
theorem zX0_fallback {F : zF} {h : zH} {a : Nat} {x1 : Int32} {y : Int32 × zH} (hD : 4 ≤ F.2.1) (hL : zXx h a) (hf : fX0_fallback h a x1 = some y) (hM : ((.inl (some (.int y.1)), y.2) : zX) = zEnd F) : Z F 5 cX0_fallback RX0 "fallback" (some .int) [(0, 90, 132, 18), (91, 131, 132, 18)] h 0 [(0, .ref a), (1, .int x1)] [] := by
  unfold fX0_fallback at hf
  refine z_aload_n 0 dX0_fallback_0 rfl rfl ?_
  refine z_iload_n 1 dX0_fallback_1 rfl rfl ?_
  obtain ⟨v_2, hc_1, hf⟩ := zb1_some hf
  refine z_invSi suX0_195_s (ctX0_isPoint hc_1) ⟨Nat.le_trans (by decide) hD, by decide⟩ rfl rfl (Nat.le_of_ble_eq_true rfl) dX0_fallback_2 ?_
  refine z_iconst (-1) dX0_fallback_5 rfl ?_
  rcases zxv_some hf with ⟨h_6, hc_4, hf⟩ | ⟨e_7, h_8, hc_9, hf⟩
  rotate_left
  · have hct := ctX0_need (l := F.1) hL hc_9
    refine z_invVt suX0_184_0 hct ((hL.b 0 rfl).t 0 rfl) ⟨Nat.le_trans (by decide) hD, by decide⟩ rfl rfl (Nat.le_of_ble_eq_true rfl) dX0_fallback_6 ?_
    have hL := hL.ext hct.1
    obtain ⟨ht_10, hf⟩ := zck_some hf
    refine zt_catch (q := (RX1, TX1, 7)) rfl (by decide) q129 rfl rfl ht_10 ?_
    refine z_astore_n dX0_fallback_132 rfl (by decide) (lc' := [(0, .ref a), (1, .int x1), (2, .ref e_7)]) rfl ?_
    refine z_aload_n 0 dX0_fallback_133 rfl rfl ?_
    refine z_aload_n 2 dX0_fallback_134 rfl rfl ?_
    obtain ⟨hK_11, hf⟩ := zck_some hf
    refine z_geti fdX0_17_1 ((hK_11.b 0 rfl).t 0 rfl) dX0_fallback_135 ?_
    obtain ⟨v_13, h_14, hc_12, hf⟩ := zb2_some hf
    have hct := ctX0_answer (l := F.1) hL hc_12
    refine z_invVi suX0_163_0 hct ((hL.b 0 rfl).t 0 rfl) ⟨Nat.le_trans (by decide) hD, by decide⟩ rfl rfl (Nat.le_of_ble_eq_true rfl) dX0_fallback_138 ?_
    have hL := hL.ext hct.1
    have hK_11 := hK_11.ext hct.1
    cases hf
    exact z_iret dX0_fallback_141 rfl hM
  have hct := ctX0_need (l := F.1) hL hc_4
  refine z_invVv suX0_184_0 hct ((hL.b 0 rfl).t 0 rfl) ⟨Nat.le_trans (by decide) hD, by decide⟩ rfl rfl (Nat.le_of_ble_eq_true rfl) dX0_fallback_6 ?_
  have hL := hL.ext hct.1
  refine z_aload_n 0 dX0_fallback_9 rfl rfl ?_
  obtain ⟨v_16, h_17, hc_15, hf⟩ := zb2_some hf
  have hct := ctX0_takeText (l := F.1) hL hc_15
  refine z_invVi suX0_329_0 hct ((hL.b 0 rfl).t 0 rfl) ⟨Nat.le_trans (by decide) hD, by decide⟩ rfl rfl (Nat.le_of_ble_eq_true rfl) dX0_fallback_10 ?_
  have hL := hL.ext hct.1
  refine z_istore_n dX0_fallback_13 rfl (by decide) (lc' := [(0, .ref a), (1, .int x1), (2, .int v_16)]) rfl ?_
  refine z_aload_n 0 dX0_fallback_14 rfl rfl ?_
  refine z_iload_n 2 dX0_fallback_15 rfl rfl ?_
  refine z_if_lt 23 dX0_fallback_16 rfl hf (fun _ hf => ?_) (fun _ hf => ?_)
  · refine z_iconst 0 dX0_fallback_23 rfl ?_
    exact zX0_fallback_J24 hD hL hf hM
  · refine z_iconst 1 dX0_fallback_19 rfl ?_
    refine z_goto 24 dX0_fallback_20 rfl ?_
    exact zX0_fallback_J24 hD hL hf hM
theorem ctX0_fallback {l : Launch} {h : zH} {a : Nat} {x1 : Int32} {v : Int32} {h' : zH} (hL : zXx h a) (hf : fX0_fallback h a x1 = some (v, h')) : zC l yX0_fallback (wsW_ yX0_fallback cX0_fallback 5 (some .int) [(0, 90, 132, 18), (91, 131, 132, 18)]) 4 [.ref a, .int x1] h (.inl (some (.int v)), h') :=
  z_startW (by decide) (Nat.le_of_ble_eq_true rfl) (zX0_fallback (F := (l, 4, h, (.inl (some (.int v)), h'))) (Nat.le_refl _) hL hf rfl)
noncomputable def fV_Machine_begin (h : zH) (b : Nat) (p0 : Nat) (p1 : Int32) (p2 : Nat) : Option (zH) := if zT h b = (4, 0) then (zb1 (zP h b 11) (fun xx => zck (zRd h b xx) (fX4_begin_3 h b xx p0 p1 p2))) else if zT h b = (5, 0) then (zb1 (zP h b 11) (fun xx => zck (zWr h b xx) (fX4_begin_4 h b xx p0 p1 p2))) else none
theorem lV_Machine_begin {l : Launch} {h : zH} {b : Nat} {p0 : Nat} {p1 : Int32} {p2 : Nat} {h' : zH} (hf : fV_Machine_begin h b p0 p1 p2 = some h') : zLx h h' := by
  unfold fV_Machine_begin at hf
  refine zdsp hf (fun e hf => ?_) (fun _ hf => ?_)
  · obtain ⟨xx, hx, hf⟩ := zb1_some hf
    obtain ⟨hK, hf⟩ := zck_some hf
    have hc := hf
    exact (ctX4_begin_3 (l := l) hK hc).1
  refine zdsp hf (fun e hf => ?_) (fun _ hf => ?_)
  · obtain ⟨xx, hx, hf⟩ := zb1_some hf
    obtain ⟨hK, hf⟩ := zck_some hf
    have hc := hf
    exact (ctX4_begin_4 (l := l) hK hc).1
  cases hf
theorem zVX0_287v {F : zF} {nL : Nat} {cc : ByteArray} {nm : String} {ret : Option FieldType} {hh : List (Nat × Nat × Nat × Nat)} {h h1 : zH} {pc b : Nat} {lc : List (Nat × Value)} {st : List Value} {p0 : Nat} {p1 : Int32} {p2 : Nat}  (hD : 2 ≤ F.2.1) (hf : fV_Machine_begin h b p0 p1 p2 = some h1) (hcat : (st.map fun v => v.category).sum ≤ 8) (hd : decode cc pc = .ok (.invokevirtual 287, 3)) (kk : Z F nL cc RX0 nm ret hh h1 (pc + 3) lc (st)) : Z F nL cc RX0 nm ret hh h pc lc (.ref p2 :: .int p1 :: .ref p0 :: .ref b :: st) := by
  unfold fV_Machine_begin at hf
  refine zdsp hf (fun e hf => ?_) (fun _ hf => ?_)
  · obtain ⟨xx, hx, hf⟩ := zb1_some hf
    obtain ⟨hK, hf⟩ := zck_some hf
    have hc := hf
    exact z_invUv suX0_287_3 (ctX4_begin_3 hK hc) e ⟨Nat.le_trans (by decide) hD, by decide⟩ rfl rfl hcat hd kk
  refine zdsp hf (fun e hf => ?_) (fun _ hf => ?_)
  · obtain ⟨xx, hx, hf⟩ := zb1_some hf
    obtain ⟨hK, hf⟩ := zck_some hf
    have hc := hf
    exact z_invUv suX0_287_4 (ctX4_begin_4 hK hc) e ⟨Nat.le_trans (by decide) hD, by decide⟩ rfl rfl hcat hd kk
  cases hf
noncomputable def fX0_begin_J57 (h : zH) (a : Nat) (x1 : Int32) (x4 : Int32) (x5 : Nat) (k0 : Nat) : Option (Int32 × zH) := zb1 (fV_Machine_begin h k0 x5 x4 k0) (fun h_45 => zck (vp_in x1 4) (zb1 (zP h_45 (a + 32) x1.toNatClampNeg) (fun b_47 => zck (zOb 6 h_45 b_47) (zlet (zsP h_45 b_47 0 (some k0)) (fun h_49 => some ((0, h_49)))))))
theorem zX0_begin_J57 {F : zF} {h : zH} {a : Nat} {x1 : Int32} {x4 : Int32} {x5 : Nat} {k0 : Nat} {y : Int32 × zH} (hD : 123 ≤ F.2.1) (hL : zXx h a) (hf : fX0_begin_J57 h a x1 x4 x5 k0 = some y) (hM : ((.inl (some (.int y.1)), y.2) : zX) = zEnd F) : Z F 7 cX0_begin RX0 "begin" (some .int) [(0, 82, 83, 18)] h 57 [(0, .ref a), (1, .int x1), (4, .int x4), (5, .ref x5)] [.ref k0] := by
  unfold fX0_begin_J57 at hf
  refine z_astore dX0_begin_57 (by decide) (lc' := [(0, .ref a), (1, .int x1), (4, .int x4), (5, .ref x5), (6, .ref k0)]) rfl ?_
  refine z_aload 4 dX0_begin_59 rfl ?_
  refine z_aload 3 dX0_begin_61 rfl ?_
  refine z_iload 2 dX0_begin_63 rfl ?_
  refine z_aload 4 dX0_begin_65 rfl ?_
  obtain ⟨h_45, hc_43, hf⟩ := zb1_some hf
  have hct : zLx _ _ ∧ True := ⟨lV_Machine_begin (l := F.1) hc_43, trivial⟩
  refine zVX0_287v (Nat.le_trans (by decide) hD) hc_43 (Nat.le_of_ble_eq_true rfl) dX0_begin_67 ?_
  have hL := hL.ext hct.1
  refine z_aload_n 0 dX0_begin_70 rfl rfl ?_
  refine z_getr fdX0_72_0 (Or.inr ⟨_, rfl⟩) ((hL.b 0 rfl).t 0 rfl) ((hL.b 0 rfl).p 9 rfl) dX0_begin_71 ?_
  refine z_iload_n 1 dX0_begin_74 rfl rfl ?_
  obtain ⟨hi_46, hf⟩ := zck_some hf
  obtain ⟨b_47, hb_47, hf⟩ := zb1_some hf
  refine z_aldr (t := 3) rfl (Or.inl ⟨_, rfl⟩) ((hL.b 0 rfl).t 32 rfl) hi_46 hb_47 dX0_begin_75 ?_
  refine z_aload 4 dX0_begin_76 rfl ?_
  obtain ⟨hK_48, hf⟩ := zck_some hf
  obtain ⟨h_49, he, hf⟩ := zlet_some hf
  have hfn := zFd_fn fdX0_128_6 ((hK_48.b 0 rfl).t 0 rfl)
  refine z_putr fdX0_128_6 (Or.inl ⟨_, rfl⟩) ((hK_48.b 0 rfl).t 0 rfl) ((hK_48.b 0 rfl).nz 0) he dX0_begin_78 ?_
  have hL := hL.P hfn he
  have hK_48 := hK_48.P hfn he
  refine z_iconst 0 dX0_begin_81 rfl ?_
  cases hf
  exact z_iret dX0_begin_82 rfl hM
noncomputable def fX0_begin_J31 (h : zH) (a : Nat) (x1 : Int32) (x3 : Int32) (x4 : Int32) (x5 : Nat) (k0 : Int32) (k1 : Int32) (k2 : Int32) : Option (Int32 × zH) := zb1 (fX0_in k2 k1 k0) (fun v_28 => zxv (fX0_need h a v_28 ((-1))) (fun h_32 => if x3 = 0 then (zck (vp_in x1 4) (zb1 (zP h_32 (a + 33) x1.toNatClampNeg) (fun b_42 => fX0_begin_J57 h_32 a x1 x4 x5 b_42))) else (zck (vp_in x1 4) (zb1 (zP h_32 (a + 34) x1.toNatClampNeg) (fun b_51 => fX0_begin_J57 h_32 a x1 x4 x5 b_51)))) (fun e_33 h_34 => zck (zT h_34 e_33 = (2, 0)) (zck (zOb 1 h_34 e_33) (zb2 (fX0_answer h_34 a (zI h_34 e_33 6)) (fun v_39 h_40 => some ((v_39, h_40)))))))
theorem zX0_begin_J31 {F : zF} {h : zH} {a : Nat} {x1 : Int32} {x3 : Int32} {x4 : Int32} {x5 : Nat} {k0 : Int32} {k1 : Int32} {k2 : Int32} {y : Int32 × zH} (hD : 123 ≤ F.2.1) (hL : zXx h a) (hf : fX0_begin_J31 h a x1 x3 x4 x5 k0 k1 k2 = some y) (hM : ((.inl (some (.int y.1)), y.2) : zX) = zEnd F) : Z F 7 cX0_begin RX0 "begin" (some .int) [(0, 82, 83, 18)] h 31 [(0, .ref a), (1, .int x1), (3, .int x3), (4, .int x4), (5, .ref x5)] [.int k0, .int k1, .int k2, .ref a] := by
  unfold fX0_begin_J31 at hf
  obtain ⟨v_28, hc_27, hf⟩ := zb1_some hf
  refine z_invSi suX0_4_s (ctX0_in hc_27) ⟨Nat.le_trans (by decide) hD, by decide⟩ rfl rfl (Nat.le_of_ble_eq_true rfl) dX0_begin_31 ?_
  refine z_iconst (-1) dX0_begin_34 rfl ?_
  rcases zxv_some hf with ⟨h_32, hc_30, hf⟩ | ⟨e_33, h_34, hc_35, hf⟩
  rotate_left
  · have hct := ctX0_need (l := F.1) hL hc_35
    refine z_invVt suX0_184_0 hct ((hL.b 0 rfl).t 0 rfl) ⟨Nat.le_trans (by decide) hD, by decide⟩ rfl rfl (Nat.le_of_ble_eq_true rfl) dX0_begin_35 ?_
    have hL := hL.ext hct.1
    obtain ⟨ht_36, hf⟩ := zck_some hf
    refine zt_catch (q := (RX1, TX1, 7)) rfl (by decide) q129 rfl rfl ht_36 ?_
    refine z_astore dX0_begin_83 (by decide) (lc' := [(0, .ref a), (1, .int x1), (3, .int x3), (4, .int x4), (5, .ref e_33)]) rfl ?_
    refine z_aload_n 0 dX0_begin_85 rfl rfl ?_
    refine z_aload 4 dX0_begin_86 rfl ?_
    obtain ⟨hK_37, hf⟩ := zck_some hf
    refine z_geti fdX0_17_1 ((hK_37.b 0 rfl).t 0 rfl) dX0_begin_88 ?_
    obtain ⟨v_39, h_40, hc_38, hf⟩ := zb2_some hf
    have hct := ctX0_answer (l := F.1) hL hc_38
    refine z_invVi suX0_163_0 hct ((hL.b 0 rfl).t 0 rfl) ⟨Nat.le_trans (by decide) hD, by decide⟩ rfl rfl (Nat.le_of_ble_eq_true rfl) dX0_begin_91 ?_
    have hL := hL.ext hct.1
    have hK_37 := hK_37.ext hct.1
    cases hf
    exact z_iret dX0_begin_94 rfl hM
  have hct := ctX0_need (l := F.1) hL hc_30
  refine z_invVv suX0_184_0 hct ((hL.b 0 rfl).t 0 rfl) ⟨Nat.le_trans (by decide) hD, by decide⟩ rfl rfl (Nat.le_of_ble_eq_true rfl) dX0_begin_35 ?_
  have hL := hL.ext hct.1
  refine z_iload_n 2 dX0_begin_38 rfl rfl ?_
  refine z_if_eq 51 dX0_begin_39 rfl hf (fun _ hf => ?_) (fun _ hf => ?_)
  · refine z_aload_n 0 dX0_begin_51 rfl rfl ?_
    refine z_getr fdX0_77_0 (Or.inr ⟨_, rfl⟩) ((hL.b 0 rfl).t 0 rfl) ((hL.b 0 rfl).p 10 rfl) dX0_begin_52 ?_
    refine z_iload_n 1 dX0_begin_55 rfl rfl ?_
    obtain ⟨hi_41, hf⟩ := zck_some hf
    obtain ⟨b_42, hb_42, hf⟩ := zb1_some hf
    refine z_aldr (t := 4) rfl (Or.inl ⟨_, rfl⟩) ((hL.b 0 rfl).t 33 rfl) hi_41 hb_42 dX0_begin_56 ?_
    refine z_sub [0, 1, 3, 4] rfl ?_
    exact zX0_begin_J57 hD hL hf hM
  · refine z_aload_n 0 dX0_begin_42 rfl rfl ?_
    refine z_getr fdX0_83_0 (Or.inr ⟨_, rfl⟩) ((hL.b 0 rfl).t 0 rfl) ((hL.b 0 rfl).p 11 rfl) dX0_begin_43 ?_
    refine z_iload_n 1 dX0_begin_46 rfl rfl ?_
    obtain ⟨hi_50, hf⟩ := zck_some hf
    obtain ⟨b_51, hb_51, hf⟩ := zb1_some hf
    refine z_aldr (t := 5) rfl (Or.inl ⟨_, rfl⟩) ((hL.b 0 rfl).t 34 rfl) hi_50 hb_51 dX0_begin_47 ?_
    refine z_goto 57 dX0_begin_48 rfl ?_
    refine z_sub [0, 1, 3, 4] rfl ?_
    exact zX0_begin_J57 hD hL hf hM
noncomputable def fX0_begin (h : zH) (a : Nat) (x1 : Int32) (x2 : Int32) (x3 : Int32) (x4 : Int32) : Option (Int32 × zH) := zb1 (fX0_in x1 0 3) (fun v_2 => zxv (fX0_need h a v_2 ((-1))) (fun h_6 => zxr (fX0_closedAt h_6 a x2) (fun v_16 h_17 => zb1 v_16 (fun b_26 => if x3 = 0 then (fX0_begin_J31 h_17 a x1 x3 x4 b_26 3 0 x4) else (fX0_begin_J31 h_17 a x1 x3 x4 b_26 4 0 x4))) (fun e_18 h_19 => zck (zT h_19 e_18 = (2, 0)) (zck (zOb 1 h_19 e_18) (zb2 (fX0_answer h_19 a (zI h_19 e_18 6)) (fun v_24 h_25 => some ((v_24, h_25))))))) (fun e_7 h_8 => zck (zT h_8 e_7 = (2, 0)) (zck (zOb 1 h_8 e_7) (zb2 (fX0_answer h_8 a (zI h_8 e_7 6)) (fun v_13 h_14 => some ((v_13, h_14)))))))
theorem zX0_begin {F : zF} {h : zH} {a : Nat} {x1 : Int32} {x2 : Int32} {x3 : Int32} {x4 : Int32} {y : Int32 × zH} (hD : 123 ≤ F.2.1) (hL : zXx h a) (hf : fX0_begin h a x1 x2 x3 x4 = some y) (hM : ((.inl (some (.int y.1)), y.2) : zX) = zEnd F) : Z F 7 cX0_begin RX0 "begin" (some .int) [(0, 82, 83, 18)] h 0 [(0, .ref a), (1, .int x1), (2, .int x2), (3, .int x3), (4, .int x4)] [] := by
  unfold fX0_begin at hf
  refine z_aload_n 0 dX0_begin_0 rfl rfl ?_
  refine z_iload_n 1 dX0_begin_1 rfl rfl ?_
  refine z_iconst 0 dX0_begin_2 rfl ?_
  refine z_iconst 3 dX0_begin_3 rfl ?_
  obtain ⟨v_2, hc_1, hf⟩ := zb1_some hf
  refine z_invSi suX0_4_s (ctX0_in hc_1) ⟨Nat.le_trans (by decide) hD, by decide⟩ rfl rfl (Nat.le_of_ble_eq_true rfl) dX0_begin_4 ?_
  refine z_iconst (-1) dX0_begin_7 rfl ?_
  rcases zxv_some hf with ⟨h_6, hc_4, hf⟩ | ⟨e_7, h_8, hc_9, hf⟩
  rotate_left
  · have hct := ctX0_need (l := F.1) hL hc_9
    refine z_invVt suX0_184_0 hct ((hL.b 0 rfl).t 0 rfl) ⟨Nat.le_trans (by decide) hD, by decide⟩ rfl rfl (Nat.le_of_ble_eq_true rfl) dX0_begin_8 ?_
    have hL := hL.ext hct.1
    obtain ⟨ht_10, hf⟩ := zck_some hf
    refine zt_catch (q := (RX1, TX1, 7)) rfl (by decide) q129 rfl rfl ht_10 ?_
    refine z_astore dX0_begin_83 (by decide) (lc' := [(0, .ref a), (1, .int x1), (2, .int x2), (3, .int x3), (4, .int x4), (5, .ref e_7)]) rfl ?_
    refine z_aload_n 0 dX0_begin_85 rfl rfl ?_
    refine z_aload 5 dX0_begin_86 rfl ?_
    obtain ⟨hK_11, hf⟩ := zck_some hf
    refine z_geti fdX0_17_1 ((hK_11.b 0 rfl).t 0 rfl) dX0_begin_88 ?_
    obtain ⟨v_13, h_14, hc_12, hf⟩ := zb2_some hf
    have hct := ctX0_answer (l := F.1) hL hc_12
    refine z_invVi suX0_163_0 hct ((hL.b 0 rfl).t 0 rfl) ⟨Nat.le_trans (by decide) hD, by decide⟩ rfl rfl (Nat.le_of_ble_eq_true rfl) dX0_begin_91 ?_
    have hL := hL.ext hct.1
    have hK_11 := hK_11.ext hct.1
    cases hf
    exact z_iret dX0_begin_94 rfl hM
  have hct := ctX0_need (l := F.1) hL hc_4
  refine z_invVv suX0_184_0 hct ((hL.b 0 rfl).t 0 rfl) ⟨Nat.le_trans (by decide) hD, by decide⟩ rfl rfl (Nat.le_of_ble_eq_true rfl) dX0_begin_8 ?_
  have hL := hL.ext hct.1
  refine z_aload_n 0 dX0_begin_11 rfl rfl ?_
  refine z_iload_n 2 dX0_begin_12 rfl rfl ?_
  rcases zxr_some hf with ⟨v_16, h_17, hc_15, hf⟩ | ⟨e_18, h_19, hc_20, hf⟩
  rotate_left
  · have hct := ctX0_closedAt (l := F.1) hL hc_20
    refine z_invVt suX0_255_0 hct ((hL.b 0 rfl).t 0 rfl) ⟨Nat.le_trans (by decide) hD, by decide⟩ rfl rfl (Nat.le_of_ble_eq_true rfl) dX0_begin_13 ?_
    have hL := hL.ext hct.1
    obtain ⟨ht_21, hf⟩ := zck_some hf
    refine zt_catch (q := (RX1, TX1, 7)) rfl (by decide) q129 rfl rfl ht_21 ?_
    refine z_astore dX0_begin_83 (by decide) (lc' := [(0, .ref a), (1, .int x1), (2, .int x2), (3, .int x3), (4, .int x4), (5, .ref e_18)]) rfl ?_
    refine z_aload_n 0 dX0_begin_85 rfl rfl ?_
    refine z_aload 5 dX0_begin_86 rfl ?_
    obtain ⟨hK_22, hf⟩ := zck_some hf
    refine z_geti fdX0_17_1 ((hK_22.b 0 rfl).t 0 rfl) dX0_begin_88 ?_
    obtain ⟨v_24, h_25, hc_23, hf⟩ := zb2_some hf
    have hct := ctX0_answer (l := F.1) hL hc_23
    refine z_invVi suX0_163_0 hct ((hL.b 0 rfl).t 0 rfl) ⟨Nat.le_trans (by decide) hD, by decide⟩ rfl rfl (Nat.le_of_ble_eq_true rfl) dX0_begin_91 ?_
    have hL := hL.ext hct.1
    have hK_22 := hK_22.ext hct.1
    cases hf
    exact z_iret dX0_begin_94 rfl hM
  have hct := ctX0_closedAt (l := F.1) hL hc_15
  refine z_invVq suX0_255_0 hct ((hL.b 0 rfl).t 0 rfl) ⟨Nat.le_trans (by decide) hD, by decide⟩ rfl rfl (Nat.le_of_ble_eq_true rfl) dX0_begin_13 ?_
  have hL := hL.ext hct.1
  obtain ⟨b_26, e9, hf9⟩ := zb1_some hf
  subst e9
  have hf := hf9
  refine z_astore dX0_begin_16 (by decide) (lc' := [(0, .ref a), (1, .int x1), (2, .int x2), (3, .int x3), (4, .int x4), (5, .ref b_26)]) rfl ?_
  refine z_aload_n 0 dX0_begin_18 rfl rfl ?_
  refine z_iload 4 dX0_begin_19 rfl ?_
  refine z_iconst 0 dX0_begin_21 rfl ?_
  refine z_iload_n 3 dX0_begin_22 rfl rfl ?_
  refine z_if_eq 30 dX0_begin_23 rfl hf (fun _ hf => ?_) (fun _ hf => ?_)
  · refine z_iconst 3 dX0_begin_30 rfl ?_
    refine z_sub [0, 1, 3, 4, 5] rfl ?_
    exact zX0_begin_J31 hD hL hf hM
  · refine z_iconst 4 dX0_begin_26 rfl ?_
    refine z_goto 31 dX0_begin_27 rfl ?_
    refine z_sub [0, 1, 3, 4, 5] rfl ?_
    exact zX0_begin_J31 hD hL hf hM
theorem ctX0_begin {l : Launch} {h : zH} {a : Nat} {x1 : Int32} {x2 : Int32} {x3 : Int32} {x4 : Int32} {v : Int32} {h' : zH} (hL : zXx h a) (hf : fX0_begin h a x1 x2 x3 x4 = some (v, h')) : zC l yX0_begin (wsW_ yX0_begin cX0_begin 7 (some .int) [(0, 82, 83, 18)]) 123 [.ref a, .int x1, .int x2, .int x3, .int x4] h (.inl (some (.int v)), h') :=
  z_startW (by decide) (Nat.le_of_ble_eq_true rfl) (zX0_begin (F := (l, 123, h, (.inl (some (.int v)), h'))) (Nat.le_refl _) hL hf rfl)
theorem fdX0_346_3 : zFd RX0 346 3 10 .int false := ⟨_, _, _, rfl, rfl, by decide, rfl, rfl, Or.inl q388, Or.inl rfl⟩
theorem caX0_288_2 : ∀ ci ∈ [3, 4], zCa RX0 288 ci := by
  intro ci h
  simp only [List.mem_cons, List.not_mem_nil, or_false] at h
  rcases h with rfl | rfl
  · exact ⟨_, _, _, rfl, rfl, q1241, Or.inr q1969⟩
  · exact ⟨_, _, _, rfl, rfl, q1241, Or.inr q1970⟩
theorem fdX0_346_4 : zFd RX0 346 4 10 .int false := ⟨_, _, _, rfl, rfl, by decide, rfl, rfl, Or.inl q388, Or.inl rfl⟩
theorem fsX0_346_2 : ∀ ci ∈ [3, 4], zFd RX0 346 ci 10 .int false := by
  intro ci h
  simp only [List.mem_cons, List.not_mem_nil, or_false] at h
  rcases h with rfl | rfl
  · exact fdX0_346_3
  · exact fdX0_346_4
noncomputable def fX0_machineAt (h : zH) (a : Nat) (x1 : Int32) : Option (zX) := zcs (vp_in x1 4) (zb1 (zP h (a + 32) x1.toNatClampNeg) (fun b_2 => zck (zOb 6 h b_2) (zlet (zP h b_2 0) (fun q_5 => zrq q_5 (zlet (zmke h 1 8) (fun h_7 => zb2 (fX0_refused h_7 a ((-2))) (fun v_9 h_10 => zb1 v_9 (fun b_11 => some ((.inr b_11, h_10)))))) (fun b_6 => zck (zMc h b_6) (if (zI h b_6 10) = 0 then (zxv (fX0_need h a 1 ((-2))) (fun h_22 => some ((.inl (some (.ref b_6)), h_22))) (fun e_23 h_24 => zck (zT h_24 e_23 = (2, 0)) (some (.inr e_23, h_24)))) else (zxv (fX0_need h a 0 ((-2))) (fun h_15 => some ((.inl (some (.ref b_6)), h_15))) (fun e_16 h_17 => zck (zT h_17 e_16 = (2, 0)) (some (.inr e_16, h_17)))))))))) (zlet (zmke h 3 300) (fun h_3 => zb2 (fX0_refused h_3 a ((-1))) (fun v_28 h_29 => zb1 v_28 (fun b_30 => some ((.inr b_30, h_29))))))
theorem zX0_machineAt {F : zF} {h : zH} {a : Nat} {x1 : Int32} {y : zX} (hD : 120 ≤ F.2.1) (hL : zXx h a) (hf : fX0_machineAt h a x1 = some y) (hM : (y : zX) = zEnd F) : Z F 4 cX0_machineAt RX0 "machineAt" (some (.object "CodeExchange$Machine")) [(0, 10, 13, 132), (20, 41, 44, 148)] h 0 [(0, .ref a), (1, .int x1)] [] := by
  unfold fX0_machineAt at hf
  refine z_aload_n 0 dX0_machineAt_0 rfl rfl ?_
  refine z_getr fdX0_72_0 (Or.inr ⟨_, rfl⟩) ((hL.b 0 rfl).t 0 rfl) ((hL.b 0 rfl).p 9 rfl) dX0_machineAt_1 ?_
  refine z_iload_n 1 dX0_machineAt_4 rfl rfl ?_
  rcases zcs_some hf with ⟨hi_1, hf9⟩ | ⟨hi_1, hf9⟩
  · obtain ⟨b_2, hb_2, hf⟩ := zb1_some hf9
    refine z_aldr (t := 3) rfl (Or.inl ⟨_, rfl⟩) ((hL.b 0 rfl).t 32 rfl) hi_1 hb_2 dX0_machineAt_5 ?_
    obtain ⟨hK_4, hf⟩ := zck_some hf
    obtain ⟨q_5, hq, hf⟩ := zlet_some hf
    refine z_getqv fdX0_128_6 (Or.inl ⟨_, rfl⟩) ((hK_4.b 0 rfl).t 0 rfl) hq dX0_machineAt_6 ?_
    refine z_astore_nq dX0_machineAt_9 rfl (by decide) (lc' := [(0, .ref a), (1, .int x1), (2, va_rf q_5)]) rfl ?_
    refine z_goto 20 dX0_machineAt_10 rfl ?_
    refine z_aload_n 0 dX0_machineAt_20 rfl rfl ?_
    refine z_aload_nq 2 dX0_machineAt_21 rfl rfl ?_
    rcases zrq_some hf with ⟨e9, hf9⟩ | ⟨b_6, e9, hf9⟩
    · subst e9
      have hf := hf9
      refine z_castN dX0_machineAt_22 ?_
      obtain ⟨h_7, he, hf⟩ := zlet_some hf
      refine z_getNX fdX0_346_3 zmA_npe rfl (by decide) q670 (Nat.le_trans (by decide) hD) (Nat.le_of_ble_eq_true rfl) he dX0_machineAt_25 ?_
      have hfx := zLx_mke he
      have hL := hL.ext hfx
      have hK_4 := hK_4.ext hfx
      refine z_astore_n dX0_machineAt_44 rfl (by decide) (lc' := [(0, .ref a), (1, .int x1), (2, .null), (3, .ref (zn h))]) rfl ?_
      refine z_aload_n 0 dX0_machineAt_45 rfl rfl ?_
      refine z_bipush (-2) dX0_machineAt_46 rfl ?_
      obtain ⟨v_9, h_10, hc_8, hf⟩ := zb2_some hf
      have hct := ctX0_refused (l := F.1) hL hc_8
      refine z_invVq suX0_140_0 hct ((hL.b 0 rfl).t 0 rfl) ⟨Nat.le_trans (by decide) hD, by decide⟩ rfl rfl (Nat.le_of_ble_eq_true rfl) dX0_machineAt_48 ?_
      have hL := hL.ext hct.1
      have hK_4 := hK_4.ext hct.1
      obtain ⟨b_11, e9, hf9⟩ := zb1_some hf
      subst e9
      have hf := hf9
      refine z_athrow dX0_machineAt_51 ?_
      cases hf
      exact zt_out rfl hM
    · subst e9
      have hf := hf9
      obtain ⟨hK_12, hf⟩ := zck_some hf
      refine z_castM caX0_288_2 hK_12 dX0_machineAt_22 ?_
      refine z_getiM fsX0_346_2 hK_12 dX0_machineAt_25 ?_
      refine z_if_ne 35 dX0_machineAt_28 rfl hf (fun _ hf => ?_) (fun _ hf => ?_)
      · refine z_iconst 0 dX0_machineAt_35 rfl ?_
        refine z_bipush (-2) dX0_machineAt_36 rfl ?_
        rcases zxv_some hf with ⟨h_15, hc_13, hf⟩ | ⟨e_16, h_17, hc_18, hf⟩
        rotate_left
        · have hct := ctX0_need (l := F.1) hL hc_18
          refine z_invVt suX0_184_0 hct ((hL.b 0 rfl).t 0 rfl) ⟨Nat.le_trans (by decide) hD, by decide⟩ rfl rfl (Nat.le_of_ble_eq_true rfl) dX0_machineAt_38 ?_
          have hL := hL.ext hct.1
          have hK_4 := hK_4.ext hct.1
          have hK_12 := hK_12.ext hct.1
          obtain ⟨ht_19, hf⟩ := zck_some hf
          cases hf
          exact zt_pass (ci := 1) (C := "java/lang/NullPointerException") rfl (by decide) q670 rfl rfl ht_19 (by decide) hM
        have hct := ctX0_need (l := F.1) hL hc_13
        refine z_invVv suX0_184_0 hct ((hL.b 0 rfl).t 0 rfl) ⟨Nat.le_trans (by decide) hD, by decide⟩ rfl rfl (Nat.le_of_ble_eq_true rfl) dX0_machineAt_38 ?_
        have hL := hL.ext hct.1
        have hK_4 := hK_4.ext hct.1
        have hK_12 := hK_12.ext hct.1
        refine z_goto 52 dX0_machineAt_41 rfl ?_
        refine z_aload_n 2 dX0_machineAt_52 rfl rfl ?_
        refine z_castM caX0_288_2 hK_12 dX0_machineAt_53 ?_
        cases hf
        exact z_aret (o := (some b_6)) dX0_machineAt_56 rfl (Or.inl ⟨_, rfl⟩) hM
      · refine z_iconst 1 dX0_machineAt_31 rfl ?_
        refine z_goto 36 dX0_machineAt_32 rfl ?_
        refine z_bipush (-2) dX0_machineAt_36 rfl ?_
        rcases zxv_some hf with ⟨h_22, hc_20, hf⟩ | ⟨e_23, h_24, hc_25, hf⟩
        rotate_left
        · have hct := ctX0_need (l := F.1) hL hc_25
          refine z_invVt suX0_184_0 hct ((hL.b 0 rfl).t 0 rfl) ⟨Nat.le_trans (by decide) hD, by decide⟩ rfl rfl (Nat.le_of_ble_eq_true rfl) dX0_machineAt_38 ?_
          have hL := hL.ext hct.1
          have hK_4 := hK_4.ext hct.1
          have hK_12 := hK_12.ext hct.1
          obtain ⟨ht_26, hf⟩ := zck_some hf
          cases hf
          exact zt_pass (ci := 1) (C := "java/lang/NullPointerException") rfl (by decide) q670 rfl rfl ht_26 (by decide) hM
        have hct := ctX0_need (l := F.1) hL hc_20
        refine z_invVv suX0_184_0 hct ((hL.b 0 rfl).t 0 rfl) ⟨Nat.le_trans (by decide) hD, by decide⟩ rfl rfl (Nat.le_of_ble_eq_true rfl) dX0_machineAt_38 ?_
        have hL := hL.ext hct.1
        have hK_4 := hK_4.ext hct.1
        have hK_12 := hK_12.ext hct.1
        refine z_goto 52 dX0_machineAt_41 rfl ?_
        refine z_aload_n 2 dX0_machineAt_52 rfl rfl ?_
        refine z_castM caX0_288_2 hK_12 dX0_machineAt_53 ?_
        cases hf
        exact z_aret (o := (some b_6)) dX0_machineAt_56 rfl (Or.inl ⟨_, rfl⟩) hM
  · obtain ⟨h_3, he, hf⟩ := zlet_some hf9
    refine z_aaldX (t := 3) rfl (by decide) hi_1 ((hL.b 0 rfl).t 32 rfl) rfl (by decide) q699 (Nat.le_trans (by decide) hD) (Nat.le_of_ble_eq_true rfl) he dX0_machineAt_5 ?_
    have hfx := zLx_mke he
    have hL := hL.ext hfx
    refine z_astore_n dX0_machineAt_13 rfl (by decide) (lc' := [(0, .ref a), (1, .int x1), (3, .ref (zn h))]) rfl ?_
    refine z_aload_n 0 dX0_machineAt_14 rfl rfl ?_
    refine z_iconst (-1) dX0_machineAt_15 rfl ?_
    obtain ⟨v_28, h_29, hc_27, hf⟩ := zb2_some hf
    have hct := ctX0_refused (l := F.1) hL hc_27
    refine z_invVq suX0_140_0 hct ((hL.b 0 rfl).t 0 rfl) ⟨Nat.le_trans (by decide) hD, by decide⟩ rfl rfl (Nat.le_of_ble_eq_true rfl) dX0_machineAt_16 ?_
    have hL := hL.ext hct.1
    obtain ⟨b_30, e9, hf9⟩ := zb1_some hf
    subst e9
    have hf := hf9
    refine z_athrow dX0_machineAt_19 ?_
    cases hf
    exact zt_out rfl hM
theorem ctX0_machineAt {l : Launch} {h : zH} {a : Nat} {x1 : Int32} {y : zX} (hL : zXx h a) (hf : fX0_machineAt h a x1 = some y) : zC l yX0_machineAt (wsW_ yX0_machineAt cX0_machineAt 4 (some (.object "CodeExchange$Machine")) [(0, 10, 13, 132), (20, 41, 44, 148)]) 120 [.ref a, .int x1] h y :=
  z_startW (by decide) (Nat.le_of_ble_eq_true rfl) (zX0_machineAt (F := (l, 120, h, y)) (Nat.le_refl _) hL hf rfl)
theorem suX0_349_0 : zIv RX0 349 yX0_machineAt (wsW_ yX0_machineAt cX0_machineAt 4 (some (.object "CodeExchange$Machine")) [(0, 10, 13, 132), (20, 41, 44, 148)]) 4 0 1 := ⟨(zGood_w q1240 q97), ⟨_, _, rfl, rfl, qs40⟩, (Or.inl q1237), q1239, ⟨by decide, by decide⟩, by decide +kernel⟩
theorem fdX0_354_3 : zFd RX0 354 3 5 .int false := ⟨_, _, _, rfl, rfl, by decide, rfl, rfl, Or.inl q368, Or.inl rfl⟩
theorem fdX0_354_4 : zFd RX0 354 4 5 .int false := ⟨_, _, _, rfl, rfl, by decide, rfl, rfl, Or.inl q368, Or.inl rfl⟩
theorem fsX0_354_2 : ∀ ci ∈ [3, 4], zFd RX0 354 ci 5 .int false := by
  intro ci h
  simp only [List.mem_cons, List.not_mem_nil, or_false] at h
  rcases h with rfl | rfl
  · exact fdX0_354_3
  · exact fdX0_354_4
noncomputable def fV_Machine_feed (h : zH) (b : Nat) (p0 : Int32) : Option (zX) := if zT h b = (4, 0) then (zb1 (zP h b 11) (fun xx => zck (zRd h b xx) (fX4_feed_3 h b xx p0))) else if zT h b = (5, 0) then (zb1 (zP h b 11) (fun xx => zck (zWr h b xx) (fX4_feed_4 h b xx p0))) else none
theorem lV_Machine_feed {l : Launch} {h : zH} {b : Nat} {p0 : Int32} {y : zX} (hf : fV_Machine_feed h b p0 = some y) : zLx h y.2 := by
  unfold fV_Machine_feed at hf
  refine zdsp hf (fun e hf => ?_) (fun _ hf => ?_)
  · obtain ⟨xx, hx, hf⟩ := zb1_some hf
    obtain ⟨hK, hf⟩ := zck_some hf
    have hc := hf
    exact (ctX4_feed_3 (l := l) hK hc).1
  refine zdsp hf (fun e hf => ?_) (fun _ hf => ?_)
  · obtain ⟨xx, hx, hf⟩ := zb1_some hf
    obtain ⟨hK, hf⟩ := zck_some hf
    have hc := hf
    exact (ctX4_feed_4 (l := l) hK hc).1
  cases hf
theorem zVX0_293v {F : zF} {nL : Nat} {cc : ByteArray} {nm : String} {ret : Option FieldType} {hh : List (Nat × Nat × Nat × Nat)} {h h1 : zH} {pc b : Nat} {lc : List (Nat × Value)} {st : List Value} {p0 : Int32}  (hD : 58 ≤ F.2.1) (hf : fV_Machine_feed h b p0 = some (.inl none, h1)) (hcat : (st.map fun v => v.category).sum ≤ 8) (hd : decode cc pc = .ok (.invokevirtual 293, 3)) (kk : Z F nL cc RX0 nm ret hh h1 (pc + 3) lc (st)) : Z F nL cc RX0 nm ret hh h pc lc (.int p0 :: .ref b :: st) := by
  unfold fV_Machine_feed at hf
  refine zdsp hf (fun e hf => ?_) (fun _ hf => ?_)
  · obtain ⟨xx, hx, hf⟩ := zb1_some hf
    obtain ⟨hK, hf⟩ := zck_some hf
    have hc := hf
    exact z_invUv suX0_293_3 (ctX4_feed_3 hK hc) e ⟨Nat.le_trans (by decide) hD, by decide⟩ rfl rfl hcat hd kk
  refine zdsp hf (fun e hf => ?_) (fun _ hf => ?_)
  · obtain ⟨xx, hx, hf⟩ := zb1_some hf
    obtain ⟨hK, hf⟩ := zck_some hf
    have hc := hf
    exact z_invUv suX0_293_4 (ctX4_feed_4 hK hc) e ⟨Nat.le_trans (by decide) hD, by decide⟩ rfl rfl hcat hd kk
  cases hf
theorem zVX0_293t {F : zF} {nL : Nat} {cc : ByteArray} {nm : String} {ret : Option FieldType} {hh : List (Nat × Nat × Nat × Nat)} {h h1 : zH} {pc b : Nat} {lc : List (Nat × Value)} {st : List Value} {p0 : Int32} {ex : Nat} (hD : 58 ≤ F.2.1) (hf : fV_Machine_feed h b p0 = some (.inr ex, h1)) (hcat : (st.map fun v => v.category).sum ≤ 8) (hd : decode cc pc = .ok (.invokevirtual 293, 3)) (kk : ZT F nL cc RX0 nm ret hh h1 pc lc ex) : Z F nL cc RX0 nm ret hh h pc lc (.int p0 :: .ref b :: st) := by
  unfold fV_Machine_feed at hf
  refine zdsp hf (fun e hf => ?_) (fun _ hf => ?_)
  · obtain ⟨xx, hx, hf⟩ := zb1_some hf
    obtain ⟨hK, hf⟩ := zck_some hf
    have hc := hf
    exact z_invUt suX0_293_3 (ctX4_feed_3 hK hc) e ⟨Nat.le_trans (by decide) hD, by decide⟩ rfl rfl hcat hd kk
  refine zdsp hf (fun e hf => ?_) (fun _ hf => ?_)
  · obtain ⟨xx, hx, hf⟩ := zb1_some hf
    obtain ⟨hK, hf⟩ := zck_some hf
    have hc := hf
    exact z_invUt suX0_293_4 (ctX4_feed_4 hK hc) e ⟨Nat.le_trans (by decide) hD, by decide⟩ rfl rfl hcat hd kk
  cases hf
noncomputable def fX0_feed_J25 (h : zH) (a : Nat) (x2 : Int32) (x3 : Nat) (k0 : Int32) (k1 : Int32) (k2 : Int32) : Option (Int32 × zH) := zb1 (fX0_in k2 k1 k0) (fun v_15 => zxv (fX0_need h a v_15 ((-1))) (fun h_19 => zck (zMc h_19 x3) (if 300 < (zI h_19 x3 5) then (zxv (fX0_need h_19 a 0 ((-6))) (fun h_31 => zxv (fV_Machine_feed h_31 x3 x2) (fun h_42 => some ((zI h_42 x3 5, h_42))) (fun e_43 h_44 => zck (zT h_44 e_43 = (2, 0)) (zck (zOb 1 h_44 e_43) (zb2 (fX0_answer h_44 a (zI h_44 e_43 6)) (fun v_49 h_50 => some ((v_49, h_50))))))) (fun e_32 h_33 => zck (zT h_33 e_32 = (2, 0)) (zck (zOb 1 h_33 e_32) (zb2 (fX0_answer h_33 a (zI h_33 e_32 6)) (fun v_38 h_39 => some ((v_38, h_39))))))) else (zxv (fX0_need h_19 a 1 ((-6))) (fun h_53 => zxv (fV_Machine_feed h_53 x3 x2) (fun h_64 => some ((zI h_64 x3 5, h_64))) (fun e_65 h_66 => zck (zT h_66 e_65 = (2, 0)) (zck (zOb 1 h_66 e_65) (zb2 (fX0_answer h_66 a (zI h_66 e_65 6)) (fun v_71 h_72 => some ((v_71, h_72))))))) (fun e_54 h_55 => zck (zT h_55 e_54 = (2, 0)) (zck (zOb 1 h_55 e_54) (zb2 (fX0_answer h_55 a (zI h_55 e_54 6)) (fun v_60 h_61 => some ((v_60, h_61))))))))) (fun e_20 h_21 => zck (zT h_21 e_20 = (2, 0)) (zck (zOb 1 h_21 e_20) (zb2 (fX0_answer h_21 a (zI h_21 e_20 6)) (fun v_26 h_27 => some ((v_26, h_27)))))))
theorem zX0_feed_J25 {F : zF} {h : zH} {a : Nat} {x2 : Int32} {x3 : Nat} {k0 : Int32} {k1 : Int32} {k2 : Int32} {y : Int32 × zH} (hD : 121 ≤ F.2.1) (hL : zXx h a) (hf : fX0_feed_J25 h a x2 x3 k0 k1 k2 = some y) (hM : ((.inl (some (.int y.1)), y.2) : zX) = zEnd F) : Z F 4 cX0_feed RX0 "feed" (some .int) [(0, 62, 63, 18)] h 25 [(0, .ref a), (2, .int x2), (3, .ref x3)] [.int k0, .int k1, .int k2, .ref a] := by
  unfold fX0_feed_J25 at hf
  obtain ⟨v_15, hc_14, hf⟩ := zb1_some hf
  refine z_invSi suX0_4_s (ctX0_in hc_14) ⟨Nat.le_trans (by decide) hD, by decide⟩ rfl rfl (Nat.le_of_ble_eq_true rfl) dX0_feed_25 ?_
  refine z_iconst (-1) dX0_feed_28 rfl ?_
  rcases zxv_some hf with ⟨h_19, hc_17, hf⟩ | ⟨e_20, h_21, hc_22, hf⟩
  rotate_left
  · have hct := ctX0_need (l := F.1) hL hc_22
    refine z_invVt suX0_184_0 hct ((hL.b 0 rfl).t 0 rfl) ⟨Nat.le_trans (by decide) hD, by decide⟩ rfl rfl (Nat.le_of_ble_eq_true rfl) dX0_feed_29 ?_
    have hL := hL.ext hct.1
    obtain ⟨ht_23, hf⟩ := zck_some hf
    refine zt_catch (q := (RX1, TX1, 7)) rfl (by decide) q129 rfl rfl ht_23 ?_
    refine z_astore_n dX0_feed_63 rfl (by decide) (lc' := [(0, .ref a), (2, .int x2), (3, .ref e_20)]) rfl ?_
    refine z_aload_n 0 dX0_feed_64 rfl rfl ?_
    refine z_aload_n 2 dX0_feed_65 rfl rfl ?_
    obtain ⟨hK_24, hf⟩ := zck_some hf
    refine z_geti fdX0_17_1 ((hK_24.b 0 rfl).t 0 rfl) dX0_feed_66 ?_
    obtain ⟨v_26, h_27, hc_25, hf⟩ := zb2_some hf
    have hct := ctX0_answer (l := F.1) hL hc_25
    refine z_invVi suX0_163_0 hct ((hL.b 0 rfl).t 0 rfl) ⟨Nat.le_trans (by decide) hD, by decide⟩ rfl rfl (Nat.le_of_ble_eq_true rfl) dX0_feed_69 ?_
    have hL := hL.ext hct.1
    have hK_24 := hK_24.ext hct.1
    cases hf
    exact z_iret dX0_feed_72 rfl hM
  have hct := ctX0_need (l := F.1) hL hc_17
  refine z_invVv suX0_184_0 hct ((hL.b 0 rfl).t 0 rfl) ⟨Nat.le_trans (by decide) hD, by decide⟩ rfl rfl (Nat.le_of_ble_eq_true rfl) dX0_feed_29 ?_
  have hL := hL.ext hct.1
  refine z_aload_n 0 dX0_feed_32 rfl rfl ?_
  refine z_aload_n 2 dX0_feed_33 rfl rfl ?_
  obtain ⟨hK_28, hf⟩ := zck_some hf
  refine z_getiM fsX0_354_2 hK_28 dX0_feed_34 ?_
  refine z_sipush 300 dX0_feed_37 rfl ?_
  refine z_icmp_gt 47 dX0_feed_40 rfl hf (fun _ hf => ?_) (fun _ hf => ?_)
  · refine z_iconst 0 dX0_feed_47 rfl ?_
    refine z_bipush (-6) dX0_feed_48 rfl ?_
    rcases zxv_some hf with ⟨h_31, hc_29, hf⟩ | ⟨e_32, h_33, hc_34, hf⟩
    rotate_left
    · have hct := ctX0_need (l := F.1) hL hc_34
      refine z_invVt suX0_184_0 hct ((hL.b 0 rfl).t 0 rfl) ⟨Nat.le_trans (by decide) hD, by decide⟩ rfl rfl (Nat.le_of_ble_eq_true rfl) dX0_feed_50 ?_
      have hL := hL.ext hct.1
      have hK_28 := hK_28.ext hct.1
      obtain ⟨ht_35, hf⟩ := zck_some hf
      refine zt_catch (q := (RX1, TX1, 7)) rfl (by decide) q129 rfl rfl ht_35 ?_
      refine z_astore_n dX0_feed_63 rfl (by decide) (lc' := [(0, .ref a), (2, .int x2), (3, .ref e_32)]) rfl ?_
      refine z_aload_n 0 dX0_feed_64 rfl rfl ?_
      refine z_aload_n 2 dX0_feed_65 rfl rfl ?_
      obtain ⟨hK_36, hf⟩ := zck_some hf
      refine z_geti fdX0_17_1 ((hK_36.b 0 rfl).t 0 rfl) dX0_feed_66 ?_
      obtain ⟨v_38, h_39, hc_37, hf⟩ := zb2_some hf
      have hct := ctX0_answer (l := F.1) hL hc_37
      refine z_invVi suX0_163_0 hct ((hL.b 0 rfl).t 0 rfl) ⟨Nat.le_trans (by decide) hD, by decide⟩ rfl rfl (Nat.le_of_ble_eq_true rfl) dX0_feed_69 ?_
      have hL := hL.ext hct.1
      have hK_28 := hK_28.ext hct.1
      have hK_36 := hK_36.ext hct.1
      cases hf
      exact z_iret dX0_feed_72 rfl hM
    have hct := ctX0_need (l := F.1) hL hc_29
    refine z_invVv suX0_184_0 hct ((hL.b 0 rfl).t 0 rfl) ⟨Nat.le_trans (by decide) hD, by decide⟩ rfl rfl (Nat.le_of_ble_eq_true rfl) dX0_feed_50 ?_
    have hL := hL.ext hct.1
    have hK_28 := hK_28.ext hct.1
    refine z_aload_n 2 dX0_feed_53 rfl rfl ?_
    refine z_iload_n 1 dX0_feed_54 rfl rfl ?_
    rcases zxv_some hf with ⟨h_42, hc_40, hf⟩ | ⟨e_43, h_44, hc_45, hf⟩
    rotate_left
    · have hct : zLx _ _ ∧ True := ⟨lV_Machine_feed (l := F.1) hc_45, trivial⟩
      refine zVX0_293t (Nat.le_trans (by decide) hD) hc_45 (Nat.le_of_ble_eq_true rfl) dX0_feed_55 ?_
      have hL := hL.ext hct.1
      have hK_28 := hK_28.ext hct.1
      obtain ⟨ht_46, hf⟩ := zck_some hf
      refine zt_catch (q := (RX1, TX1, 7)) rfl (by decide) q129 rfl rfl ht_46 ?_
      refine z_astore_n dX0_feed_63 rfl (by decide) (lc' := [(0, .ref a), (2, .int x2), (3, .ref e_43)]) rfl ?_
      refine z_aload_n 0 dX0_feed_64 rfl rfl ?_
      refine z_aload_n 2 dX0_feed_65 rfl rfl ?_
      obtain ⟨hK_47, hf⟩ := zck_some hf
      refine z_geti fdX0_17_1 ((hK_47.b 0 rfl).t 0 rfl) dX0_feed_66 ?_
      obtain ⟨v_49, h_50, hc_48, hf⟩ := zb2_some hf
      have hct := ctX0_answer (l := F.1) hL hc_48
      refine z_invVi suX0_163_0 hct ((hL.b 0 rfl).t 0 rfl) ⟨Nat.le_trans (by decide) hD, by decide⟩ rfl rfl (Nat.le_of_ble_eq_true rfl) dX0_feed_69 ?_
      have hL := hL.ext hct.1
      have hK_28 := hK_28.ext hct.1
      have hK_47 := hK_47.ext hct.1
      cases hf
      exact z_iret dX0_feed_72 rfl hM
    have hct : zLx _ _ ∧ True := ⟨lV_Machine_feed (l := F.1) hc_40, trivial⟩
    refine zVX0_293v (Nat.le_trans (by decide) hD) hc_40 (Nat.le_of_ble_eq_true rfl) dX0_feed_55 ?_
    have hL := hL.ext hct.1
    have hK_28 := hK_28.ext hct.1
    refine z_aload_n 2 dX0_feed_58 rfl rfl ?_
    refine z_getiM fsX0_354_2 hK_28 dX0_feed_59 ?_
    cases hf
    exact z_iret dX0_feed_62 rfl hM
  · refine z_iconst 1 dX0_feed_43 rfl ?_
    refine z_goto 48 dX0_feed_44 rfl ?_
    refine z_bipush (-6) dX0_feed_48 rfl ?_
    rcases zxv_some hf with ⟨h_53, hc_51, hf⟩ | ⟨e_54, h_55, hc_56, hf⟩
    rotate_left
    · have hct := ctX0_need (l := F.1) hL hc_56
      refine z_invVt suX0_184_0 hct ((hL.b 0 rfl).t 0 rfl) ⟨Nat.le_trans (by decide) hD, by decide⟩ rfl rfl (Nat.le_of_ble_eq_true rfl) dX0_feed_50 ?_
      have hL := hL.ext hct.1
      have hK_28 := hK_28.ext hct.1
      obtain ⟨ht_57, hf⟩ := zck_some hf
      refine zt_catch (q := (RX1, TX1, 7)) rfl (by decide) q129 rfl rfl ht_57 ?_
      refine z_astore_n dX0_feed_63 rfl (by decide) (lc' := [(0, .ref a), (2, .int x2), (3, .ref e_54)]) rfl ?_
      refine z_aload_n 0 dX0_feed_64 rfl rfl ?_
      refine z_aload_n 2 dX0_feed_65 rfl rfl ?_
      obtain ⟨hK_58, hf⟩ := zck_some hf
      refine z_geti fdX0_17_1 ((hK_58.b 0 rfl).t 0 rfl) dX0_feed_66 ?_
      obtain ⟨v_60, h_61, hc_59, hf⟩ := zb2_some hf
      have hct := ctX0_answer (l := F.1) hL hc_59
      refine z_invVi suX0_163_0 hct ((hL.b 0 rfl).t 0 rfl) ⟨Nat.le_trans (by decide) hD, by decide⟩ rfl rfl (Nat.le_of_ble_eq_true rfl) dX0_feed_69 ?_
      have hL := hL.ext hct.1
      have hK_28 := hK_28.ext hct.1
      have hK_58 := hK_58.ext hct.1
      cases hf
      exact z_iret dX0_feed_72 rfl hM
    have hct := ctX0_need (l := F.1) hL hc_51
    refine z_invVv suX0_184_0 hct ((hL.b 0 rfl).t 0 rfl) ⟨Nat.le_trans (by decide) hD, by decide⟩ rfl rfl (Nat.le_of_ble_eq_true rfl) dX0_feed_50 ?_
    have hL := hL.ext hct.1
    have hK_28 := hK_28.ext hct.1
    refine z_aload_n 2 dX0_feed_53 rfl rfl ?_
    refine z_iload_n 1 dX0_feed_54 rfl rfl ?_
    rcases zxv_some hf with ⟨h_64, hc_62, hf⟩ | ⟨e_65, h_66, hc_67, hf⟩
    rotate_left
    · have hct : zLx _ _ ∧ True := ⟨lV_Machine_feed (l := F.1) hc_67, trivial⟩
      refine zVX0_293t (Nat.le_trans (by decide) hD) hc_67 (Nat.le_of_ble_eq_true rfl) dX0_feed_55 ?_
      have hL := hL.ext hct.1
      have hK_28 := hK_28.ext hct.1
      obtain ⟨ht_68, hf⟩ := zck_some hf
      refine zt_catch (q := (RX1, TX1, 7)) rfl (by decide) q129 rfl rfl ht_68 ?_
      refine z_astore_n dX0_feed_63 rfl (by decide) (lc' := [(0, .ref a), (2, .int x2), (3, .ref e_65)]) rfl ?_
      refine z_aload_n 0 dX0_feed_64 rfl rfl ?_
      refine z_aload_n 2 dX0_feed_65 rfl rfl ?_
      obtain ⟨hK_69, hf⟩ := zck_some hf
      refine z_geti fdX0_17_1 ((hK_69.b 0 rfl).t 0 rfl) dX0_feed_66 ?_
      obtain ⟨v_71, h_72, hc_70, hf⟩ := zb2_some hf
      have hct := ctX0_answer (l := F.1) hL hc_70
      refine z_invVi suX0_163_0 hct ((hL.b 0 rfl).t 0 rfl) ⟨Nat.le_trans (by decide) hD, by decide⟩ rfl rfl (Nat.le_of_ble_eq_true rfl) dX0_feed_69 ?_
      have hL := hL.ext hct.1
      have hK_28 := hK_28.ext hct.1
      have hK_69 := hK_69.ext hct.1
      cases hf
      exact z_iret dX0_feed_72 rfl hM
    have hct : zLx _ _ ∧ True := ⟨lV_Machine_feed (l := F.1) hc_62, trivial⟩
    refine zVX0_293v (Nat.le_trans (by decide) hD) hc_62 (Nat.le_of_ble_eq_true rfl) dX0_feed_55 ?_
    have hL := hL.ext hct.1
    have hK_28 := hK_28.ext hct.1
    refine z_aload_n 2 dX0_feed_58 rfl rfl ?_
    refine z_getiM fsX0_354_2 hK_28 dX0_feed_59 ?_
    cases hf
    exact z_iret dX0_feed_62 rfl hM
noncomputable def fX0_feed (h : zH) (a : Nat) (x1 : Int32) (x2 : Int32) : Option (Int32 × zH) := zxr (fX0_machineAt h a x1) (fun v_2 h_3 => zb1 v_2 (fun b_12 => zck (zMc h_3 b_12) (if ((if zT h_3 b_12 = (5, 0) then 1 else 0 : Int32)) = 0 then (fX0_feed_J25 h_3 a x2 b_12 255 0 x2) else (fX0_feed_J25 h_3 a x2 b_12 65535 0 x2)))) (fun e_4 h_5 => zck (zT h_5 e_4 = (2, 0)) (zck (zOb 1 h_5 e_4) (zb2 (fX0_answer h_5 a (zI h_5 e_4 6)) (fun v_10 h_11 => some ((v_10, h_11))))))
theorem zX0_feed {F : zF} {h : zH} {a : Nat} {x1 : Int32} {x2 : Int32} {y : Int32 × zH} (hD : 121 ≤ F.2.1) (hL : zXx h a) (hf : fX0_feed h a x1 x2 = some y) (hM : ((.inl (some (.int y.1)), y.2) : zX) = zEnd F) : Z F 4 cX0_feed RX0 "feed" (some .int) [(0, 62, 63, 18)] h 0 [(0, .ref a), (1, .int x1), (2, .int x2)] [] := by
  unfold fX0_feed at hf
  refine z_aload_n 0 dX0_feed_0 rfl rfl ?_
  refine z_iload_n 1 dX0_feed_1 rfl rfl ?_
  rcases zxr_some hf with ⟨v_2, h_3, hc_1, hf⟩ | ⟨e_4, h_5, hc_6, hf⟩
  rotate_left
  · have hct := ctX0_machineAt (l := F.1) hL hc_6
    refine z_invVt suX0_349_0 hct ((hL.b 0 rfl).t 0 rfl) ⟨Nat.le_trans (by decide) hD, by decide⟩ rfl rfl (Nat.le_of_ble_eq_true rfl) dX0_feed_2 ?_
    have hL := hL.ext hct.1
    obtain ⟨ht_7, hf⟩ := zck_some hf
    refine zt_catch (q := (RX1, TX1, 7)) rfl (by decide) q129 rfl rfl ht_7 ?_
    refine z_astore_n dX0_feed_63 rfl (by decide) (lc' := [(0, .ref a), (1, .int x1), (2, .int x2), (3, .ref e_4)]) rfl ?_
    refine z_aload_n 0 dX0_feed_64 rfl rfl ?_
    refine z_aload_n 3 dX0_feed_65 rfl rfl ?_
    obtain ⟨hK_8, hf⟩ := zck_some hf
    refine z_geti fdX0_17_1 ((hK_8.b 0 rfl).t 0 rfl) dX0_feed_66 ?_
    obtain ⟨v_10, h_11, hc_9, hf⟩ := zb2_some hf
    have hct := ctX0_answer (l := F.1) hL hc_9
    refine z_invVi suX0_163_0 hct ((hL.b 0 rfl).t 0 rfl) ⟨Nat.le_trans (by decide) hD, by decide⟩ rfl rfl (Nat.le_of_ble_eq_true rfl) dX0_feed_69 ?_
    have hL := hL.ext hct.1
    have hK_8 := hK_8.ext hct.1
    cases hf
    exact z_iret dX0_feed_72 rfl hM
  have hct := ctX0_machineAt (l := F.1) hL hc_1
  refine z_invVq suX0_349_0 hct ((hL.b 0 rfl).t 0 rfl) ⟨Nat.le_trans (by decide) hD, by decide⟩ rfl rfl (Nat.le_of_ble_eq_true rfl) dX0_feed_2 ?_
  have hL := hL.ext hct.1
  obtain ⟨b_12, e9, hf9⟩ := zb1_some hf
  subst e9
  have hf := hf9
  refine z_astore_n dX0_feed_5 rfl (by decide) (lc' := [(0, .ref a), (1, .int x1), (2, .int x2), (3, .ref b_12)]) rfl ?_
  refine z_aload_n 0 dX0_feed_6 rfl rfl ?_
  refine z_iload_n 2 dX0_feed_7 rfl rfl ?_
  refine z_iconst 0 dX0_feed_8 rfl ?_
  refine z_aload_n 3 dX0_feed_9 rfl rfl ?_
  obtain ⟨hK_13, hf⟩ := zck_some hf
  refine z_instM q336 hK_13 dX0_feed_10 ?_
  refine z_if_eq 22 dX0_feed_13 rfl hf (fun _ hf => ?_) (fun _ hf => ?_)
  · refine z_sipush 255 dX0_feed_22 rfl ?_
    refine z_sub [0, 2, 3] rfl ?_
    exact zX0_feed_J25 hD hL hf hM
  · refine z_ldcw q1242 dX0_feed_16 ?_
    refine z_goto 25 dX0_feed_19 rfl ?_
    refine z_sub [0, 2, 3] rfl ?_
    exact zX0_feed_J25 hD hL hf hM
theorem ctX0_feed {l : Launch} {h : zH} {a : Nat} {x1 : Int32} {x2 : Int32} {v : Int32} {h' : zH} (hL : zXx h a) (hf : fX0_feed h a x1 x2 = some (v, h')) : zC l yX0_feed (wsW_ yX0_feed cX0_feed 4 (some .int) [(0, 62, 63, 18)]) 121 [.ref a, .int x1, .int x2] h (.inl (some (.int v)), h') :=
  z_startW (by decide) (Nat.le_of_ble_eq_true rfl) (zX0_feed (F := (l, 121, h, (.inl (some (.int v)), h'))) (Nat.le_refl _) hL hf rfl)
noncomputable def fV_Machine_end (h : zH) (b : Nat)  : Option (zX) := if zT h b = (4, 0) then (zb1 (zP h b 11) (fun xx => zck (zRd h b xx) (fX4_end_3 h b xx))) else if zT h b = (5, 0) then (zb1 (zP h b 11) (fun xx => zck (zWr h b xx) (fX4_end_4 h b xx))) else none
theorem lV_Machine_end {l : Launch} {h : zH} {b : Nat}  {y : zX} (hf : fV_Machine_end h b  = some y) : zLx h y.2 := by
  unfold fV_Machine_end at hf
  refine zdsp hf (fun e hf => ?_) (fun _ hf => ?_)
  · obtain ⟨xx, hx, hf⟩ := zb1_some hf
    obtain ⟨hK, hf⟩ := zck_some hf
    have hc := hf
    exact (ctX4_end_3 (l := l) hK hc).1
  refine zdsp hf (fun e hf => ?_) (fun _ hf => ?_)
  · obtain ⟨xx, hx, hf⟩ := zb1_some hf
    obtain ⟨hK, hf⟩ := zck_some hf
    have hc := hf
    exact (ctX4_end_4 (l := l) hK hc).1
  cases hf
theorem zVX0_296v {F : zF} {nL : Nat} {cc : ByteArray} {nm : String} {ret : Option FieldType} {hh : List (Nat × Nat × Nat × Nat)} {h h1 : zH} {pc b : Nat} {lc : List (Nat × Value)} {st : List Value}   (hD : 58 ≤ F.2.1) (hf : fV_Machine_end h b  = some (.inl none, h1)) (hcat : (st.map fun v => v.category).sum ≤ 8) (hd : decode cc pc = .ok (.invokevirtual 296, 3)) (kk : Z F nL cc RX0 nm ret hh h1 (pc + 3) lc (st)) : Z F nL cc RX0 nm ret hh h pc lc (.ref b :: st) := by
  unfold fV_Machine_end at hf
  refine zdsp hf (fun e hf => ?_) (fun _ hf => ?_)
  · obtain ⟨xx, hx, hf⟩ := zb1_some hf
    obtain ⟨hK, hf⟩ := zck_some hf
    have hc := hf
    exact z_invUv suX0_296_3 (ctX4_end_3 hK hc) e ⟨Nat.le_trans (by decide) hD, by decide⟩ rfl rfl hcat hd kk
  refine zdsp hf (fun e hf => ?_) (fun _ hf => ?_)
  · obtain ⟨xx, hx, hf⟩ := zb1_some hf
    obtain ⟨hK, hf⟩ := zck_some hf
    have hc := hf
    exact z_invUv suX0_296_4 (ctX4_end_4 hK hc) e ⟨Nat.le_trans (by decide) hD, by decide⟩ rfl rfl hcat hd kk
  cases hf
theorem zVX0_296t {F : zF} {nL : Nat} {cc : ByteArray} {nm : String} {ret : Option FieldType} {hh : List (Nat × Nat × Nat × Nat)} {h h1 : zH} {pc b : Nat} {lc : List (Nat × Value)} {st : List Value}  {ex : Nat} (hD : 58 ≤ F.2.1) (hf : fV_Machine_end h b  = some (.inr ex, h1)) (hcat : (st.map fun v => v.category).sum ≤ 8) (hd : decode cc pc = .ok (.invokevirtual 296, 3)) (kk : ZT F nL cc RX0 nm ret hh h1 pc lc ex) : Z F nL cc RX0 nm ret hh h pc lc (.ref b :: st) := by
  unfold fV_Machine_end at hf
  refine zdsp hf (fun e hf => ?_) (fun _ hf => ?_)
  · obtain ⟨xx, hx, hf⟩ := zb1_some hf
    obtain ⟨hK, hf⟩ := zck_some hf
    have hc := hf
    exact z_invUt suX0_296_3 (ctX4_end_3 hK hc) e ⟨Nat.le_trans (by decide) hD, by decide⟩ rfl rfl hcat hd kk
  refine zdsp hf (fun e hf => ?_) (fun _ hf => ?_)
  · obtain ⟨xx, hx, hf⟩ := zb1_some hf
    obtain ⟨hK, hf⟩ := zck_some hf
    have hc := hf
    exact z_invUt suX0_296_4 (ctX4_end_4 hK hc) e ⟨Nat.le_trans (by decide) hD, by decide⟩ rfl rfl hcat hd kk
  cases hf
noncomputable def fX0_end (h : zH) (a : Nat) (x1 : Int32) : Option (Int32 × zH) := zxr (fX0_machineAt h a x1) (fun v_2 h_3 => zb1 v_2 (fun b_12 => zck (zMc h_3 b_12) (if 300 < (zI h_3 b_12 5) then (zxv (fX0_need h_3 a 0 ((-6))) (fun h_16 => zxv (fV_Machine_end h_16 b_12) (fun h_27 => some ((zI h_27 b_12 5, h_27))) (fun e_28 h_29 => zck (zT h_29 e_28 = (2, 0)) (zck (zOb 1 h_29 e_28) (zb2 (fX0_answer h_29 a (zI h_29 e_28 6)) (fun v_34 h_35 => some ((v_34, h_35))))))) (fun e_17 h_18 => zck (zT h_18 e_17 = (2, 0)) (zck (zOb 1 h_18 e_17) (zb2 (fX0_answer h_18 a (zI h_18 e_17 6)) (fun v_23 h_24 => some ((v_23, h_24))))))) else (zxv (fX0_need h_3 a 1 ((-6))) (fun h_38 => zxv (fV_Machine_end h_38 b_12) (fun h_49 => some ((zI h_49 b_12 5, h_49))) (fun e_50 h_51 => zck (zT h_51 e_50 = (2, 0)) (zck (zOb 1 h_51 e_50) (zb2 (fX0_answer h_51 a (zI h_51 e_50 6)) (fun v_56 h_57 => some ((v_56, h_57))))))) (fun e_39 h_40 => zck (zT h_40 e_39 = (2, 0)) (zck (zOb 1 h_40 e_39) (zb2 (fX0_answer h_40 a (zI h_40 e_39 6)) (fun v_45 h_46 => some ((v_45, h_46)))))))))) (fun e_4 h_5 => zck (zT h_5 e_4 = (2, 0)) (zck (zOb 1 h_5 e_4) (zb2 (fX0_answer h_5 a (zI h_5 e_4 6)) (fun v_10 h_11 => some ((v_10, h_11))))))
theorem zX0_end {F : zF} {h : zH} {a : Nat} {x1 : Int32} {y : Int32 × zH} (hD : 121 ≤ F.2.1) (hL : zXx h a) (hf : fX0_end h a x1 = some y) (hM : ((.inl (some (.int y.1)), y.2) : zX) = zEnd F) : Z F 3 cX0_end RX0 "end" (some .int) [(0, 35, 36, 18)] h 0 [(0, .ref a), (1, .int x1)] [] := by
  unfold fX0_end at hf
  refine z_aload_n 0 dX0_end_0 rfl rfl ?_
  refine z_iload_n 1 dX0_end_1 rfl rfl ?_
  rcases zxr_some hf with ⟨v_2, h_3, hc_1, hf⟩ | ⟨e_4, h_5, hc_6, hf⟩
  rotate_left
  · have hct := ctX0_machineAt (l := F.1) hL hc_6
    refine z_invVt suX0_349_0 hct ((hL.b 0 rfl).t 0 rfl) ⟨Nat.le_trans (by decide) hD, by decide⟩ rfl rfl (Nat.le_of_ble_eq_true rfl) dX0_end_2 ?_
    have hL := hL.ext hct.1
    obtain ⟨ht_7, hf⟩ := zck_some hf
    refine zt_catch (q := (RX1, TX1, 7)) rfl (by decide) q129 rfl rfl ht_7 ?_
    refine z_astore_n dX0_end_36 rfl (by decide) (lc' := [(0, .ref a), (1, .int x1), (2, .ref e_4)]) rfl ?_
    refine z_aload_n 0 dX0_end_37 rfl rfl ?_
    refine z_aload_n 2 dX0_end_38 rfl rfl ?_
    obtain ⟨hK_8, hf⟩ := zck_some hf
    refine z_geti fdX0_17_1 ((hK_8.b 0 rfl).t 0 rfl) dX0_end_39 ?_
    obtain ⟨v_10, h_11, hc_9, hf⟩ := zb2_some hf
    have hct := ctX0_answer (l := F.1) hL hc_9
    refine z_invVi suX0_163_0 hct ((hL.b 0 rfl).t 0 rfl) ⟨Nat.le_trans (by decide) hD, by decide⟩ rfl rfl (Nat.le_of_ble_eq_true rfl) dX0_end_42 ?_
    have hL := hL.ext hct.1
    have hK_8 := hK_8.ext hct.1
    cases hf
    exact z_iret dX0_end_45 rfl hM
  have hct := ctX0_machineAt (l := F.1) hL hc_1
  refine z_invVq suX0_349_0 hct ((hL.b 0 rfl).t 0 rfl) ⟨Nat.le_trans (by decide) hD, by decide⟩ rfl rfl (Nat.le_of_ble_eq_true rfl) dX0_end_2 ?_
  have hL := hL.ext hct.1
  obtain ⟨b_12, e9, hf9⟩ := zb1_some hf
  subst e9
  have hf := hf9
  refine z_astore_n dX0_end_5 rfl (by decide) (lc' := [(0, .ref a), (1, .int x1), (2, .ref b_12)]) rfl ?_
  refine z_aload_n 0 dX0_end_6 rfl rfl ?_
  refine z_aload_n 2 dX0_end_7 rfl rfl ?_
  obtain ⟨hK_13, hf⟩ := zck_some hf
  refine z_getiM fsX0_354_2 hK_13 dX0_end_8 ?_
  refine z_sipush 300 dX0_end_11 rfl ?_
  refine z_icmp_gt 21 dX0_end_14 rfl hf (fun _ hf => ?_) (fun _ hf => ?_)
  · refine z_iconst 0 dX0_end_21 rfl ?_
    refine z_bipush (-6) dX0_end_22 rfl ?_
    rcases zxv_some hf with ⟨h_16, hc_14, hf⟩ | ⟨e_17, h_18, hc_19, hf⟩
    rotate_left
    · have hct := ctX0_need (l := F.1) hL hc_19
      refine z_invVt suX0_184_0 hct ((hL.b 0 rfl).t 0 rfl) ⟨Nat.le_trans (by decide) hD, by decide⟩ rfl rfl (Nat.le_of_ble_eq_true rfl) dX0_end_24 ?_
      have hL := hL.ext hct.1
      have hK_13 := hK_13.ext hct.1
      obtain ⟨ht_20, hf⟩ := zck_some hf
      refine zt_catch (q := (RX1, TX1, 7)) rfl (by decide) q129 rfl rfl ht_20 ?_
      refine z_astore_n dX0_end_36 rfl (by decide) (lc' := [(0, .ref a), (1, .int x1), (2, .ref e_17)]) rfl ?_
      refine z_aload_n 0 dX0_end_37 rfl rfl ?_
      refine z_aload_n 2 dX0_end_38 rfl rfl ?_
      obtain ⟨hK_21, hf⟩ := zck_some hf
      refine z_geti fdX0_17_1 ((hK_21.b 0 rfl).t 0 rfl) dX0_end_39 ?_
      obtain ⟨v_23, h_24, hc_22, hf⟩ := zb2_some hf
      have hct := ctX0_answer (l := F.1) hL hc_22
      refine z_invVi suX0_163_0 hct ((hL.b 0 rfl).t 0 rfl) ⟨Nat.le_trans (by decide) hD, by decide⟩ rfl rfl (Nat.le_of_ble_eq_true rfl) dX0_end_42 ?_
      have hL := hL.ext hct.1
      have hK_13 := hK_13.ext hct.1
      have hK_21 := hK_21.ext hct.1
      cases hf
      exact z_iret dX0_end_45 rfl hM
    have hct := ctX0_need (l := F.1) hL hc_14
    refine z_invVv suX0_184_0 hct ((hL.b 0 rfl).t 0 rfl) ⟨Nat.le_trans (by decide) hD, by decide⟩ rfl rfl (Nat.le_of_ble_eq_true rfl) dX0_end_24 ?_
    have hL := hL.ext hct.1
    have hK_13 := hK_13.ext hct.1
    refine z_aload_n 2 dX0_end_27 rfl rfl ?_
    rcases zxv_some hf with ⟨h_27, hc_25, hf⟩ | ⟨e_28, h_29, hc_30, hf⟩
    rotate_left
    · have hct : zLx _ _ ∧ True := ⟨lV_Machine_end (l := F.1) hc_30, trivial⟩
      refine zVX0_296t (Nat.le_trans (by decide) hD) hc_30 (Nat.le_of_ble_eq_true rfl) dX0_end_28 ?_
      have hL := hL.ext hct.1
      have hK_13 := hK_13.ext hct.1
      obtain ⟨ht_31, hf⟩ := zck_some hf
      refine zt_catch (q := (RX1, TX1, 7)) rfl (by decide) q129 rfl rfl ht_31 ?_
      refine z_astore_n dX0_end_36 rfl (by decide) (lc' := [(0, .ref a), (1, .int x1), (2, .ref e_28)]) rfl ?_
      refine z_aload_n 0 dX0_end_37 rfl rfl ?_
      refine z_aload_n 2 dX0_end_38 rfl rfl ?_
      obtain ⟨hK_32, hf⟩ := zck_some hf
      refine z_geti fdX0_17_1 ((hK_32.b 0 rfl).t 0 rfl) dX0_end_39 ?_
      obtain ⟨v_34, h_35, hc_33, hf⟩ := zb2_some hf
      have hct := ctX0_answer (l := F.1) hL hc_33
      refine z_invVi suX0_163_0 hct ((hL.b 0 rfl).t 0 rfl) ⟨Nat.le_trans (by decide) hD, by decide⟩ rfl rfl (Nat.le_of_ble_eq_true rfl) dX0_end_42 ?_
      have hL := hL.ext hct.1
      have hK_13 := hK_13.ext hct.1
      have hK_32 := hK_32.ext hct.1
      cases hf
      exact z_iret dX0_end_45 rfl hM
    have hct : zLx _ _ ∧ True := ⟨lV_Machine_end (l := F.1) hc_25, trivial⟩
    refine zVX0_296v (Nat.le_trans (by decide) hD) hc_25 (Nat.le_of_ble_eq_true rfl) dX0_end_28 ?_
    have hL := hL.ext hct.1
    have hK_13 := hK_13.ext hct.1
    refine z_aload_n 2 dX0_end_31 rfl rfl ?_
    refine z_getiM fsX0_354_2 hK_13 dX0_end_32 ?_
    cases hf
    exact z_iret dX0_end_35 rfl hM
  · refine z_iconst 1 dX0_end_17 rfl ?_
    refine z_goto 22 dX0_end_18 rfl ?_
    refine z_bipush (-6) dX0_end_22 rfl ?_
    rcases zxv_some hf with ⟨h_38, hc_36, hf⟩ | ⟨e_39, h_40, hc_41, hf⟩
    rotate_left
    · have hct := ctX0_need (l := F.1) hL hc_41
      refine z_invVt suX0_184_0 hct ((hL.b 0 rfl).t 0 rfl) ⟨Nat.le_trans (by decide) hD, by decide⟩ rfl rfl (Nat.le_of_ble_eq_true rfl) dX0_end_24 ?_
      have hL := hL.ext hct.1
      have hK_13 := hK_13.ext hct.1
      obtain ⟨ht_42, hf⟩ := zck_some hf
      refine zt_catch (q := (RX1, TX1, 7)) rfl (by decide) q129 rfl rfl ht_42 ?_
      refine z_astore_n dX0_end_36 rfl (by decide) (lc' := [(0, .ref a), (1, .int x1), (2, .ref e_39)]) rfl ?_
      refine z_aload_n 0 dX0_end_37 rfl rfl ?_
      refine z_aload_n 2 dX0_end_38 rfl rfl ?_
      obtain ⟨hK_43, hf⟩ := zck_some hf
      refine z_geti fdX0_17_1 ((hK_43.b 0 rfl).t 0 rfl) dX0_end_39 ?_
      obtain ⟨v_45, h_46, hc_44, hf⟩ := zb2_some hf
      have hct := ctX0_answer (l := F.1) hL hc_44
      refine z_invVi suX0_163_0 hct ((hL.b 0 rfl).t 0 rfl) ⟨Nat.le_trans (by decide) hD, by decide⟩ rfl rfl (Nat.le_of_ble_eq_true rfl) dX0_end_42 ?_
      have hL := hL.ext hct.1
      have hK_13 := hK_13.ext hct.1
      have hK_43 := hK_43.ext hct.1
      cases hf
      exact z_iret dX0_end_45 rfl hM
    have hct := ctX0_need (l := F.1) hL hc_36
    refine z_invVv suX0_184_0 hct ((hL.b 0 rfl).t 0 rfl) ⟨Nat.le_trans (by decide) hD, by decide⟩ rfl rfl (Nat.le_of_ble_eq_true rfl) dX0_end_24 ?_
    have hL := hL.ext hct.1
    have hK_13 := hK_13.ext hct.1
    refine z_aload_n 2 dX0_end_27 rfl rfl ?_
    rcases zxv_some hf with ⟨h_49, hc_47, hf⟩ | ⟨e_50, h_51, hc_52, hf⟩
    rotate_left
    · have hct : zLx _ _ ∧ True := ⟨lV_Machine_end (l := F.1) hc_52, trivial⟩
      refine zVX0_296t (Nat.le_trans (by decide) hD) hc_52 (Nat.le_of_ble_eq_true rfl) dX0_end_28 ?_
      have hL := hL.ext hct.1
      have hK_13 := hK_13.ext hct.1
      obtain ⟨ht_53, hf⟩ := zck_some hf
      refine zt_catch (q := (RX1, TX1, 7)) rfl (by decide) q129 rfl rfl ht_53 ?_
      refine z_astore_n dX0_end_36 rfl (by decide) (lc' := [(0, .ref a), (1, .int x1), (2, .ref e_50)]) rfl ?_
      refine z_aload_n 0 dX0_end_37 rfl rfl ?_
      refine z_aload_n 2 dX0_end_38 rfl rfl ?_
      obtain ⟨hK_54, hf⟩ := zck_some hf
      refine z_geti fdX0_17_1 ((hK_54.b 0 rfl).t 0 rfl) dX0_end_39 ?_
      obtain ⟨v_56, h_57, hc_55, hf⟩ := zb2_some hf
      have hct := ctX0_answer (l := F.1) hL hc_55
      refine z_invVi suX0_163_0 hct ((hL.b 0 rfl).t 0 rfl) ⟨Nat.le_trans (by decide) hD, by decide⟩ rfl rfl (Nat.le_of_ble_eq_true rfl) dX0_end_42 ?_
      have hL := hL.ext hct.1
      have hK_13 := hK_13.ext hct.1
      have hK_54 := hK_54.ext hct.1
      cases hf
      exact z_iret dX0_end_45 rfl hM
    have hct : zLx _ _ ∧ True := ⟨lV_Machine_end (l := F.1) hc_47, trivial⟩
    refine zVX0_296v (Nat.le_trans (by decide) hD) hc_47 (Nat.le_of_ble_eq_true rfl) dX0_end_28 ?_
    have hL := hL.ext hct.1
    have hK_13 := hK_13.ext hct.1
    refine z_aload_n 2 dX0_end_31 rfl rfl ?_
    refine z_getiM fsX0_354_2 hK_13 dX0_end_32 ?_
    cases hf
    exact z_iret dX0_end_35 rfl hM
theorem ctX0_end {l : Launch} {h : zH} {a : Nat} {x1 : Int32} {v : Int32} {h' : zH} (hL : zXx h a) (hf : fX0_end h a x1 = some (v, h')) : zC l yX0_end (wsW_ yX0_end cX0_end 3 (some .int) [(0, 35, 36, 18)]) 121 [.ref a, .int x1] h (.inl (some (.int v)), h') :=
  z_startW (by decide) (Nat.le_of_ble_eq_true rfl) (zX0_end (F := (l, 121, h, (.inl (some (.int v)), h'))) (Nat.le_refl _) hL hf rfl)
noncomputable def fX4_waits_3 (h : zH) (a : Nat) (xx : Nat) : Option (Int32) := some (zI h a 5)
theorem zX4_waits_3 {F : zF} {h : zH} {a : Nat} {xx : Nat} {y : Int32} (hD : 1 ≤ F.2.1) (hL : zRd h a xx) (hf : fX4_waits_3 h a xx = some y) (hM : ((.inl (some (.int y)), h) : zX) = zEnd F) : Z F 1 cX4_waits RX4 "waits" (some .int) [] h 0 [(0, .ref a)] [] := by
  unfold fX4_waits_3 at hf
  refine z_aload_n 0 dX4_waits_0 rfl rfl ?_
  refine z_geti fdX4_34_3 ((hL.b 0 rfl).t 0 rfl) dX4_waits_1 ?_
  cases hf
  exact z_iret dX4_waits_4 rfl hM
theorem ctX4_waits_3 {l : Launch} {h : zH} {a : Nat} {xx : Nat} {v : Int32} (hL : zRd h a xx) (hf : fX4_waits_3 h a xx = some v) : zC l yX4_waits (ws_ yX4_waits cX4_waits 1 (some .int)) 1 [.ref a] h (.inl (some (.int v)), h) :=
  z_start (by decide) (Nat.le_of_ble_eq_true rfl) (zX4_waits_3 (F := (l, 1, h, (.inl (some (.int v)), h))) (Nat.le_refl _) hL hf rfl)
theorem suX14_1_3 : zIf RX14 1 ⟨"CodeExchange$Steps", "waits", "()I"⟩ yX4_waits (ws_ yX4_waits cX4_waits 1 (some .int)) 1 3 0 := ⟨(zGood_c q1269 q104), ⟨_, _, rfl, rfl, q1265, q1266, q1256⟩, q1262, by decide, q1268, q1267, by decide +kernel⟩
noncomputable def fX14_isEmpty_3 (h : zH) (a : Nat) (xx : Nat) : Option (Int32) := zb1 (fX4_waits_3 h a xx) (fun v_2 => if v_2 = 0 then (some 1) else (some 0))
theorem zX14_isEmpty_3 {F : zF} {h : zH} {a : Nat} {xx : Nat} {y : Int32} (hD : 2 ≤ F.2.1) (hL : zRd h a xx) (hf : fX14_isEmpty_3 h a xx = some y) (hM : ((.inl (some (.int y)), h) : zX) = zEnd F) : Z F 1 cX14_isEmpty RX14 "isEmpty" (some .boolean) [] h 0 [(0, .ref a)] [] := by
  unfold fX14_isEmpty_3 at hf
  refine z_aload_n 0 dX14_isEmpty_0 rfl rfl ?_
  obtain ⟨v_2, hc_1, hf⟩ := zb1_some hf
  refine z_invFi suX14_1_3 (ctX4_waits_3 hL hc_1) ((hL.b 0 rfl).t 0 rfl) ⟨Nat.le_trans (by decide) hD, by decide⟩ rfl rfl (Nat.le_of_ble_eq_true rfl) dX14_isEmpty_1 ?_
  refine z_if_ne 13 dX14_isEmpty_6 rfl hf (fun _ hf => ?_) (fun _ hf => ?_)
  · refine z_iconst 0 dX14_isEmpty_13 rfl ?_
    cases hf
    exact z_zret dX14_isEmpty_14 rfl (Or.inl rfl) hM
  · refine z_iconst 1 dX14_isEmpty_9 rfl ?_
    refine z_goto 14 dX14_isEmpty_10 rfl ?_
    cases hf
    exact z_zret dX14_isEmpty_14 rfl (Or.inr rfl) hM
theorem ctX14_isEmpty_3 {l : Launch} {h : zH} {a : Nat} {xx : Nat} {v : Int32} (hL : zRd h a xx) (hf : fX14_isEmpty_3 h a xx = some v) : zC l yX14_isEmpty (ws_ yX14_isEmpty cX14_isEmpty 1 (some .boolean)) 2 [.ref a] h (.inl (some (.int v)), h) :=
  z_start (by decide) (Nat.le_of_ble_eq_true rfl) (zX14_isEmpty_3 (F := (l, 2, h, (.inl (some (.int v)), h))) (Nat.le_refl _) hL hf rfl)
noncomputable def fX4_waits_4 (h : zH) (a : Nat) (xx : Nat) : Option (Int32) := some (zI h a 5)
theorem zX4_waits_4 {F : zF} {h : zH} {a : Nat} {xx : Nat} {y : Int32} (hD : 1 ≤ F.2.1) (hL : zWr h a xx) (hf : fX4_waits_4 h a xx = some y) (hM : ((.inl (some (.int y)), h) : zX) = zEnd F) : Z F 1 cX4_waits RX4 "waits" (some .int) [] h 0 [(0, .ref a)] [] := by
  unfold fX4_waits_4 at hf
  refine z_aload_n 0 dX4_waits_0 rfl rfl ?_
  refine z_geti fdX4_34_4 ((hL.b 0 rfl).t 0 rfl) dX4_waits_1 ?_
  cases hf
  exact z_iret dX4_waits_4 rfl hM
theorem ctX4_waits_4 {l : Launch} {h : zH} {a : Nat} {xx : Nat} {v : Int32} (hL : zWr h a xx) (hf : fX4_waits_4 h a xx = some v) : zC l yX4_waits (ws_ yX4_waits cX4_waits 1 (some .int)) 1 [.ref a] h (.inl (some (.int v)), h) :=
  z_start (by decide) (Nat.le_of_ble_eq_true rfl) (zX4_waits_4 (F := (l, 1, h, (.inl (some (.int v)), h))) (Nat.le_refl _) hL hf rfl)
theorem suX14_1_4 : zIf RX14 1 ⟨"CodeExchange$Steps", "waits", "()I"⟩ yX4_waits (ws_ yX4_waits cX4_waits 1 (some .int)) 1 4 0 := ⟨(zGood_c q1269 q104), ⟨_, _, rfl, rfl, q1271, q1272, q1270⟩, q1262, by decide, q1268, q1267, by decide +kernel⟩
noncomputable def fX14_isEmpty_4 (h : zH) (a : Nat) (xx : Nat) : Option (Int32) := zb1 (fX4_waits_4 h a xx) (fun v_2 => if v_2 = 0 then (some 1) else (some 0))
theorem zX14_isEmpty_4 {F : zF} {h : zH} {a : Nat} {xx : Nat} {y : Int32} (hD : 2 ≤ F.2.1) (hL : zWr h a xx) (hf : fX14_isEmpty_4 h a xx = some y) (hM : ((.inl (some (.int y)), h) : zX) = zEnd F) : Z F 1 cX14_isEmpty RX14 "isEmpty" (some .boolean) [] h 0 [(0, .ref a)] [] := by
  unfold fX14_isEmpty_4 at hf
  refine z_aload_n 0 dX14_isEmpty_0 rfl rfl ?_
  obtain ⟨v_2, hc_1, hf⟩ := zb1_some hf
  refine z_invFi suX14_1_4 (ctX4_waits_4 hL hc_1) ((hL.b 0 rfl).t 0 rfl) ⟨Nat.le_trans (by decide) hD, by decide⟩ rfl rfl (Nat.le_of_ble_eq_true rfl) dX14_isEmpty_1 ?_
  refine z_if_ne 13 dX14_isEmpty_6 rfl hf (fun _ hf => ?_) (fun _ hf => ?_)
  · refine z_iconst 0 dX14_isEmpty_13 rfl ?_
    cases hf
    exact z_zret dX14_isEmpty_14 rfl (Or.inl rfl) hM
  · refine z_iconst 1 dX14_isEmpty_9 rfl ?_
    refine z_goto 14 dX14_isEmpty_10 rfl ?_
    cases hf
    exact z_zret dX14_isEmpty_14 rfl (Or.inr rfl) hM
theorem ctX14_isEmpty_4 {l : Launch} {h : zH} {a : Nat} {xx : Nat} {v : Int32} (hL : zWr h a xx) (hf : fX14_isEmpty_4 h a xx = some v) : zC l yX14_isEmpty (ws_ yX14_isEmpty cX14_isEmpty 1 (some .boolean)) 2 [.ref a] h (.inl (some (.int v)), h) :=
  z_start (by decide) (Nat.le_of_ble_eq_true rfl) (zX14_isEmpty_4 (F := (l, 2, h, (.inl (some (.int v)), h))) (Nat.le_refl _) hL hf rfl)
noncomputable def fX4_take_3 (h : zH) (a : Nat) (xx : Nat) : Option (Int32 × zH) := zlet (zsI h a 5 ((zI h a 5) - 1)) (fun h_1 => zlet (zsI h_1 a 4 ((zI h_1 a 4) + 1)) (fun h_2 => zck (vp_in ((zI h_2 a 4) - 1) 700) (some ((zI h_2 (a + 1) ((zI h_2 a 4) - 1).toNatClampNeg, h_2)))))
theorem zX4_take_3 {F : zF} {h : zH} {a : Nat} {xx : Nat} {y : Int32 × zH} (hD : 1 ≤ F.2.1) (hL : zRd h a xx) (hf : fX4_take_3 h a xx = some y) (hM : ((.inl (some (.int y.1)), y.2) : zX) = zEnd F) : Z F 1 cX4_take RX4 "take" (some .int) [] h 0 [(0, .ref a)] [] := by
  unfold fX4_take_3 at hf
  refine z_aload_n 0 dX4_take_0 rfl rfl ?_
  refine z_dup dX4_take_1 rfl ?_
  refine z_geti fdX4_34_3 ((hL.b 0 rfl).t 0 rfl) dX4_take_2 ?_
  refine z_iconst 1 dX4_take_5 rfl ?_
  refine z_isub dX4_take_6 ?_
  obtain ⟨h_1, he, hf⟩ := zlet_some hf
  refine z_puti fdX4_34_3 ((hL.b 0 rfl).t 0 rfl) ((hL.b 0 rfl).nz 0) he dX4_take_7 ?_
  have hL := hL.I he
  refine z_aload_n 0 dX4_take_10 rfl rfl ?_
  refine z_dup dX4_take_11 rfl ?_
  refine z_geti fdX4_31_3 ((hL.b 0 rfl).t 0 rfl) dX4_take_12 ?_
  refine z_iconst 1 dX4_take_15 rfl ?_
  refine z_iadd dX4_take_16 ?_
  obtain ⟨h_2, he, hf⟩ := zlet_some hf
  refine z_puti fdX4_31_3 ((hL.b 0 rfl).t 0 rfl) ((hL.b 0 rfl).nz 0) he dX4_take_17 ?_
  have hL := hL.I he
  refine z_aload_n 0 dX4_take_20 rfl rfl ?_
  refine z_getr fdX4_15_3 (Or.inr ⟨_, rfl⟩) ((hL.b 0 rfl).t 0 rfl) ((hL.b 0 rfl).p 0 rfl) dX4_take_21 ?_
  refine z_aload_n 0 dX4_take_24 rfl rfl ?_
  refine z_geti fdX4_31_3 ((hL.b 0 rfl).t 0 rfl) dX4_take_25 ?_
  refine z_iconst 1 dX4_take_28 rfl ?_
  refine z_isub dX4_take_29 ?_
  obtain ⟨hi_3, hf⟩ := zck_some hf
  refine z_iald ((hL.b 0 rfl).t 1 rfl) hi_3 dX4_take_30 ?_
  cases hf
  exact z_iret dX4_take_31 rfl hM
theorem ctX4_take_3 {l : Launch} {h : zH} {a : Nat} {xx : Nat} {v : Int32} {h' : zH} (hL : zRd h a xx) (hf : fX4_take_3 h a xx = some (v, h')) : zC l yX4_take (ws_ yX4_take cX4_take 1 (some .int)) 1 [.ref a] h (.inl (some (.int v)), h') :=
  z_start (by decide) (Nat.le_of_ble_eq_true rfl) (zX4_take_3 (F := (l, 1, h, (.inl (some (.int v)), h'))) (Nat.le_refl _) hL hf rfl)
noncomputable def fX4_take_4 (h : zH) (a : Nat) (xx : Nat) : Option (Int32 × zH) := zlet (zsI h a 5 ((zI h a 5) - 1)) (fun h_1 => zlet (zsI h_1 a 4 ((zI h_1 a 4) + 1)) (fun h_2 => zck (vp_in ((zI h_2 a 4) - 1) 700) (some ((zI h_2 (a + 1) ((zI h_2 a 4) - 1).toNatClampNeg, h_2)))))
theorem zX4_take_4 {F : zF} {h : zH} {a : Nat} {xx : Nat} {y : Int32 × zH} (hD : 1 ≤ F.2.1) (hL : zWr h a xx) (hf : fX4_take_4 h a xx = some y) (hM : ((.inl (some (.int y.1)), y.2) : zX) = zEnd F) : Z F 1 cX4_take RX4 "take" (some .int) [] h 0 [(0, .ref a)] [] := by
  unfold fX4_take_4 at hf
  refine z_aload_n 0 dX4_take_0 rfl rfl ?_
  refine z_dup dX4_take_1 rfl ?_
  refine z_geti fdX4_34_4 ((hL.b 0 rfl).t 0 rfl) dX4_take_2 ?_
  refine z_iconst 1 dX4_take_5 rfl ?_
  refine z_isub dX4_take_6 ?_
  obtain ⟨h_1, he, hf⟩ := zlet_some hf
  refine z_puti fdX4_34_4 ((hL.b 0 rfl).t 0 rfl) ((hL.b 0 rfl).nz 0) he dX4_take_7 ?_
  have hL := hL.I he
  refine z_aload_n 0 dX4_take_10 rfl rfl ?_
  refine z_dup dX4_take_11 rfl ?_
  refine z_geti fdX4_31_4 ((hL.b 0 rfl).t 0 rfl) dX4_take_12 ?_
  refine z_iconst 1 dX4_take_15 rfl ?_
  refine z_iadd dX4_take_16 ?_
  obtain ⟨h_2, he, hf⟩ := zlet_some hf
  refine z_puti fdX4_31_4 ((hL.b 0 rfl).t 0 rfl) ((hL.b 0 rfl).nz 0) he dX4_take_17 ?_
  have hL := hL.I he
  refine z_aload_n 0 dX4_take_20 rfl rfl ?_
  refine z_getr fdX4_15_4 (Or.inr ⟨_, rfl⟩) ((hL.b 0 rfl).t 0 rfl) ((hL.b 0 rfl).p 0 rfl) dX4_take_21 ?_
  refine z_aload_n 0 dX4_take_24 rfl rfl ?_
  refine z_geti fdX4_31_4 ((hL.b 0 rfl).t 0 rfl) dX4_take_25 ?_
  refine z_iconst 1 dX4_take_28 rfl ?_
  refine z_isub dX4_take_29 ?_
  obtain ⟨hi_3, hf⟩ := zck_some hf
  refine z_iald ((hL.b 0 rfl).t 1 rfl) hi_3 dX4_take_30 ?_
  cases hf
  exact z_iret dX4_take_31 rfl hM
theorem ctX4_take_4 {l : Launch} {h : zH} {a : Nat} {xx : Nat} {v : Int32} {h' : zH} (hL : zWr h a xx) (hf : fX4_take_4 h a xx = some (v, h')) : zC l yX4_take (ws_ yX4_take cX4_take 1 (some .int)) 1 [.ref a] h (.inl (some (.int v)), h') :=
  z_start (by decide) (Nat.le_of_ble_eq_true rfl) (zX4_take_4 (F := (l, 1, h, (.inl (some (.int v)), h'))) (Nat.le_refl _) hL hf rfl)
theorem caX0_355_2 : ∀ ci ∈ [3, 4], zCa RX0 355 ci := by
  intro ci h
  simp only [List.mem_cons, List.not_mem_nil, or_false] at h
  rcases h with rfl | rfl
  · exact ⟨_, _, _, rfl, rfl, q1251, Or.inr q1256⟩
  · exact ⟨_, _, _, rfl, rfl, q1251, Or.inr q1270⟩
noncomputable def fV_Steps_isEmpty (h : zH) (b : Nat)  : Option (Int32) := if zT h b = (4, 0) then (zb1 (zP h b 11) (fun xx => zck (zRd h b xx) (fX14_isEmpty_3 h b xx))) else if zT h b = (5, 0) then (zb1 (zP h b 11) (fun xx => zck (zWr h b xx) (fX14_isEmpty_4 h b xx))) else none
theorem zVX0_357i {F : zF} {nL : Nat} {cc : ByteArray} {nm : String} {ret : Option FieldType} {hh : List (Nat × Nat × Nat × Nat)} {h : zH} {pc b : Nat} {lc : List (Nat × Value)} {st : List Value}  {v : Int32} (hD : 3 ≤ F.2.1) (hf : fV_Steps_isEmpty h b  = some v) (hcat : (st.map fun v => v.category).sum ≤ 8) (hd : decode cc pc = .ok (.invokeinterface 357 1, 5)) (kk : Z F nL cc RX0 nm ret hh h (pc + 5) lc (.int v :: st)) : Z F nL cc RX0 nm ret hh h pc lc (.ref b :: st) := by
  unfold fV_Steps_isEmpty at hf
  refine zdsp hf (fun e hf => ?_) (fun _ hf => ?_)
  · obtain ⟨xx, hx, hf⟩ := zb1_some hf
    obtain ⟨hK, hf⟩ := zck_some hf
    have hc := hf
    exact z_invD (Or.inl rfl) (zX14_isEmpty_3 (F := (F.1, 2, h, (.inl (some (.int v)), h))) (Nat.le_refl _) hK hc rfl) e (Nat.le_trans (by decide) hD) hcat hd kk
  refine zdsp hf (fun e hf => ?_) (fun _ hf => ?_)
  · obtain ⟨xx, hx, hf⟩ := zb1_some hf
    obtain ⟨hK, hf⟩ := zck_some hf
    have hc := hf
    exact z_invD (Or.inr rfl) (zX14_isEmpty_4 (F := (F.1, 2, h, (.inl (some (.int v)), h))) (Nat.le_refl _) hK hc rfl) e (Nat.le_trans (by decide) hD) hcat hd kk
  cases hf
noncomputable def fV_Machine_take (h : zH) (b : Nat)  : Option (Int32 × zH) := if zT h b = (4, 0) then (zb1 (zP h b 11) (fun xx => zck (zRd h b xx) (fX4_take_3 h b xx))) else if zT h b = (5, 0) then (zb1 (zP h b 11) (fun xx => zck (zWr h b xx) (fX4_take_4 h b xx))) else none
theorem lV_Machine_take {l : Launch} {h : zH} {b : Nat}  {v : Int32} {h' : zH} (hf : fV_Machine_take h b  = some (v, h')) : zLx h h' := by
  unfold fV_Machine_take at hf
  refine zdsp hf (fun e hf => ?_) (fun _ hf => ?_)
  · obtain ⟨xx, hx, hf⟩ := zb1_some hf
    obtain ⟨hK, hf⟩ := zck_some hf
    have hc := hf
    exact (ctX4_take_3 (l := l) hK hc).1
  refine zdsp hf (fun e hf => ?_) (fun _ hf => ?_)
  · obtain ⟨xx, hx, hf⟩ := zb1_some hf
    obtain ⟨hK, hf⟩ := zck_some hf
    have hc := hf
    exact (ctX4_take_4 (l := l) hK hc).1
  cases hf
theorem suX0_360_3 : zIu RX0 360 ⟨"CodeExchange$Machine", "take", "()I"⟩ "CodeExchange$Machine" yX4_take (ws_ yX4_take cX4_take 1 (some .int)) 1 3 0 := ⟨(zGood_c q1279 q104), ⟨_, _, rfl, rfl, q1277⟩, q1274, q1276, (Or.inl ⟨q1275, _, _, _, q1279⟩), by decide, q1275, by decide +kernel⟩
theorem suX0_360_4 : zIu RX0 360 ⟨"CodeExchange$Machine", "take", "()I"⟩ "CodeExchange$Machine" yX4_take (ws_ yX4_take cX4_take 1 (some .int)) 1 4 0 := ⟨(zGood_c q1279 q104), ⟨_, _, rfl, rfl, q1278⟩, q1274, q1276, (Or.inl ⟨q1275, _, _, _, q1279⟩), by decide, q1275, by decide +kernel⟩
theorem zVX0_360i {F : zF} {nL : Nat} {cc : ByteArray} {nm : String} {ret : Option FieldType} {hh : List (Nat × Nat × Nat × Nat)} {h h1 : zH} {pc b : Nat} {lc : List (Nat × Value)} {st : List Value}  {v : Int32} (hD : 2 ≤ F.2.1) (hf : fV_Machine_take h b  = some (v, h1)) (hcat : (st.map fun v => v.category).sum ≤ 8) (hd : decode cc pc = .ok (.invokevirtual 360, 3)) (kk : Z F nL cc RX0 nm ret hh h1 (pc + 3) lc (.int v :: st)) : Z F nL cc RX0 nm ret hh h pc lc (.ref b :: st) := by
  unfold fV_Machine_take at hf
  refine zdsp hf (fun e hf => ?_) (fun _ hf => ?_)
  · obtain ⟨xx, hx, hf⟩ := zb1_some hf
    obtain ⟨hK, hf⟩ := zck_some hf
    have hc := hf
    exact z_invUi suX0_360_3 (ctX4_take_3 hK hc) e ⟨Nat.le_trans (by decide) hD, by decide⟩ rfl rfl hcat hd kk
  refine zdsp hf (fun e hf => ?_) (fun _ hf => ?_)
  · obtain ⟨xx, hx, hf⟩ := zb1_some hf
    obtain ⟨hK, hf⟩ := zck_some hf
    have hc := hf
    exact z_invUi suX0_360_4 (ctX4_take_4 hK hc) e ⟨Nat.le_trans (by decide) hD, by decide⟩ rfl rfl hcat hd kk
  cases hf
noncomputable def fX0_take (h : zH) (a : Nat) (x1 : Int32) : Option (Int32 × zH) := zb1 (fX0_in x1 0 3) (fun v_2 => if v_2 = 0 then (zb2 (fX0_answer h a ((-1))) (fun v_23 h_24 => some ((v_23, h_24)))) else (zck (vp_in x1 4) (zb1 (zP h (a + 32) x1.toNatClampNeg) (fun b_5 => zck (zOb 6 h b_5) (zlet (zP h b_5 0) (fun q_7 => zrq q_7 (zb2 (fX0_answer h a ((-2))) (fun v_10 h_11 => some ((v_10, h_11)))) (fun b_8 => zck (zMc h b_8) (zb1 (fV_Steps_isEmpty h b_8) (fun v_14 => if v_14 = 0 then (zb2 (fV_Machine_take h b_8) (fun v_17 h_18 => some ((v_17, h_18)))) else (zb2 (fX0_answer h a ((-2))) (fun v_20 h_21 => some ((v_20, h_21)))))))))))))
theorem zX0_take {F : zF} {h : zH} {a : Nat} {x1 : Int32} {y : Int32 × zH} (hD : 3 ≤ F.2.1) (hL : zXx h a) (hf : fX0_take h a x1 = some y) (hM : ((.inl (some (.int y.1)), y.2) : zX) = zEnd F) : Z F 3 cX0_take RX0 "take" (some .int) [] h 0 [(0, .ref a), (1, .int x1)] [] := by
  unfold fX0_take at hf
  refine z_iload_n 1 dX0_take_0 rfl rfl ?_
  refine z_iconst 0 dX0_take_1 rfl ?_
  refine z_iconst 3 dX0_take_2 rfl ?_
  obtain ⟨v_2, hc_1, hf⟩ := zb1_some hf
  refine z_invSi suX0_4_s (ctX0_in hc_1) ⟨Nat.le_trans (by decide) hD, by decide⟩ rfl rfl (Nat.le_of_ble_eq_true rfl) dX0_take_3 ?_
  refine z_if_ne 15 dX0_take_6 rfl hf (fun _ hf => ?_) (fun _ hf => ?_)
  · refine z_aload_n 0 dX0_take_15 rfl rfl ?_
    refine z_getr fdX0_72_0 (Or.inr ⟨_, rfl⟩) ((hL.b 0 rfl).t 0 rfl) ((hL.b 0 rfl).p 9 rfl) dX0_take_16 ?_
    refine z_iload_n 1 dX0_take_19 rfl rfl ?_
    obtain ⟨hi_4, hf⟩ := zck_some hf
    obtain ⟨b_5, hb_5, hf⟩ := zb1_some hf
    refine z_aldr (t := 3) rfl (Or.inl ⟨_, rfl⟩) ((hL.b 0 rfl).t 32 rfl) hi_4 hb_5 dX0_take_20 ?_
    obtain ⟨hK_6, hf⟩ := zck_some hf
    obtain ⟨q_7, hq, hf⟩ := zlet_some hf
    refine z_getqv fdX0_128_6 (Or.inl ⟨_, rfl⟩) ((hK_6.b 0 rfl).t 0 rfl) hq dX0_take_21 ?_
    rcases zrq_some hf with ⟨e9, hf9⟩ | ⟨b_8, e9, hf9⟩
    · subst e9
      have hf := hf9
      refine z_castN dX0_take_24 ?_
      refine z_astore_nq (x := none) dX0_take_27 rfl (by decide) (lc' := [(0, .ref a), (1, .int x1), (2, .null)]) rfl ?_
      refine z_aload_nq (x := none) 2 dX0_take_28 rfl rfl ?_
      refine z_ifnullN 41 dX0_take_29 rfl ?_
      refine z_aload_n 0 dX0_take_41 rfl rfl ?_
      refine z_bipush (-2) dX0_take_42 rfl ?_
      obtain ⟨v_10, h_11, hc_9, hf⟩ := zb2_some hf
      have hct := ctX0_answer (l := F.1) hL hc_9
      refine z_invVi suX0_163_0 hct ((hL.b 0 rfl).t 0 rfl) ⟨Nat.le_trans (by decide) hD, by decide⟩ rfl rfl (Nat.le_of_ble_eq_true rfl) dX0_take_44 ?_
      have hL := hL.ext hct.1
      have hK_6 := hK_6.ext hct.1
      refine z_goto 57 dX0_take_47 rfl ?_
      cases hf
      exact z_iret dX0_take_57 rfl hM
    · subst e9
      have hf := hf9
      obtain ⟨hK_12, hf⟩ := zck_some hf
      refine z_castM caX0_355_2 hK_12 dX0_take_24 ?_
      refine z_astore_n dX0_take_27 rfl (by decide) (lc' := [(0, .ref a), (1, .int x1), (2, .ref b_8)]) rfl ?_
      refine z_aload_n 2 dX0_take_28 rfl rfl ?_
      refine z_ifnullR (tgt := 0) dX0_take_29 ?_
      refine z_aload_n 2 dX0_take_32 rfl rfl ?_
      obtain ⟨v_14, hc_13, hf⟩ := zb1_some hf
      refine zVX0_357i (Nat.le_trans (by decide) hD) hc_13 (Nat.le_of_ble_eq_true rfl) dX0_take_33 ?_
      refine z_if_eq 50 dX0_take_38 rfl hf (fun _ hf => ?_) (fun _ hf => ?_)
      · refine z_aload_n 2 dX0_take_50 rfl rfl ?_
        refine z_castM caX0_288_2 hK_12 dX0_take_51 ?_
        obtain ⟨v_17, h_18, hc_16, hf⟩ := zb2_some hf
        have hct : zLx _ _ ∧ True := ⟨lV_Machine_take (l := F.1) hc_16, trivial⟩
        refine zVX0_360i (Nat.le_trans (by decide) hD) hc_16 (Nat.le_of_ble_eq_true rfl) dX0_take_54 ?_
        have hL := hL.ext hct.1
        have hK_6 := hK_6.ext hct.1
        have hK_12 := hK_12.ext hct.1
        cases hf
        exact z_iret dX0_take_57 rfl hM
      · refine z_aload_n 0 dX0_take_41 rfl rfl ?_
        refine z_bipush (-2) dX0_take_42 rfl ?_
        obtain ⟨v_20, h_21, hc_19, hf⟩ := zb2_some hf
        have hct := ctX0_answer (l := F.1) hL hc_19
        refine z_invVi suX0_163_0 hct ((hL.b 0 rfl).t 0 rfl) ⟨Nat.le_trans (by decide) hD, by decide⟩ rfl rfl (Nat.le_of_ble_eq_true rfl) dX0_take_44 ?_
        have hL := hL.ext hct.1
        have hK_6 := hK_6.ext hct.1
        have hK_12 := hK_12.ext hct.1
        refine z_goto 57 dX0_take_47 rfl ?_
        cases hf
        exact z_iret dX0_take_57 rfl hM
  · refine z_aload_n 0 dX0_take_9 rfl rfl ?_
    refine z_iconst (-1) dX0_take_10 rfl ?_
    obtain ⟨v_23, h_24, hc_22, hf⟩ := zb2_some hf
    have hct := ctX0_answer (l := F.1) hL hc_22
    refine z_invVi suX0_163_0 hct ((hL.b 0 rfl).t 0 rfl) ⟨Nat.le_trans (by decide) hD, by decide⟩ rfl rfl (Nat.le_of_ble_eq_true rfl) dX0_take_11 ?_
    have hL := hL.ext hct.1
    cases hf
    exact z_iret dX0_take_14 rfl hM
theorem ctX0_take {l : Launch} {h : zH} {a : Nat} {x1 : Int32} {v : Int32} {h' : zH} (hL : zXx h a) (hf : fX0_take h a x1 = some (v, h')) : zC l yX0_take (ws_ yX0_take cX0_take 3 (some .int)) 3 [.ref a, .int x1] h (.inl (some (.int v)), h') :=
  z_start (by decide) (Nat.le_of_ble_eq_true rfl) (zX0_take (F := (l, 3, h, (.inl (some (.int v)), h'))) (Nat.le_refl _) hL hf rfl)
noncomputable def fX0_machine_J41 (h : zH) (a : Nat) (x3 : Option Nat) : Option (Int32 × zH) := zrq x3 (zb2 (fX0_answer h a ((-2))) (fun v_11 h_12 => some ((v_11, h_12)))) (fun b_9 => zb2 (fX0_answer h a ((-1))) (fun v_14 h_15 => some ((v_14, h_15))))
theorem zX0_machine_J41 {F : zF} {h : zH} {a : Nat} {x3 : Option Nat} {y : Int32 × zH} (hD : 2 ≤ F.2.1) (hL : zXx h a) (hf : fX0_machine_J41 h a x3 = some y) (hM : ((.inl (some (.int y.1)), y.2) : zX) = zEnd F) : Z F 4 cX0_machine RX0 "machine" (some .int) [] h 41 [(0, .ref a), (3, va_rf x3)] [] := by
  unfold fX0_machine_J41 at hf
  refine z_aload_n 0 dX0_machine_41 rfl rfl ?_
  refine z_aload_nq 1 dX0_machine_42 rfl rfl ?_
  rcases zrq_some hf with ⟨e9, hf9⟩ | ⟨b_9, e9, hf9⟩
  · subst e9
    have hf := hf9
    refine z_ifnonnullN dX0_machine_43 ?_
    refine z_bipush (-2) dX0_machine_46 rfl ?_
    refine z_goto 52 dX0_machine_48 rfl ?_
    obtain ⟨v_11, h_12, hc_10, hf⟩ := zb2_some hf
    have hct := ctX0_answer (l := F.1) hL hc_10
    refine z_invVi suX0_163_0 hct ((hL.b 0 rfl).t 0 rfl) ⟨Nat.le_trans (by decide) hD, by decide⟩ rfl rfl (Nat.le_of_ble_eq_true rfl) dX0_machine_52 ?_
    have hL := hL.ext hct.1
    cases hf
    exact z_iret dX0_machine_55 rfl hM
  · subst e9
    have hf := hf9
    refine z_ifnonnullR 51 dX0_machine_43 rfl ?_
    refine z_iconst (-1) dX0_machine_51 rfl ?_
    obtain ⟨v_14, h_15, hc_13, hf⟩ := zb2_some hf
    have hct := ctX0_answer (l := F.1) hL hc_13
    refine z_invVi suX0_163_0 hct ((hL.b 0 rfl).t 0 rfl) ⟨Nat.le_trans (by decide) hD, by decide⟩ rfl rfl (Nat.le_of_ble_eq_true rfl) dX0_machine_52 ?_
    have hL := hL.ext hct.1
    cases hf
    exact z_iret dX0_machine_55 rfl hM
theorem fdX0_368_3 : zFd RX0 368 3 8 .int false := ⟨_, _, _, rfl, rfl, by decide, rfl, rfl, Or.inl q385, Or.inl rfl⟩
theorem fdX0_368_4 : zFd RX0 368 4 8 .int false := ⟨_, _, _, rfl, rfl, by decide, rfl, rfl, Or.inl q385, Or.inl rfl⟩
theorem fsX0_368_2 : ∀ ci ∈ [3, 4], zFd RX0 368 ci 8 .int false := by
  intro ci h
  simp only [List.mem_cons, List.not_mem_nil, or_false] at h
  rcases h with rfl | rfl
  · exact fdX0_368_3
  · exact fdX0_368_4
theorem fdX0_365_3 : zFd RX0 365 3 7 .int false := ⟨_, _, _, rfl, rfl, by decide, rfl, rfl, Or.inl q379, Or.inl rfl⟩
theorem fdX0_365_4 : zFd RX0 365 4 7 .int false := ⟨_, _, _, rfl, rfl, by decide, rfl, rfl, Or.inl q379, Or.inl rfl⟩
theorem fsX0_365_2 : ∀ ci ∈ [3, 4], zFd RX0 365 ci 7 .int false := by
  intro ci h
  simp only [List.mem_cons, List.not_mem_nil, or_false] at h
  rcases h with rfl | rfl
  · exact fdX0_365_3
  · exact fdX0_365_4
theorem fdX0_362_3 : zFd RX0 362 3 6 .int false := ⟨_, _, _, rfl, rfl, by decide, rfl, rfl, Or.inl q374, Or.inl rfl⟩
theorem fdX0_362_4 : zFd RX0 362 4 6 .int false := ⟨_, _, _, rfl, rfl, by decide, rfl, rfl, Or.inl q374, Or.inl rfl⟩
theorem fsX0_362_2 : ∀ ci ∈ [3, 4], zFd RX0 362 ci 6 .int false := by
  intro ci h
  simp only [List.mem_cons, List.not_mem_nil, or_false] at h
  rcases h with rfl | rfl
  · exact fdX0_362_3
  · exact fdX0_362_4
noncomputable def fX0_machine (h : zH) (a : Nat) (x1 : Int32) (x2 : Int32) : Option (Int32 × zH) := zb1 (fX0_in x1 0 3) (fun v_2 => if v_2 = 0 then (zb2 (fX0_answer h a ((-1))) (fun v_21 h_22 => some ((v_21, h_22)))) else (zck (vp_in x1 4) (zb1 (zP h (a + 32) x1.toNatClampNeg) (fun b_5 => zck (zOb 6 h b_5) (zlet (zP h b_5 0) (fun q_7 => zrq q_7 (fX0_machine_J41 h a none) (fun b_8 => zck (zMc h b_8) (zb1 (fX0_in x2 0 4) (fun v_18 => if v_18 = 0 then (fX0_machine_J41 h a ((some b_8))) else (if x2 = 0 then (some ((zI h b_8 5, h))) else (if x2 = 1 then (some ((zI h b_8 6, h))) else (if x2 = 2 then (some ((zI h b_8 7, h))) else (if x2 = 3 then (some ((zI h b_8 8, h))) else (some ((zI h b_8 10, h))))))))))))))))
theorem zX0_machine {F : zF} {h : zH} {a : Nat} {x1 : Int32} {x2 : Int32} {y : Int32 × zH} (hD : 2 ≤ F.2.1) (hL : zXx h a) (hf : fX0_machine h a x1 x2 = some y) (hM : ((.inl (some (.int y.1)), y.2) : zX) = zEnd F) : Z F 4 cX0_machine RX0 "machine" (some .int) [] h 0 [(0, .ref a), (1, .int x1), (2, .int x2)] [] := by
  unfold fX0_machine at hf
  refine z_iload_n 1 dX0_machine_0 rfl rfl ?_
  refine z_iconst 0 dX0_machine_1 rfl ?_
  refine z_iconst 3 dX0_machine_2 rfl ?_
  obtain ⟨v_2, hc_1, hf⟩ := zb1_some hf
  refine z_invSi suX0_4_s (ctX0_in hc_1) ⟨Nat.le_trans (by decide) hD, by decide⟩ rfl rfl (Nat.le_of_ble_eq_true rfl) dX0_machine_3 ?_
  refine z_if_ne 15 dX0_machine_6 rfl hf (fun _ hf => ?_) (fun _ hf => ?_)
  · refine z_aload_n 0 dX0_machine_15 rfl rfl ?_
    refine z_getr fdX0_72_0 (Or.inr ⟨_, rfl⟩) ((hL.b 0 rfl).t 0 rfl) ((hL.b 0 rfl).p 9 rfl) dX0_machine_16 ?_
    refine z_iload_n 1 dX0_machine_19 rfl rfl ?_
    obtain ⟨hi_4, hf⟩ := zck_some hf
    obtain ⟨b_5, hb_5, hf⟩ := zb1_some hf
    refine z_aldr (t := 3) rfl (Or.inl ⟨_, rfl⟩) ((hL.b 0 rfl).t 32 rfl) hi_4 hb_5 dX0_machine_20 ?_
    obtain ⟨hK_6, hf⟩ := zck_some hf
    obtain ⟨q_7, hq, hf⟩ := zlet_some hf
    refine z_getqv fdX0_128_6 (Or.inl ⟨_, rfl⟩) ((hK_6.b 0 rfl).t 0 rfl) hq dX0_machine_21 ?_
    rcases zrq_some hf with ⟨e9, hf9⟩ | ⟨b_8, e9, hf9⟩
    · subst e9
      have hf := hf9
      refine z_castN dX0_machine_24 ?_
      refine z_astore_nq (x := none) dX0_machine_27 rfl (by decide) (lc' := [(0, .ref a), (1, .int x1), (2, .int x2), (3, .null)]) rfl ?_
      refine z_aload_nq (x := none) 3 dX0_machine_28 rfl rfl ?_
      refine z_ifnullN 41 dX0_machine_29 rfl ?_
      refine z_sub [0, 3] rfl ?_
      exact zX0_machine_J41 hD hL hf hM
    · subst e9
      have hf := hf9
      obtain ⟨hK_16, hf⟩ := zck_some hf
      refine z_castM caX0_288_2 hK_16 dX0_machine_24 ?_
      refine z_astore_n dX0_machine_27 rfl (by decide) (lc' := [(0, .ref a), (1, .int x1), (2, .int x2), (3, .ref b_8)]) rfl ?_
      refine z_aload_n 3 dX0_machine_28 rfl rfl ?_
      refine z_ifnullR (tgt := 0) dX0_machine_29 ?_
      refine z_iload_n 2 dX0_machine_32 rfl rfl ?_
      refine z_iconst 0 dX0_machine_33 rfl ?_
      refine z_iconst 4 dX0_machine_34 rfl ?_
      obtain ⟨v_18, hc_17, hf⟩ := zb1_some hf
      refine z_invSi suX0_4_s (ctX0_in hc_17) ⟨Nat.le_trans (by decide) hD, by decide⟩ rfl rfl (Nat.le_of_ble_eq_true rfl) dX0_machine_35 ?_
      refine z_if_ne 56 dX0_machine_38 rfl hf (fun _ hf => ?_) (fun _ hf => ?_)
      · refine z_iload_n 2 dX0_machine_56 rfl rfl ?_
        refine z_if_ne 67 dX0_machine_57 rfl hf (fun _ hf => ?_) (fun _ hf => ?_)
        · refine z_iload_n 2 dX0_machine_67 rfl rfl ?_
          refine z_iconst 1 dX0_machine_68 rfl ?_
          refine z_icmp_ne 79 dX0_machine_69 rfl hf (fun _ hf => ?_) (fun _ hf => ?_)
          · refine z_iload_n 2 dX0_machine_79 rfl rfl ?_
            refine z_iconst 2 dX0_machine_80 rfl ?_
            refine z_icmp_ne 91 dX0_machine_81 rfl hf (fun _ hf => ?_) (fun _ hf => ?_)
            · refine z_iload_n 2 dX0_machine_91 rfl rfl ?_
              refine z_iconst 3 dX0_machine_92 rfl ?_
              refine z_icmp_ne 103 dX0_machine_93 rfl hf (fun _ hf => ?_) (fun _ hf => ?_)
              · refine z_aload_n 3 dX0_machine_103 rfl rfl ?_
                refine z_getiM fsX0_346_2 hK_16 dX0_machine_104 ?_
                cases hf
                exact z_iret dX0_machine_107 rfl hM
              · refine z_aload_n 3 dX0_machine_96 rfl rfl ?_
                refine z_getiM fsX0_368_2 hK_16 dX0_machine_97 ?_
                refine z_goto 107 dX0_machine_100 rfl ?_
                cases hf
                exact z_iret dX0_machine_107 rfl hM
            · refine z_aload_n 3 dX0_machine_84 rfl rfl ?_
              refine z_getiM fsX0_365_2 hK_16 dX0_machine_85 ?_
              refine z_goto 107 dX0_machine_88 rfl ?_
              cases hf
              exact z_iret dX0_machine_107 rfl hM
          · refine z_aload_n 3 dX0_machine_72 rfl rfl ?_
            refine z_getiM fsX0_362_2 hK_16 dX0_machine_73 ?_
            refine z_goto 107 dX0_machine_76 rfl ?_
            cases hf
            exact z_iret dX0_machine_107 rfl hM
        · refine z_aload_n 3 dX0_machine_60 rfl rfl ?_
          refine z_getiM fsX0_354_2 hK_16 dX0_machine_61 ?_
          refine z_goto 107 dX0_machine_64 rfl ?_
          cases hf
          exact z_iret dX0_machine_107 rfl hM
      · refine z_sub [0, 3] rfl ?_
        exact zX0_machine_J41 hD hL hf hM
  · refine z_aload_n 0 dX0_machine_9 rfl rfl ?_
    refine z_iconst (-1) dX0_machine_10 rfl ?_
    obtain ⟨v_21, h_22, hc_20, hf⟩ := zb2_some hf
    have hct := ctX0_answer (l := F.1) hL hc_20
    refine z_invVi suX0_163_0 hct ((hL.b 0 rfl).t 0 rfl) ⟨Nat.le_trans (by decide) hD, by decide⟩ rfl rfl (Nat.le_of_ble_eq_true rfl) dX0_machine_11 ?_
    have hL := hL.ext hct.1
    cases hf
    exact z_iret dX0_machine_14 rfl hM
theorem ctX0_machine {l : Launch} {h : zH} {a : Nat} {x1 : Int32} {x2 : Int32} {v : Int32} {h' : zH} (hL : zXx h a) (hf : fX0_machine h a x1 x2 = some (v, h')) : zC l yX0_machine (ws_ yX0_machine cX0_machine 4 (some .int)) 2 [.ref a, .int x1, .int x2] h (.inl (some (.int v)), h') :=
  z_start (by decide) (Nat.le_of_ble_eq_true rfl) (zX0_machine (F := (l, 2, h, (.inl (some (.int v)), h'))) (Nat.le_refl _) hL hf rfl)
noncomputable def fX2_coverage_8 (a : Nat) (x1 : Int32) (x2 : Int32) : Option (Int32) := some (((x2 - x1) + 1) - (if (((if 57343 < x2 then 57343 else x2) - (if x1 < 55296 then 55296 else x1)) + 1) < 0 then 0 else (((if 57343 < x2 then 57343 else x2) - (if x1 < 55296 then 55296 else x1)) + 1)))
theorem zX2_coverage_8 {F : zF} {h : zH} {a : Nat} {x1 : Int32} {x2 : Int32} {y : Int32} (hD : 2 ≤ F.2.1) (hL : zOb 8 h a) (hf : fX2_coverage_8 a x1 x2 = some y) (hM : ((.inl (some (.int y)), h) : zX) = zEnd F) : Z F 4 cX2_coverage RX2 "coverage" (some .int) [] h 0 [(0, .ref a), (1, .int x1), (2, .int x2)] [] := by
  unfold fX2_coverage_8 at hf
  refine z_iload_n 2 dX2_coverage_0 rfl rfl ?_
  refine z_ldc q1298 dX2_coverage_1 ?_
  refine z_mmin q1299 q814 q119 q815 (Nat.le_trans (by decide) hD) (Nat.le_of_ble_eq_true rfl) dX2_coverage_3 ?_
  refine z_iload_n 1 dX2_coverage_6 rfl rfl ?_
  refine z_ldc q1300 dX2_coverage_7 ?_
  refine z_mmax q1301 q1302 q119 q1303 (Nat.le_trans (by decide) hD) (Nat.le_of_ble_eq_true rfl) dX2_coverage_9 ?_
  refine z_isub dX2_coverage_12 ?_
  refine z_iconst 1 dX2_coverage_13 rfl ?_
  refine z_iadd dX2_coverage_14 ?_
  refine z_istore_n dX2_coverage_15 rfl (by decide) (lc' := [(0, .ref a), (1, .int x1), (2, .int x2), (3, .int (((if 57343 < x2 then 57343 else x2) - (if x1 < 55296 then 55296 else x1)) + 1))]) rfl ?_
  refine z_iload_n 2 dX2_coverage_16 rfl rfl ?_
  refine z_iload_n 1 dX2_coverage_17 rfl rfl ?_
  refine z_isub dX2_coverage_18 ?_
  refine z_iconst 1 dX2_coverage_19 rfl ?_
  refine z_iadd dX2_coverage_20 ?_
  refine z_iload_n 3 dX2_coverage_21 rfl rfl ?_
  refine z_iconst 0 dX2_coverage_22 rfl ?_
  refine z_mmax q1301 q1302 q119 q1303 (Nat.le_trans (by decide) hD) (Nat.le_of_ble_eq_true rfl) dX2_coverage_23 ?_
  refine z_isub dX2_coverage_26 ?_
  cases hf
  exact z_iret dX2_coverage_27 rfl hM
theorem ctX2_coverage_8 {l : Launch} {h : zH} {a : Nat} {x1 : Int32} {x2 : Int32} {v : Int32} (hL : zOb 8 h a) (hf : fX2_coverage_8 a x1 x2 = some v) : zC l yX2_coverage (ws_ yX2_coverage cX2_coverage 4 (some .int)) 2 [.ref a, .int x1, .int x2] h (.inl (some (.int v)), h) :=
  z_start (by decide) (Nat.le_of_ble_eq_true rfl) (zX2_coverage_8 (F := (l, 2, h, (.inl (some (.int v)), h))) (Nat.le_refl _) hL hf rfl)
noncomputable def fX2_coverage_9 (a : Nat) (x1 : Int32) (x2 : Int32) : Option (Int32) := some (((x2 - x1) + 1) - (if (((if 57343 < x2 then 57343 else x2) - (if x1 < 55296 then 55296 else x1)) + 1) < 0 then 0 else (((if 57343 < x2 then 57343 else x2) - (if x1 < 55296 then 55296 else x1)) + 1)))
theorem zX2_coverage_9 {F : zF} {h : zH} {a : Nat} {x1 : Int32} {x2 : Int32} {y : Int32} (hD : 2 ≤ F.2.1) (hL : zOb 9 h a) (hf : fX2_coverage_9 a x1 x2 = some y) (hM : ((.inl (some (.int y)), h) : zX) = zEnd F) : Z F 4 cX2_coverage RX2 "coverage" (some .int) [] h 0 [(0, .ref a), (1, .int x1), (2, .int x2)] [] := by
  unfold fX2_coverage_9 at hf
  refine z_iload_n 2 dX2_coverage_0 rfl rfl ?_
  refine z_ldc q1298 dX2_coverage_1 ?_
  refine z_mmin q1299 q814 q119 q815 (Nat.le_trans (by decide) hD) (Nat.le_of_ble_eq_true rfl) dX2_coverage_3 ?_
  refine z_iload_n 1 dX2_coverage_6 rfl rfl ?_
  refine z_ldc q1300 dX2_coverage_7 ?_
  refine z_mmax q1301 q1302 q119 q1303 (Nat.le_trans (by decide) hD) (Nat.le_of_ble_eq_true rfl) dX2_coverage_9 ?_
  refine z_isub dX2_coverage_12 ?_
  refine z_iconst 1 dX2_coverage_13 rfl ?_
  refine z_iadd dX2_coverage_14 ?_
  refine z_istore_n dX2_coverage_15 rfl (by decide) (lc' := [(0, .ref a), (1, .int x1), (2, .int x2), (3, .int (((if 57343 < x2 then 57343 else x2) - (if x1 < 55296 then 55296 else x1)) + 1))]) rfl ?_
  refine z_iload_n 2 dX2_coverage_16 rfl rfl ?_
  refine z_iload_n 1 dX2_coverage_17 rfl rfl ?_
  refine z_isub dX2_coverage_18 ?_
  refine z_iconst 1 dX2_coverage_19 rfl ?_
  refine z_iadd dX2_coverage_20 ?_
  refine z_iload_n 3 dX2_coverage_21 rfl rfl ?_
  refine z_iconst 0 dX2_coverage_22 rfl ?_
  refine z_mmax q1301 q1302 q119 q1303 (Nat.le_trans (by decide) hD) (Nat.le_of_ble_eq_true rfl) dX2_coverage_23 ?_
  refine z_isub dX2_coverage_26 ?_
  cases hf
  exact z_iret dX2_coverage_27 rfl hM
theorem ctX2_coverage_9 {l : Launch} {h : zH} {a : Nat} {x1 : Int32} {x2 : Int32} {v : Int32} (hL : zOb 9 h a) (hf : fX2_coverage_9 a x1 x2 = some v) : zC l yX2_coverage (ws_ yX2_coverage cX2_coverage 4 (some .int)) 2 [.ref a, .int x1, .int x2] h (.inl (some (.int v)), h) :=
  z_start (by decide) (Nat.le_of_ble_eq_true rfl) (zX2_coverage_9 (F := (l, 2, h, (.inl (some (.int v)), h))) (Nat.le_refl _) hL hf rfl)
noncomputable def fX2_coverage_10 (a : Nat) (x1 : Int32) (x2 : Int32) : Option (Int32) := some (((x2 - x1) + 1) - (if (((if 57343 < x2 then 57343 else x2) - (if x1 < 55296 then 55296 else x1)) + 1) < 0 then 0 else (((if 57343 < x2 then 57343 else x2) - (if x1 < 55296 then 55296 else x1)) + 1)))
theorem zX2_coverage_10 {F : zF} {h : zH} {a : Nat} {x1 : Int32} {x2 : Int32} {y : Int32} (hD : 2 ≤ F.2.1) (hL : zOb 10 h a) (hf : fX2_coverage_10 a x1 x2 = some y) (hM : ((.inl (some (.int y)), h) : zX) = zEnd F) : Z F 4 cX2_coverage RX2 "coverage" (some .int) [] h 0 [(0, .ref a), (1, .int x1), (2, .int x2)] [] := by
  unfold fX2_coverage_10 at hf
  refine z_iload_n 2 dX2_coverage_0 rfl rfl ?_
  refine z_ldc q1298 dX2_coverage_1 ?_
  refine z_mmin q1299 q814 q119 q815 (Nat.le_trans (by decide) hD) (Nat.le_of_ble_eq_true rfl) dX2_coverage_3 ?_
  refine z_iload_n 1 dX2_coverage_6 rfl rfl ?_
  refine z_ldc q1300 dX2_coverage_7 ?_
  refine z_mmax q1301 q1302 q119 q1303 (Nat.le_trans (by decide) hD) (Nat.le_of_ble_eq_true rfl) dX2_coverage_9 ?_
  refine z_isub dX2_coverage_12 ?_
  refine z_iconst 1 dX2_coverage_13 rfl ?_
  refine z_iadd dX2_coverage_14 ?_
  refine z_istore_n dX2_coverage_15 rfl (by decide) (lc' := [(0, .ref a), (1, .int x1), (2, .int x2), (3, .int (((if 57343 < x2 then 57343 else x2) - (if x1 < 55296 then 55296 else x1)) + 1))]) rfl ?_
  refine z_iload_n 2 dX2_coverage_16 rfl rfl ?_
  refine z_iload_n 1 dX2_coverage_17 rfl rfl ?_
  refine z_isub dX2_coverage_18 ?_
  refine z_iconst 1 dX2_coverage_19 rfl ?_
  refine z_iadd dX2_coverage_20 ?_
  refine z_iload_n 3 dX2_coverage_21 rfl rfl ?_
  refine z_iconst 0 dX2_coverage_22 rfl ?_
  refine z_mmax q1301 q1302 q119 q1303 (Nat.le_trans (by decide) hD) (Nat.le_of_ble_eq_true rfl) dX2_coverage_23 ?_
  refine z_isub dX2_coverage_26 ?_
  cases hf
  exact z_iret dX2_coverage_27 rfl hM
theorem ctX2_coverage_10 {l : Launch} {h : zH} {a : Nat} {x1 : Int32} {x2 : Int32} {v : Int32} (hL : zOb 10 h a) (hf : fX2_coverage_10 a x1 x2 = some v) : zC l yX2_coverage (ws_ yX2_coverage cX2_coverage 4 (some .int)) 2 [.ref a, .int x1, .int x2] h (.inl (some (.int v)), h) :=
  z_start (by decide) (Nat.le_of_ble_eq_true rfl) (zX2_coverage_10 (F := (l, 2, h, (.inl (some (.int v)), h))) (Nat.le_refl _) hL hf rfl)
noncomputable def fV_Page_coverage (h : zH) (b : Nat) (p0 : Int32) (p1 : Int32) : Option (Int32) := if zT h b = (3, 0) then (zck (zTb h b) (fX3_coverage h b p0 p1)) else if zT h b = (9, 0) then (zck (zOb 8 h b) (fX2_coverage_8 b p0 p1)) else if zT h b = (10, 0) then (zck (zOb 9 h b) (fX2_coverage_9 b p0 p1)) else if zT h b = (11, 0) then (zck (zOb 10 h b) (fX2_coverage_10 b p0 p1)) else none
theorem suX0_371_2 : zIu RX0 371 ⟨"CodeExchange$Page", "coverage", "(II)I"⟩ "CodeExchange$Page" yX3_coverage (ws_ yX3_coverage cX3_coverage 3 (some .int)) 3 2 2 := ⟨(zGood_c q1294 q103), ⟨_, _, rfl, rfl, q1292⟩, q1288, q1290, (Or.inl ⟨q1289, _, _, _, q1297⟩), by decide, q1293, by decide +kernel⟩
theorem suX0_371_8 : zIu RX0 371 ⟨"CodeExchange$Page", "coverage", "(II)I"⟩ "CodeExchange$Page" yX2_coverage (ws_ yX2_coverage cX2_coverage 4 (some .int)) 4 8 2 := ⟨(zGood_c q1297 q102), ⟨_, _, rfl, rfl, q1296⟩, q1288, q1290, (Or.inl ⟨q1289, _, _, _, q1297⟩), by decide, q1289, by decide +kernel⟩
theorem suX0_371_9 : zIu RX0 371 ⟨"CodeExchange$Page", "coverage", "(II)I"⟩ "CodeExchange$Page" yX2_coverage (ws_ yX2_coverage cX2_coverage 4 (some .int)) 4 9 2 := ⟨(zGood_c q1297 q102), ⟨_, _, rfl, rfl, q1295⟩, q1288, q1290, (Or.inl ⟨q1289, _, _, _, q1297⟩), by decide, q1289, by decide +kernel⟩
theorem suX0_371_10 : zIu RX0 371 ⟨"CodeExchange$Page", "coverage", "(II)I"⟩ "CodeExchange$Page" yX2_coverage (ws_ yX2_coverage cX2_coverage 4 (some .int)) 4 10 2 := ⟨(zGood_c q1297 q102), ⟨_, _, rfl, rfl, q1291⟩, q1288, q1290, (Or.inl ⟨q1289, _, _, _, q1297⟩), by decide, q1289, by decide +kernel⟩
theorem zVX0_371i {F : zF} {nL : Nat} {cc : ByteArray} {nm : String} {ret : Option FieldType} {hh : List (Nat × Nat × Nat × Nat)} {h : zH} {pc b : Nat} {lc : List (Nat × Value)} {st : List Value} {p0 : Int32} {p1 : Int32} {v : Int32} (hD : 3 ≤ F.2.1) (hf : fV_Page_coverage h b p0 p1 = some v) (hcat : (st.map fun v => v.category).sum ≤ 8) (hd : decode cc pc = .ok (.invokevirtual 371, 3)) (kk : Z F nL cc RX0 nm ret hh h (pc + 3) lc (.int v :: st)) : Z F nL cc RX0 nm ret hh h pc lc (.int p1 :: .int p0 :: .ref b :: st) := by
  unfold fV_Page_coverage at hf
  refine zdsp hf (fun e hf => ?_) (fun _ hf => ?_)
  · obtain ⟨hK, hf⟩ := zck_some hf
    have hc := hf
    exact z_invUi suX0_371_2 (ctX3_coverage hK hc) e ⟨Nat.le_trans (by decide) hD, by decide⟩ rfl rfl hcat hd kk
  refine zdsp hf (fun e hf => ?_) (fun _ hf => ?_)
  · obtain ⟨hK, hf⟩ := zck_some hf
    have hc := hf
    exact z_invUi suX0_371_8 (ctX2_coverage_8 hK hc) e ⟨Nat.le_trans (by decide) hD, by decide⟩ rfl rfl hcat hd kk
  refine zdsp hf (fun e hf => ?_) (fun _ hf => ?_)
  · obtain ⟨hK, hf⟩ := zck_some hf
    have hc := hf
    exact z_invUi suX0_371_9 (ctX2_coverage_9 hK hc) e ⟨Nat.le_trans (by decide) hD, by decide⟩ rfl rfl hcat hd kk
  refine zdsp hf (fun e hf => ?_) (fun _ hf => ?_)
  · obtain ⟨hK, hf⟩ := zck_some hf
    have hc := hf
    exact z_invUi suX0_371_10 (ctX2_coverage_10 hK hc) e ⟨Nat.le_trans (by decide) hD, by decide⟩ rfl rfl hcat hd kk
  cases hf
noncomputable def fX0_coverage (h : zH) (a : Nat) (x1 : Int32) (x2 : Int32) (x3 : Int32) : Option (Int32 × zH) := zxr (fX0_closedAt h a x1) (fun v_2 h_3 => zb1 v_2 (fun b_12 => zb1 (fX0_in x2 0 1114111) (fun v_14 => if v_14 = 0 then (zxv (fX0_need h_3 a 0 ((-1))) (fun h_18 => zb1 (fV_Page_coverage h_18 b_12 x2 x3) (fun v_28 => some ((v_28, h_18)))) (fun e_19 h_20 => zck (zT h_20 e_19 = (2, 0)) (zck (zOb 1 h_20 e_19) (zb2 (fX0_answer h_20 a (zI h_20 e_19 6)) (fun v_25 h_26 => some ((v_25, h_26))))))) else (zb1 (fX0_in x3 x2 1114111) (fun v_31 => if v_31 = 0 then (zxv (fX0_need h_3 a 0 ((-1))) (fun h_35 => zb1 (fV_Page_coverage h_35 b_12 x2 x3) (fun v_45 => some ((v_45, h_35)))) (fun e_36 h_37 => zck (zT h_37 e_36 = (2, 0)) (zck (zOb 1 h_37 e_36) (zb2 (fX0_answer h_37 a (zI h_37 e_36 6)) (fun v_42 h_43 => some ((v_42, h_43))))))) else (if 65536 ≤ (x3 - x2) then (zxv (fX0_need h_3 a 0 ((-1))) (fun h_49 => zb1 (fV_Page_coverage h_49 b_12 x2 x3) (fun v_59 => some ((v_59, h_49)))) (fun e_50 h_51 => zck (zT h_51 e_50 = (2, 0)) (zck (zOb 1 h_51 e_50) (zb2 (fX0_answer h_51 a (zI h_51 e_50 6)) (fun v_56 h_57 => some ((v_56, h_57))))))) else (zxv (fX0_need h_3 a 1 ((-1))) (fun h_63 => zb1 (fV_Page_coverage h_63 b_12 x2 x3) (fun v_73 => some ((v_73, h_63)))) (fun e_64 h_65 => zck (zT h_65 e_64 = (2, 0)) (zck (zOb 1 h_65 e_64) (zb2 (fX0_answer h_65 a (zI h_65 e_64 6)) (fun v_70 h_71 => some ((v_70, h_71))))))))))))) (fun e_4 h_5 => zck (zT h_5 e_4 = (2, 0)) (zck (zOb 1 h_5 e_4) (zb2 (fX0_answer h_5 a (zI h_5 e_4 6)) (fun v_10 h_11 => some ((v_10, h_11))))))
theorem zX0_coverage {F : zF} {h : zH} {a : Nat} {x1 : Int32} {x2 : Int32} {x3 : Int32} {y : Int32 × zH} (hD : 123 ≤ F.2.1) (hL : zXx h a) (hf : fX0_coverage h a x1 x2 x3 = some y) (hM : ((.inl (some (.int y.1)), y.2) : zX) = zEnd F) : Z F 5 cX0_coverage RX0 "coverage" (some .int) [(0, 52, 53, 18)] h 0 [(0, .ref a), (1, .int x1), (2, .int x2), (3, .int x3)] [] := by
  unfold fX0_coverage at hf
  refine z_aload_n 0 dX0_coverage_0 rfl rfl ?_
  refine z_iload_n 1 dX0_coverage_1 rfl rfl ?_
  rcases zxr_some hf with ⟨v_2, h_3, hc_1, hf⟩ | ⟨e_4, h_5, hc_6, hf⟩
  rotate_left
  · have hct := ctX0_closedAt (l := F.1) hL hc_6
    refine z_invVt suX0_255_0 hct ((hL.b 0 rfl).t 0 rfl) ⟨Nat.le_trans (by decide) hD, by decide⟩ rfl rfl (Nat.le_of_ble_eq_true rfl) dX0_coverage_2 ?_
    have hL := hL.ext hct.1
    obtain ⟨ht_7, hf⟩ := zck_some hf
    refine zt_catch (q := (RX1, TX1, 7)) rfl (by decide) q129 rfl rfl ht_7 ?_
    refine z_astore dX0_coverage_53 (by decide) (lc' := [(0, .ref a), (1, .int x1), (2, .int x2), (3, .int x3), (4, .ref e_4)]) rfl ?_
    refine z_aload_n 0 dX0_coverage_55 rfl rfl ?_
    refine z_aload 4 dX0_coverage_56 rfl ?_
    obtain ⟨hK_8, hf⟩ := zck_some hf
    refine z_geti fdX0_17_1 ((hK_8.b 0 rfl).t 0 rfl) dX0_coverage_58 ?_
    obtain ⟨v_10, h_11, hc_9, hf⟩ := zb2_some hf
    have hct := ctX0_answer (l := F.1) hL hc_9
    refine z_invVi suX0_163_0 hct ((hL.b 0 rfl).t 0 rfl) ⟨Nat.le_trans (by decide) hD, by decide⟩ rfl rfl (Nat.le_of_ble_eq_true rfl) dX0_coverage_61 ?_
    have hL := hL.ext hct.1
    have hK_8 := hK_8.ext hct.1
    cases hf
    exact z_iret dX0_coverage_64 rfl hM
  have hct := ctX0_closedAt (l := F.1) hL hc_1
  refine z_invVq suX0_255_0 hct ((hL.b 0 rfl).t 0 rfl) ⟨Nat.le_trans (by decide) hD, by decide⟩ rfl rfl (Nat.le_of_ble_eq_true rfl) dX0_coverage_2 ?_
  have hL := hL.ext hct.1
  obtain ⟨b_12, e9, hf9⟩ := zb1_some hf
  subst e9
  have hf := hf9
  refine z_astore dX0_coverage_5 (by decide) (lc' := [(0, .ref a), (1, .int x1), (2, .int x2), (3, .int x3), (4, .ref b_12)]) rfl ?_
  refine z_aload_n 0 dX0_coverage_7 rfl rfl ?_
  refine z_iload_n 2 dX0_coverage_8 rfl rfl ?_
  refine z_iconst 0 dX0_coverage_9 rfl ?_
  refine z_ldc q748 dX0_coverage_10 ?_
  obtain ⟨v_14, hc_13, hf⟩ := zb1_some hf
  refine z_invSi suX0_4_s (ctX0_in hc_13) ⟨Nat.le_trans (by decide) hD, by decide⟩ rfl rfl (Nat.le_of_ble_eq_true rfl) dX0_coverage_12 ?_
  refine z_if_eq 40 dX0_coverage_15 rfl hf (fun _ hf => ?_) (fun _ hf => ?_)
  · refine z_iconst 0 dX0_coverage_40 rfl ?_
    refine z_iconst (-1) dX0_coverage_41 rfl ?_
    rcases zxv_some hf with ⟨h_18, hc_16, hf⟩ | ⟨e_19, h_20, hc_21, hf⟩
    rotate_left
    · have hct := ctX0_need (l := F.1) hL hc_21
      refine z_invVt suX0_184_0 hct ((hL.b 0 rfl).t 0 rfl) ⟨Nat.le_trans (by decide) hD, by decide⟩ rfl rfl (Nat.le_of_ble_eq_true rfl) dX0_coverage_42 ?_
      have hL := hL.ext hct.1
      obtain ⟨ht_22, hf⟩ := zck_some hf
      refine zt_catch (q := (RX1, TX1, 7)) rfl (by decide) q129 rfl rfl ht_22 ?_
      refine z_astore dX0_coverage_53 (by decide) (lc' := [(0, .ref a), (1, .int x1), (2, .int x2), (3, .int x3), (4, .ref e_19)]) rfl ?_
      refine z_aload_n 0 dX0_coverage_55 rfl rfl ?_
      refine z_aload 4 dX0_coverage_56 rfl ?_
      obtain ⟨hK_23, hf⟩ := zck_some hf
      refine z_geti fdX0_17_1 ((hK_23.b 0 rfl).t 0 rfl) dX0_coverage_58 ?_
      obtain ⟨v_25, h_26, hc_24, hf⟩ := zb2_some hf
      have hct := ctX0_answer (l := F.1) hL hc_24
      refine z_invVi suX0_163_0 hct ((hL.b 0 rfl).t 0 rfl) ⟨Nat.le_trans (by decide) hD, by decide⟩ rfl rfl (Nat.le_of_ble_eq_true rfl) dX0_coverage_61 ?_
      have hL := hL.ext hct.1
      have hK_23 := hK_23.ext hct.1
      cases hf
      exact z_iret dX0_coverage_64 rfl hM
    have hct := ctX0_need (l := F.1) hL hc_16
    refine z_invVv suX0_184_0 hct ((hL.b 0 rfl).t 0 rfl) ⟨Nat.le_trans (by decide) hD, by decide⟩ rfl rfl (Nat.le_of_ble_eq_true rfl) dX0_coverage_42 ?_
    have hL := hL.ext hct.1
    refine z_aload 4 dX0_coverage_45 rfl ?_
    refine z_iload_n 2 dX0_coverage_47 rfl rfl ?_
    refine z_iload_n 3 dX0_coverage_48 rfl rfl ?_
    obtain ⟨v_28, hc_27, hf⟩ := zb1_some hf
    refine zVX0_371i (Nat.le_trans (by decide) hD) hc_27 (Nat.le_of_ble_eq_true rfl) dX0_coverage_49 ?_
    cases hf
    exact z_iret dX0_coverage_52 rfl hM
  · refine z_iload_n 3 dX0_coverage_18 rfl rfl ?_
    refine z_iload_n 2 dX0_coverage_19 rfl rfl ?_
    refine z_ldc q748 dX0_coverage_20 ?_
    obtain ⟨v_31, hc_30, hf⟩ := zb1_some hf
    refine z_invSi suX0_4_s (ctX0_in hc_30) ⟨Nat.le_trans (by decide) hD, by decide⟩ rfl rfl (Nat.le_of_ble_eq_true rfl) dX0_coverage_22 ?_
    refine z_if_eq 40 dX0_coverage_25 rfl hf (fun _ hf => ?_) (fun _ hf => ?_)
    · refine z_iconst 0 dX0_coverage_40 rfl ?_
      refine z_iconst (-1) dX0_coverage_41 rfl ?_
      rcases zxv_some hf with ⟨h_35, hc_33, hf⟩ | ⟨e_36, h_37, hc_38, hf⟩
      rotate_left
      · have hct := ctX0_need (l := F.1) hL hc_38
        refine z_invVt suX0_184_0 hct ((hL.b 0 rfl).t 0 rfl) ⟨Nat.le_trans (by decide) hD, by decide⟩ rfl rfl (Nat.le_of_ble_eq_true rfl) dX0_coverage_42 ?_
        have hL := hL.ext hct.1
        obtain ⟨ht_39, hf⟩ := zck_some hf
        refine zt_catch (q := (RX1, TX1, 7)) rfl (by decide) q129 rfl rfl ht_39 ?_
        refine z_astore dX0_coverage_53 (by decide) (lc' := [(0, .ref a), (1, .int x1), (2, .int x2), (3, .int x3), (4, .ref e_36)]) rfl ?_
        refine z_aload_n 0 dX0_coverage_55 rfl rfl ?_
        refine z_aload 4 dX0_coverage_56 rfl ?_
        obtain ⟨hK_40, hf⟩ := zck_some hf
        refine z_geti fdX0_17_1 ((hK_40.b 0 rfl).t 0 rfl) dX0_coverage_58 ?_
        obtain ⟨v_42, h_43, hc_41, hf⟩ := zb2_some hf
        have hct := ctX0_answer (l := F.1) hL hc_41
        refine z_invVi suX0_163_0 hct ((hL.b 0 rfl).t 0 rfl) ⟨Nat.le_trans (by decide) hD, by decide⟩ rfl rfl (Nat.le_of_ble_eq_true rfl) dX0_coverage_61 ?_
        have hL := hL.ext hct.1
        have hK_40 := hK_40.ext hct.1
        cases hf
        exact z_iret dX0_coverage_64 rfl hM
      have hct := ctX0_need (l := F.1) hL hc_33
      refine z_invVv suX0_184_0 hct ((hL.b 0 rfl).t 0 rfl) ⟨Nat.le_trans (by decide) hD, by decide⟩ rfl rfl (Nat.le_of_ble_eq_true rfl) dX0_coverage_42 ?_
      have hL := hL.ext hct.1
      refine z_aload 4 dX0_coverage_45 rfl ?_
      refine z_iload_n 2 dX0_coverage_47 rfl rfl ?_
      refine z_iload_n 3 dX0_coverage_48 rfl rfl ?_
      obtain ⟨v_45, hc_44, hf⟩ := zb1_some hf
      refine zVX0_371i (Nat.le_trans (by decide) hD) hc_44 (Nat.le_of_ble_eq_true rfl) dX0_coverage_49 ?_
      cases hf
      exact z_iret dX0_coverage_52 rfl hM
    · refine z_iload_n 3 dX0_coverage_28 rfl rfl ?_
      refine z_iload_n 2 dX0_coverage_29 rfl rfl ?_
      refine z_isub dX0_coverage_30 ?_
      refine z_ldc q1029 dX0_coverage_31 ?_
      refine z_icmp_ge 40 dX0_coverage_33 rfl hf (fun _ hf => ?_) (fun _ hf => ?_)
      · refine z_iconst 0 dX0_coverage_40 rfl ?_
        refine z_iconst (-1) dX0_coverage_41 rfl ?_
        rcases zxv_some hf with ⟨h_49, hc_47, hf⟩ | ⟨e_50, h_51, hc_52, hf⟩
        rotate_left
        · have hct := ctX0_need (l := F.1) hL hc_52
          refine z_invVt suX0_184_0 hct ((hL.b 0 rfl).t 0 rfl) ⟨Nat.le_trans (by decide) hD, by decide⟩ rfl rfl (Nat.le_of_ble_eq_true rfl) dX0_coverage_42 ?_
          have hL := hL.ext hct.1
          obtain ⟨ht_53, hf⟩ := zck_some hf
          refine zt_catch (q := (RX1, TX1, 7)) rfl (by decide) q129 rfl rfl ht_53 ?_
          refine z_astore dX0_coverage_53 (by decide) (lc' := [(0, .ref a), (1, .int x1), (2, .int x2), (3, .int x3), (4, .ref e_50)]) rfl ?_
          refine z_aload_n 0 dX0_coverage_55 rfl rfl ?_
          refine z_aload 4 dX0_coverage_56 rfl ?_
          obtain ⟨hK_54, hf⟩ := zck_some hf
          refine z_geti fdX0_17_1 ((hK_54.b 0 rfl).t 0 rfl) dX0_coverage_58 ?_
          obtain ⟨v_56, h_57, hc_55, hf⟩ := zb2_some hf
          have hct := ctX0_answer (l := F.1) hL hc_55
          refine z_invVi suX0_163_0 hct ((hL.b 0 rfl).t 0 rfl) ⟨Nat.le_trans (by decide) hD, by decide⟩ rfl rfl (Nat.le_of_ble_eq_true rfl) dX0_coverage_61 ?_
          have hL := hL.ext hct.1
          have hK_54 := hK_54.ext hct.1
          cases hf
          exact z_iret dX0_coverage_64 rfl hM
        have hct := ctX0_need (l := F.1) hL hc_47
        refine z_invVv suX0_184_0 hct ((hL.b 0 rfl).t 0 rfl) ⟨Nat.le_trans (by decide) hD, by decide⟩ rfl rfl (Nat.le_of_ble_eq_true rfl) dX0_coverage_42 ?_
        have hL := hL.ext hct.1
        refine z_aload 4 dX0_coverage_45 rfl ?_
        refine z_iload_n 2 dX0_coverage_47 rfl rfl ?_
        refine z_iload_n 3 dX0_coverage_48 rfl rfl ?_
        obtain ⟨v_59, hc_58, hf⟩ := zb1_some hf
        refine zVX0_371i (Nat.le_trans (by decide) hD) hc_58 (Nat.le_of_ble_eq_true rfl) dX0_coverage_49 ?_
        cases hf
        exact z_iret dX0_coverage_52 rfl hM
      · refine z_iconst 1 dX0_coverage_36 rfl ?_
        refine z_goto 41 dX0_coverage_37 rfl ?_
        refine z_iconst (-1) dX0_coverage_41 rfl ?_
        rcases zxv_some hf with ⟨h_63, hc_61, hf⟩ | ⟨e_64, h_65, hc_66, hf⟩
        rotate_left
        · have hct := ctX0_need (l := F.1) hL hc_66
          refine z_invVt suX0_184_0 hct ((hL.b 0 rfl).t 0 rfl) ⟨Nat.le_trans (by decide) hD, by decide⟩ rfl rfl (Nat.le_of_ble_eq_true rfl) dX0_coverage_42 ?_
          have hL := hL.ext hct.1
          obtain ⟨ht_67, hf⟩ := zck_some hf
          refine zt_catch (q := (RX1, TX1, 7)) rfl (by decide) q129 rfl rfl ht_67 ?_
          refine z_astore dX0_coverage_53 (by decide) (lc' := [(0, .ref a), (1, .int x1), (2, .int x2), (3, .int x3), (4, .ref e_64)]) rfl ?_
          refine z_aload_n 0 dX0_coverage_55 rfl rfl ?_
          refine z_aload 4 dX0_coverage_56 rfl ?_
          obtain ⟨hK_68, hf⟩ := zck_some hf
          refine z_geti fdX0_17_1 ((hK_68.b 0 rfl).t 0 rfl) dX0_coverage_58 ?_
          obtain ⟨v_70, h_71, hc_69, hf⟩ := zb2_some hf
          have hct := ctX0_answer (l := F.1) hL hc_69
          refine z_invVi suX0_163_0 hct ((hL.b 0 rfl).t 0 rfl) ⟨Nat.le_trans (by decide) hD, by decide⟩ rfl rfl (Nat.le_of_ble_eq_true rfl) dX0_coverage_61 ?_
          have hL := hL.ext hct.1
          have hK_68 := hK_68.ext hct.1
          cases hf
          exact z_iret dX0_coverage_64 rfl hM
        have hct := ctX0_need (l := F.1) hL hc_61
        refine z_invVv suX0_184_0 hct ((hL.b 0 rfl).t 0 rfl) ⟨Nat.le_trans (by decide) hD, by decide⟩ rfl rfl (Nat.le_of_ble_eq_true rfl) dX0_coverage_42 ?_
        have hL := hL.ext hct.1
        refine z_aload 4 dX0_coverage_45 rfl ?_
        refine z_iload_n 2 dX0_coverage_47 rfl rfl ?_
        refine z_iload_n 3 dX0_coverage_48 rfl rfl ?_
        obtain ⟨v_73, hc_72, hf⟩ := zb1_some hf
        refine zVX0_371i (Nat.le_trans (by decide) hD) hc_72 (Nat.le_of_ble_eq_true rfl) dX0_coverage_49 ?_
        cases hf
        exact z_iret dX0_coverage_52 rfl hM
theorem ctX0_coverage {l : Launch} {h : zH} {a : Nat} {x1 : Int32} {x2 : Int32} {x3 : Int32} {v : Int32} {h' : zH} (hL : zXx h a) (hf : fX0_coverage h a x1 x2 x3 = some (v, h')) : zC l yX0_coverage (wsW_ yX0_coverage cX0_coverage 5 (some .int) [(0, 52, 53, 18)]) 123 [.ref a, .int x1, .int x2, .int x3] h (.inl (some (.int v)), h') :=
  z_startW (by decide) (Nat.le_of_ble_eq_true rfl) (zX0_coverage (F := (l, 123, h, (.inl (some (.int v)), h'))) (Nat.le_refl _) hL hf rfl)
theorem fdX0_121_0 : zFd RX0 121 0 31 (.array .int) true := ⟨_, _, _, rfl, rfl, by decide, rfl, rfl, Or.inl q517, Or.inl rfl⟩
noncomputable def fX0_isWritten_J42 (h : zH) (a : Nat) (x1 : Nat) (x2 : Int32) (x3 : Nat) (k0 : Int32) (k1 : Int32) (k2 : Nat) : Option (zX) := zck (k2 ≠ 0 ∧ zAr h k2 k1) (zlet (zsI h k2 k1.toNatClampNeg k0) (fun h_9 => zck (vp_in 1 2) (zlet (zsI h_9 (a + 52) (1 : Int32).toNatClampNeg ((56320 : Int32) + ((x2 - 65536) &&& 1023))) (fun h_11 => if 65536 ≤ x2 then (zck (zCt [(xB, xP, a), (wB, wP, a + 38)] [(a + 38, 11, a), (a + 38, 15, a)] h_11) (zxv (fX0_run_4 h_11 a (a + 38) x1 0 (a + 52) 2 x3) (fun h_15 => some ((.inl (some (.int 1)), h_15))) (fun e_16 h_17 => some ((.inr e_16, h_17))))) else (zck (zCt [(xB, xP, a), (wB, wP, a + 38)] [(a + 38, 11, a), (a + 38, 15, a)] h_11) (zxv (fX0_run_4 h_11 a (a + 38) x1 0 (a + 52) 1 x3) (fun h_22 => some ((.inl (some (.int 1)), h_22))) (fun e_23 h_24 => some ((.inr e_23, h_24)))))))))
theorem zX0_isWritten_J42 {F : zF} {h : zH} {a : Nat} {x1 : Nat} {x2 : Int32} {x3 : Nat} {k0 : Int32} {k1 : Int32} {k2 : Nat} {y : zX} (hD : 59 ≤ F.2.1) (hL : zXx h a) (hf : fX0_isWritten_J42 h a x1 x2 x3 k0 k1 k2 = some y) (hM : (y : zX) = zEnd F) : Z F 4 cX0_isWritten RX0 "isWritten" (some .boolean) [] h 42 [(0, .ref a), (1, .ref x1), (2, .int x2), (3, .ref x3)] [.int k0, .int k1, .ref k2] := by
  unfold fX0_isWritten_J42 at hf
  obtain ⟨hi_8, hf⟩ := zck_some hf
  obtain ⟨h_9, he, hf⟩ := zlet_some hf
  refine z_iast (zAr_t hi_8.2) hi_8.1 hi_8.2.2 he dX0_isWritten_42 ?_
  have hL := hL.I he
  refine z_aload_n 0 dX0_isWritten_43 rfl rfl ?_
  refine z_getr fdX0_121_0 (Or.inr ⟨_, rfl⟩) ((hL.b 0 rfl).t 0 rfl) ((hL.b 0 rfl).p 18 rfl) dX0_isWritten_44 ?_
  refine z_iconst 1 dX0_isWritten_47 rfl ?_
  refine z_ldc q1025 dX0_isWritten_48 ?_
  refine z_iload_n 2 dX0_isWritten_50 rfl rfl ?_
  refine z_ldc q1029 dX0_isWritten_51 ?_
  refine z_isub dX0_isWritten_53 ?_
  refine z_sipush 1023 dX0_isWritten_54 rfl ?_
  refine z_iand dX0_isWritten_57 ?_
  refine z_iadd dX0_isWritten_58 ?_
  obtain ⟨hi_10, hf⟩ := zck_some hf
  obtain ⟨h_11, he, hf⟩ := zlet_some hf
  refine z_iast ((hL.b 0 rfl).t 52 rfl) ((hL.b 0 rfl).nz 52) hi_10 he dX0_isWritten_59 ?_
  have hL := hL.I he
  refine z_aload_n 0 dX0_isWritten_60 rfl rfl ?_
  refine z_aload_n 0 dX0_isWritten_61 rfl rfl ?_
  refine z_getr fdX0_95_0 (Or.inl ⟨_, rfl⟩) ((hL.b 0 rfl).t 0 rfl) ((hL.b 0 rfl).p 13 rfl) dX0_isWritten_62 ?_
  refine z_aload_n 1 dX0_isWritten_65 rfl rfl ?_
  refine z_iconst 0 dX0_isWritten_66 rfl ?_
  refine z_aload_n 0 dX0_isWritten_67 rfl rfl ?_
  refine z_getr fdX0_121_0 (Or.inr ⟨_, rfl⟩) ((hL.b 0 rfl).t 0 rfl) ((hL.b 0 rfl).p 18 rfl) dX0_isWritten_68 ?_
  refine z_iload_n 2 dX0_isWritten_71 rfl rfl ?_
  refine z_ldc q1029 dX0_isWritten_72 ?_
  refine z_icmp_ge 81 dX0_isWritten_74 rfl hf (fun _ hf => ?_) (fun _ hf => ?_)
  · refine z_iconst 2 dX0_isWritten_81 rfl ?_
    refine z_aload_n 3 dX0_isWritten_82 rfl rfl ?_
    obtain ⟨hK_12, hf⟩ := zck_some hf
    rcases zxv_some hf with ⟨h_15, hc_13, hf⟩ | ⟨e_16, h_17, hc_18, hf⟩
    rotate_left
    · have hct := ctX0_run_4 (l := F.1) hK_12 hc_18
      refine z_invVt suX0_302_0_4 hct ((hL.b 0 rfl).t 0 rfl) ⟨Nat.le_trans (by decide) hD, by decide⟩ rfl rfl (Nat.le_of_ble_eq_true rfl) dX0_isWritten_83 ?_
      have hL := hL.ext hct.1
      have hK_12 := hK_12.ext hct.1
      cases hf
      exact zt_out rfl hM
    have hct := ctX0_run_4 (l := F.1) hK_12 hc_13
    refine z_invVv suX0_302_0_4 hct ((hL.b 0 rfl).t 0 rfl) ⟨Nat.le_trans (by decide) hD, by decide⟩ rfl rfl (Nat.le_of_ble_eq_true rfl) dX0_isWritten_83 ?_
    have hL := hL.ext hct.1
    have hK_12 := hK_12.ext hct.1
    refine z_iconst 1 dX0_isWritten_86 rfl ?_
    cases hf
    exact z_zret dX0_isWritten_87 rfl (Or.inr rfl) hM
  · refine z_iconst 1 dX0_isWritten_77 rfl ?_
    refine z_goto 82 dX0_isWritten_78 rfl ?_
    refine z_aload_n 3 dX0_isWritten_82 rfl rfl ?_
    obtain ⟨hK_19, hf⟩ := zck_some hf
    rcases zxv_some hf with ⟨h_22, hc_20, hf⟩ | ⟨e_23, h_24, hc_25, hf⟩
    rotate_left
    · have hct := ctX0_run_4 (l := F.1) hK_19 hc_25
      refine z_invVt suX0_302_0_4 hct ((hL.b 0 rfl).t 0 rfl) ⟨Nat.le_trans (by decide) hD, by decide⟩ rfl rfl (Nat.le_of_ble_eq_true rfl) dX0_isWritten_83 ?_
      have hL := hL.ext hct.1
      have hK_19 := hK_19.ext hct.1
      cases hf
      exact zt_out rfl hM
    have hct := ctX0_run_4 (l := F.1) hK_19 hc_20
    refine z_invVv suX0_302_0_4 hct ((hL.b 0 rfl).t 0 rfl) ⟨Nat.le_trans (by decide) hD, by decide⟩ rfl rfl (Nat.le_of_ble_eq_true rfl) dX0_isWritten_83 ?_
    have hL := hL.ext hct.1
    have hK_19 := hK_19.ext hct.1
    refine z_iconst 1 dX0_isWritten_86 rfl ?_
    cases hf
    exact z_zret dX0_isWritten_87 rfl (Or.inr rfl) hM
noncomputable def fX0_isWritten (h : zH) (a : Nat) (x1 : Nat) (x2 : Int32) (x3 : Nat) : Option (zX) := zck (zRw h x3 a) (zb1 (fX7_begin h x3 a 0) (fun h_4 => zb1 (fV_Page_code h_4 x1 x2) (fun v_6 => if 0 ≤ (lg_cmp v_6 0) then (if 65536 ≤ x2 then (fX0_isWritten_J42 h_4 a x1 x2 x3 ((55296 : Int32) + ((x2 - 65536) >>> (10 &&& 31))) 0 (a + 52)) else (fX0_isWritten_J42 h_4 a x1 x2 x3 x2 0 (a + 52))) else (some ((.inl (some (.int 0)), h_4))))))
theorem zX0_isWritten {F : zF} {h : zH} {a : Nat} {x1 : Nat} {x2 : Int32} {x3 : Nat} {y : zX} (hD : 59 ≤ F.2.1) (hL : zXx h a) (hf : fX0_isWritten h a x1 x2 x3 = some y) (hM : (y : zX) = zEnd F) : Z F 4 cX0_isWritten RX0 "isWritten" (some .boolean) [] h 0 [(0, .ref a), (1, .ref x1), (2, .int x2), (3, .ref x3)] [] := by
  unfold fX0_isWritten at hf
  refine z_aload_n 3 dX0_isWritten_0 rfl rfl ?_
  refine z_iconst 0 dX0_isWritten_1 rfl ?_
  obtain ⟨hK_1, hf⟩ := zck_some hf
  obtain ⟨h_4, hc_2, hf⟩ := zb1_some hf
  have hct := ctX7_begin (l := F.1) hK_1 hc_2
  refine z_invVv suX0_299_5 hct ((hK_1.b 0 rfl).t 0 rfl) ⟨Nat.le_trans (by decide) hD, by decide⟩ rfl rfl (Nat.le_of_ble_eq_true rfl) dX0_isWritten_2 ?_
  have hL := hL.ext hct.1
  have hK_1 := hK_1.ext hct.1
  refine z_aload_n 1 dX0_isWritten_5 rfl rfl ?_
  refine z_iload_n 2 dX0_isWritten_6 rfl rfl ?_
  obtain ⟨v_6, hc_5, hf⟩ := zb1_some hf
  refine zVX0_258l (Nat.le_trans (by decide) hD) hc_5 (Nat.le_of_ble_eq_true rfl) dX0_isWritten_7 ?_
  refine z_lconst 0 dX0_isWritten_10 rfl ?_
  refine z_lcmp dX0_isWritten_11 ?_
  refine z_if_ge 17 dX0_isWritten_12 rfl hf (fun _ hf => ?_) (fun _ hf => ?_)
  · refine z_aload_n 0 dX0_isWritten_17 rfl rfl ?_
    refine z_getr fdX0_121_0 (Or.inr ⟨_, rfl⟩) ((hL.b 0 rfl).t 0 rfl) ((hL.b 0 rfl).p 18 rfl) dX0_isWritten_18 ?_
    refine z_iconst 0 dX0_isWritten_21 rfl ?_
    refine z_iload_n 2 dX0_isWritten_22 rfl rfl ?_
    refine z_ldc q1029 dX0_isWritten_23 ?_
    refine z_icmp_ge 32 dX0_isWritten_25 rfl hf (fun _ hf => ?_) (fun _ hf => ?_)
    · refine z_ldc q749 dX0_isWritten_32 ?_
      refine z_iload_n 2 dX0_isWritten_34 rfl rfl ?_
      refine z_ldc q1029 dX0_isWritten_35 ?_
      refine z_isub dX0_isWritten_37 ?_
      refine z_bipush 10 dX0_isWritten_38 rfl ?_
      refine z_ishr dX0_isWritten_40 ?_
      refine z_iadd dX0_isWritten_41 ?_
      exact zX0_isWritten_J42 hD hL hf hM
    · refine z_iload_n 2 dX0_isWritten_28 rfl rfl ?_
      refine z_goto 42 dX0_isWritten_29 rfl ?_
      exact zX0_isWritten_J42 hD hL hf hM
  · refine z_iconst 0 dX0_isWritten_15 rfl ?_
    cases hf
    exact z_zret dX0_isWritten_16 rfl (Or.inl rfl) hM
theorem ctX0_isWritten {l : Launch} {h : zH} {a : Nat} {x1 : Nat} {x2 : Int32} {x3 : Nat} {y : zX} (hL : zXx h a) (hf : fX0_isWritten h a x1 x2 x3 = some y) : zC l yX0_isWritten (ws_ yX0_isWritten cX0_isWritten 4 (some .boolean)) 59 [.ref a, .ref x1, .int x2, .ref x3] h y :=
  z_start (by decide) (Nat.le_of_ble_eq_true rfl) (zX0_isWritten (F := (l, 59, h, y)) (Nat.le_refl _) hL hf rfl)
noncomputable def fX0_areAlike_L19 (h : zH) (x0 : Nat) (x1 : Nat) (x2 : Int32) (x3 : Int32) : Option ((Int32 × Int32) ⊕ (Int32)) := zck (zOb 5 h x0) (if (zI h x0 1) ≤ x3 then (zck (zB x2) (some (.inr x2))) else (if x2 = 0 then (zck (zB x2) (some (.inr x2))) else (zb1 (zP h x0 0) (fun b_6 => zck (zAr h b_6 x3) (zck (zOb 5 h x1) (zb1 (zP h x1 0) (fun b_9 => zck (zAr h b_9 x3) (if (zI h b_6 x3.toNatClampNeg) = (zI h b_9 x3.toNatClampNeg) then (some (.inl ((1, x3 + 1)))) else (some (.inl ((0, x3 + 1))))))))))))
theorem zX0_areAlike_L19 {F : zF} {h : zH} {x0 : Nat} {x1 : Nat} {x2 : Int32} {x3 : Int32} {y : (Int32 × Int32) ⊕ (Int32)} (hD : 1 ≤ F.2.1) (hf : fX0_areAlike_L19 h x0 x1 x2 x3 = some y) (hM : ((∀ s' : Int32 × Int32, y = .inl s' → Z F 4 cX0_areAlike RX0 "areAlike" (some .boolean) [] h 19 [(0, .ref x0), (1, .ref x1), (2, .int s'.1), (3, .int s'.2)] []) ∧ ∀ r : Int32, y = .inr r → ((.inl (some (.int r)), h) : zX) = zEnd F)) : Z F 4 cX0_areAlike RX0 "areAlike" (some .boolean) [] h 19 [(0, .ref x0), (1, .ref x1), (2, .int x2), (3, .int x3)] [] := by
  unfold fX0_areAlike_L19 at hf
  refine z_iload_n 3 dX0_areAlike_19 rfl rfl ?_
  refine z_aload_n 0 dX0_areAlike_20 rfl rfl ?_
  obtain ⟨hK_3, hf⟩ := zck_some hf
  refine z_geti fdX0_275_5 ((hK_3.b 0 rfl).t 0 rfl) dX0_areAlike_21 ?_
  refine z_icmp_ge 58 dX0_areAlike_24 rfl hf (fun _ hf => ?_) (fun _ hf => ?_)
  · refine z_iload_n 2 dX0_areAlike_58 rfl rfl ?_
    obtain ⟨hz_4, hf⟩ := zck_some hf
    cases hf
    exact z_zret dX0_areAlike_59 rfl hz_4 (hM.2 _ rfl)
  · refine z_iload_n 2 dX0_areAlike_27 rfl rfl ?_
    refine z_if_eq 58 dX0_areAlike_28 rfl hf (fun _ hf => ?_) (fun _ hf => ?_)
    · refine z_iload_n 2 dX0_areAlike_58 rfl rfl ?_
      obtain ⟨hz_5, hf⟩ := zck_some hf
      cases hf
      exact z_zret dX0_areAlike_59 rfl hz_5 (hM.2 _ rfl)
    · refine z_aload_n 0 dX0_areAlike_31 rfl rfl ?_
      obtain ⟨b_6, hb_6, hf⟩ := zb1_some hf
      refine z_getr fdX0_278_5 (Or.inr ⟨_, rfl⟩) ((hK_3.b 0 rfl).t 0 rfl) hb_6 dX0_areAlike_32 ?_
      refine z_iload_n 3 dX0_areAlike_35 rfl rfl ?_
      obtain ⟨hi_7, hf⟩ := zck_some hf
      refine z_iald (zAr_t hi_7) hi_7.2 dX0_areAlike_36 ?_
      refine z_aload_n 1 dX0_areAlike_37 rfl rfl ?_
      obtain ⟨hK_8, hf⟩ := zck_some hf
      obtain ⟨b_9, hb_9, hf⟩ := zb1_some hf
      refine z_getr fdX0_278_5 (Or.inr ⟨_, rfl⟩) ((hK_8.b 0 rfl).t 0 rfl) hb_9 dX0_areAlike_38 ?_
      refine z_iload_n 3 dX0_areAlike_41 rfl rfl ?_
      obtain ⟨hi_10, hf⟩ := zck_some hf
      refine z_iald (zAr_t hi_10) hi_10.2 dX0_areAlike_42 ?_
      refine z_icmp_ne 50 dX0_areAlike_43 rfl hf (fun _ hf => ?_) (fun _ hf => ?_)
      · refine z_iconst 0 dX0_areAlike_50 rfl ?_
        refine z_istore_n dX0_areAlike_51 rfl (by decide) (lc' := [(0, .ref x0), (1, .ref x1), (2, .int 0), (3, .int x3)]) rfl ?_
        refine z_iinc 3 (x3 + 1) dX0_areAlike_52 rfl rfl (by decide) (lc' := [(0, .ref x0), (1, .ref x1), (2, .int 0), (3, .int (x3 + 1))]) rfl ?_
        refine z_goto 19 dX0_areAlike_55 rfl ?_
        cases hf
        exact (hM.1 _ rfl)
      · refine z_iconst 1 dX0_areAlike_46 rfl ?_
        refine z_goto 51 dX0_areAlike_47 rfl ?_
        refine z_istore_n dX0_areAlike_51 rfl (by decide) (lc' := [(0, .ref x0), (1, .ref x1), (2, .int 1), (3, .int x3)]) rfl ?_
        refine z_iinc 3 (x3 + 1) dX0_areAlike_52 rfl rfl (by decide) (lc' := [(0, .ref x0), (1, .ref x1), (2, .int 1), (3, .int (x3 + 1))]) rfl ?_
        refine z_goto 19 dX0_areAlike_55 rfl ?_
        cases hf
        exact (hM.1 _ rfl)
noncomputable def fX0_areAlike_J16 (h : zH) (x0 : Nat) (x1 : Nat) (k0 : Int32) : Option (Int32) := zlp (fun s => fX0_areAlike_L19 h x0 x1 s.1 s.2) (k0, 0)
theorem zX0_areAlike_J16 {F : zF} {h : zH} {x0 : Nat} {x1 : Nat} {k0 : Int32} {y : Int32} (hD : 1 ≤ F.2.1) (hf : fX0_areAlike_J16 h x0 x1 k0 = some y) (hM : ((.inl (some (.int y)), h) : zX) = zEnd F) : Z F 4 cX0_areAlike RX0 "areAlike" (some .boolean) [] h 16 [(0, .ref x0), (1, .ref x1)] [.int k0] := by
  unfold fX0_areAlike_J16 at hf
  refine z_istore_n dX0_areAlike_16 rfl (by decide) (lc' := [(0, .ref x0), (1, .ref x1), (2, .int k0)]) rfl ?_
  refine z_iconst 0 dX0_areAlike_17 rfl ?_
  refine z_istore_n dX0_areAlike_18 rfl (by decide) (lc' := [(0, .ref x0), (1, .ref x1), (2, .int k0), (3, .int 0)]) rfl ?_
  exact z_loop (fun (s : Int32 × Int32) => Z F 4 cX0_areAlike RX0 "areAlike" (some .boolean) [] h 19 [(0, .ref x0), (1, .ref x1), (2, .int s.1), (3, .int s.2)] []) (fun (r : Int32) => ((.inl (some (.int r)), h) : zX) = zEnd F) (fun s y hb hs hr => zX0_areAlike_L19 hD hb ⟨hs, hr⟩) hf hM
noncomputable def fX0_areAlike (h : zH) (x0 : Nat) (x1 : Nat) : Option (Int32) := zck (zOb 5 h x0) (zck (zOb 5 h x1) (if (zI h x0 1) = (zI h x1 1) then (fX0_areAlike_J16 h x0 x1 1) else (fX0_areAlike_J16 h x0 x1 0)))
theorem zX0_areAlike {F : zF} {h : zH} {x0 : Nat} {x1 : Nat} {y : Int32} (hD : 1 ≤ F.2.1) (hf : fX0_areAlike h x0 x1 = some y) (hM : ((.inl (some (.int y)), h) : zX) = zEnd F) : Z F 4 cX0_areAlike RX0 "areAlike" (some .boolean) [] h 0 [(0, .ref x0), (1, .ref x1)] [] := by
  unfold fX0_areAlike at hf
  refine z_aload_n 0 dX0_areAlike_0 rfl rfl ?_
  obtain ⟨hK_1, hf⟩ := zck_some hf
  refine z_geti fdX0_275_5 ((hK_1.b 0 rfl).t 0 rfl) dX0_areAlike_1 ?_
  refine z_aload_n 1 dX0_areAlike_4 rfl rfl ?_
  obtain ⟨hK_2, hf⟩ := zck_some hf
  refine z_geti fdX0_275_5 ((hK_2.b 0 rfl).t 0 rfl) dX0_areAlike_5 ?_
  refine z_icmp_ne 15 dX0_areAlike_8 rfl hf (fun _ hf => ?_) (fun _ hf => ?_)
  · refine z_iconst 0 dX0_areAlike_15 rfl ?_
    exact zX0_areAlike_J16 hD hf hM
  · refine z_iconst 1 dX0_areAlike_11 rfl ?_
    refine z_goto 16 dX0_areAlike_12 rfl ?_
    exact zX0_areAlike_J16 hD hf hM
theorem ctX0_areAlike {l : Launch} {h : zH} {x0 : Nat} {x1 : Nat} {v : Int32} (hf : fX0_areAlike h x0 x1 = some v) : zC l yX0_areAlike (ws_ yX0_areAlike cX0_areAlike 4 (some .boolean)) 1 [.ref x0, .ref x1] h (.inl (some (.int v)), h) :=
  z_start (by decide) (Nat.le_of_ble_eq_true rfl) (zX0_areAlike (F := (l, 1, h, (.inl (some (.int v)), h))) (Nat.le_refl _) hf rfl)
theorem fdX0_115_0 : zFd RX0 115 0 29 (.object "CodeExchange$Row") true := ⟨_, _, _, rfl, rfl, by decide, rfl, rfl, Or.inl q515, Or.inl rfl⟩
theorem suX0_374_0 : zIv RX0 374 yX0_isWritten (ws_ yX0_isWritten cX0_isWritten 4 (some .boolean)) 4 0 3 := ⟨(zGood_c q1311 q97), ⟨_, _, rfl, rfl, qs41⟩, (Or.inl q1308), q1310, ⟨by decide, by decide⟩, by decide +kernel⟩
theorem fdX0_118_0 : zFd RX0 118 0 30 (.object "CodeExchange$Row") true := ⟨_, _, _, rfl, rfl, by decide, rfl, rfl, Or.inl q516, Or.inl rfl⟩
theorem suX0_378_s : zIs RX0 378 yX0_areAlike (ws_ yX0_areAlike cX0_areAlike 4 (some .boolean)) 4 2 := ⟨(zGood_c q1314 q97), (Or.inl q1312), q1313, ⟨by decide, by decide⟩, by decide +kernel⟩
noncomputable def fX0_differ_L41 (h : zH) (a : Nat) (x3 : Int32) (x4 : Nat) (x5 : Nat) (x6 : Int32) : Option ((zH × Int32) ⊕ ((Int32 × zH))) := if (x3 + 4096) ≤ x6 then (zb2 (fX0_refused h a ((-2))) (fun v_64 h_65 => zb1 v_64 (fun b_66 => zck (zT h_65 b_66 = (2, 0)) (zck (zOb 1 h_65 b_66) (zb2 (fX0_answer h_65 a (zI h_65 b_66 6)) (fun v_70 h_71 => some (.inr ((v_70, h_71))))))))) else (if 1114111 < x6 then (zb2 (fX0_refused h a ((-2))) (fun v_73 h_74 => zb1 v_73 (fun b_75 => zck (zT h_74 b_75 = (2, 0)) (zck (zOb 1 h_74 b_75) (zb2 (fX0_answer h_74 a (zI h_74 b_75 6)) (fun v_79 h_80 => some (.inr ((v_79, h_80))))))))) else (zb1 (fX0_isPoint x6) (fun v_82 => if v_82 = 0 then (some (.inl ((h, x6 + 1)))) else (zxi (fX0_isWritten h a x4 x6 (a + 48)) (fun v_85 h_86 => zxi (fX0_isWritten h_86 a x5 x6 (a + 50)) (fun v_96 h_97 => if v_85 = v_96 then (zb1 (fX0_areAlike h_97 (a + 48) (a + 50)) (fun v_107 => if v_107 = 0 then (some (.inr ((x6, h_97)))) else (some (.inl ((h_97, x6 + 1)))))) else (some (.inr ((x6, h_97))))) (fun e_98 h_99 => zck (zT h_99 e_98 = (2, 0)) (zck (zOb 1 h_99 e_98) (zb2 (fX0_answer h_99 a (zI h_99 e_98 6)) (fun v_104 h_105 => some (.inr ((v_104, h_105)))))))) (fun e_87 h_88 => zck (zT h_88 e_87 = (2, 0)) (zck (zOb 1 h_88 e_87) (zb2 (fX0_answer h_88 a (zI h_88 e_87 6)) (fun v_93 h_94 => some (.inr ((v_93, h_94)))))))))))
theorem zX0_differ_L41 {F : zF} {h : zH} {a : Nat} {x3 : Int32} {x4 : Nat} {x5 : Nat} {x6 : Int32} {y : (zH × Int32) ⊕ ((Int32 × zH))} (hD : 123 ≤ F.2.1) (hL : zXx h a) (hf : fX0_differ_L41 h a x3 x4 x5 x6 = some y) (hM : ((∀ s' : zH × Int32, y = .inl s' → (zXx s'.1 a → Z F 7 cX0_differ RX0 "differ" (some .int) [(0, 109, 123, 18), (110, 123, 123, 18)] s'.1 41 [(0, .ref a), (3, .int x3), (4, .ref x4), (5, .ref x5), (6, .int s'.2)] [])) ∧ ∀ r : (Int32 × zH), y = .inr r → ((.inl (some (.int r.1)), r.2) : zX) = zEnd F)) : Z F 7 cX0_differ RX0 "differ" (some .int) [(0, 109, 123, 18), (110, 123, 123, 18)] h 41 [(0, .ref a), (3, .int x3), (4, .ref x4), (5, .ref x5), (6, .int x6)] [] := by
  unfold fX0_differ_L41 at hf
  refine z_iload 4 dX0_differ_41 rfl ?_
  refine z_iload_n 1 dX0_differ_43 rfl rfl ?_
  refine z_sipush 4096 dX0_differ_44 rfl ?_
  refine z_iadd dX0_differ_47 ?_
  refine z_icmp_ge 116 dX0_differ_48 rfl hf (fun _ hf => ?_) (fun _ hf => ?_)
  · refine z_aload_n 0 dX0_differ_116 rfl rfl ?_
    refine z_bipush (-2) dX0_differ_117 rfl ?_
    obtain ⟨v_64, h_65, hc_63, hf⟩ := zb2_some hf
    have hct := ctX0_refused (l := F.1) hL hc_63
    refine z_invVq suX0_140_0 hct ((hL.b 0 rfl).t 0 rfl) ⟨Nat.le_trans (by decide) hD, by decide⟩ rfl rfl (Nat.le_of_ble_eq_true rfl) dX0_differ_119 ?_
    have hL := hL.ext hct.1
    obtain ⟨b_66, e9, hf9⟩ := zb1_some hf
    subst e9
    have hf := hf9
    refine z_athrow dX0_differ_122 ?_
    obtain ⟨ht_67, hf⟩ := zck_some hf
    refine zt_catch (q := (RX1, TX1, 7)) rfl (by decide) q129 rfl rfl ht_67 ?_
    refine z_astore dX0_differ_123 (by decide) (lc' := [(0, .ref a), (3, .int x3), (4, .ref b_66), (5, .ref x5), (6, .int x6)]) rfl ?_
    refine z_aload_n 0 dX0_differ_125 rfl rfl ?_
    refine z_aload 2 dX0_differ_126 rfl ?_
    obtain ⟨hK_68, hf⟩ := zck_some hf
    refine z_geti fdX0_17_1 ((hK_68.b 0 rfl).t 0 rfl) dX0_differ_128 ?_
    obtain ⟨v_70, h_71, hc_69, hf⟩ := zb2_some hf
    have hct := ctX0_answer (l := F.1) hL hc_69
    refine z_invVi suX0_163_0 hct ((hL.b 0 rfl).t 0 rfl) ⟨Nat.le_trans (by decide) hD, by decide⟩ rfl rfl (Nat.le_of_ble_eq_true rfl) dX0_differ_131 ?_
    have hL := hL.ext hct.1
    have hK_68 := hK_68.ext hct.1
    cases hf
    exact z_iret dX0_differ_134 rfl (hM.2 _ rfl)
  · refine z_iload 4 dX0_differ_51 rfl ?_
    refine z_ldc q748 dX0_differ_53 ?_
    refine z_icmp_gt 116 dX0_differ_55 rfl hf (fun _ hf => ?_) (fun _ hf => ?_)
    · refine z_aload_n 0 dX0_differ_116 rfl rfl ?_
      refine z_bipush (-2) dX0_differ_117 rfl ?_
      obtain ⟨v_73, h_74, hc_72, hf⟩ := zb2_some hf
      have hct := ctX0_refused (l := F.1) hL hc_72
      refine z_invVq suX0_140_0 hct ((hL.b 0 rfl).t 0 rfl) ⟨Nat.le_trans (by decide) hD, by decide⟩ rfl rfl (Nat.le_of_ble_eq_true rfl) dX0_differ_119 ?_
      have hL := hL.ext hct.1
      obtain ⟨b_75, e9, hf9⟩ := zb1_some hf
      subst e9
      have hf := hf9
      refine z_athrow dX0_differ_122 ?_
      obtain ⟨ht_76, hf⟩ := zck_some hf
      refine zt_catch (q := (RX1, TX1, 7)) rfl (by decide) q129 rfl rfl ht_76 ?_
      refine z_astore dX0_differ_123 (by decide) (lc' := [(0, .ref a), (3, .int x3), (4, .ref b_75), (5, .ref x5), (6, .int x6)]) rfl ?_
      refine z_aload_n 0 dX0_differ_125 rfl rfl ?_
      refine z_aload 2 dX0_differ_126 rfl ?_
      obtain ⟨hK_77, hf⟩ := zck_some hf
      refine z_geti fdX0_17_1 ((hK_77.b 0 rfl).t 0 rfl) dX0_differ_128 ?_
      obtain ⟨v_79, h_80, hc_78, hf⟩ := zb2_some hf
      have hct := ctX0_answer (l := F.1) hL hc_78
      refine z_invVi suX0_163_0 hct ((hL.b 0 rfl).t 0 rfl) ⟨Nat.le_trans (by decide) hD, by decide⟩ rfl rfl (Nat.le_of_ble_eq_true rfl) dX0_differ_131 ?_
      have hL := hL.ext hct.1
      have hK_77 := hK_77.ext hct.1
      cases hf
      exact z_iret dX0_differ_134 rfl (hM.2 _ rfl)
    · refine z_iload 4 dX0_differ_58 rfl ?_
      obtain ⟨v_82, hc_81, hf⟩ := zb1_some hf
      refine z_invSi suX0_195_s (ctX0_isPoint hc_81) ⟨Nat.le_trans (by decide) hD, by decide⟩ rfl rfl (Nat.le_of_ble_eq_true rfl) dX0_differ_60 ?_
      refine z_if_eq 110 dX0_differ_63 rfl hf (fun _ hf => ?_) (fun _ hf => ?_)
      · refine z_iinc 4 (x6 + 1) dX0_differ_110 rfl rfl (by decide) (lc' := [(0, .ref a), (3, .int x3), (4, .ref x4), (5, .ref x5), (6, .int (x6 + 1))]) rfl ?_
        refine z_goto 41 dX0_differ_113 rfl ?_
        cases hf
        exact (hM.1 _ rfl) hL
      · refine z_aload_n 0 dX0_differ_66 rfl rfl ?_
        refine z_aload 2 dX0_differ_67 rfl ?_
        refine z_iload 4 dX0_differ_69 rfl ?_
        refine z_aload_n 0 dX0_differ_71 rfl rfl ?_
        refine z_getr fdX0_115_0 (Or.inl ⟨_, rfl⟩) ((hL.b 0 rfl).t 0 rfl) ((hL.b 0 rfl).p 16 rfl) dX0_differ_72 ?_
        rcases zxi_some hf with ⟨v_85, h_86, hc_84, hf⟩ | ⟨e_87, h_88, hc_89, hf⟩
        rotate_left
        · have hct := ctX0_isWritten (l := F.1) hL hc_89
          refine z_invVt suX0_374_0 hct ((hL.b 0 rfl).t 0 rfl) ⟨Nat.le_trans (by decide) hD, by decide⟩ rfl rfl (Nat.le_of_ble_eq_true rfl) dX0_differ_75 ?_
          have hL := hL.ext hct.1
          obtain ⟨ht_90, hf⟩ := zck_some hf
          refine zt_catch (q := (RX1, TX1, 7)) rfl (by decide) q129 rfl rfl ht_90 ?_
          refine z_astore dX0_differ_123 (by decide) (lc' := [(0, .ref a), (3, .int x3), (4, .ref e_87), (5, .ref x5), (6, .int x6)]) rfl ?_
          refine z_aload_n 0 dX0_differ_125 rfl rfl ?_
          refine z_aload 2 dX0_differ_126 rfl ?_
          obtain ⟨hK_91, hf⟩ := zck_some hf
          refine z_geti fdX0_17_1 ((hK_91.b 0 rfl).t 0 rfl) dX0_differ_128 ?_
          obtain ⟨v_93, h_94, hc_92, hf⟩ := zb2_some hf
          have hct := ctX0_answer (l := F.1) hL hc_92
          refine z_invVi suX0_163_0 hct ((hL.b 0 rfl).t 0 rfl) ⟨Nat.le_trans (by decide) hD, by decide⟩ rfl rfl (Nat.le_of_ble_eq_true rfl) dX0_differ_131 ?_
          have hL := hL.ext hct.1
          have hK_91 := hK_91.ext hct.1
          cases hf
          exact z_iret dX0_differ_134 rfl (hM.2 _ rfl)
        have hct := ctX0_isWritten (l := F.1) hL hc_84
        refine z_invVi suX0_374_0 hct ((hL.b 0 rfl).t 0 rfl) ⟨Nat.le_trans (by decide) hD, by decide⟩ rfl rfl (Nat.le_of_ble_eq_true rfl) dX0_differ_75 ?_
        have hL := hL.ext hct.1
        refine z_aload_n 0 dX0_differ_78 rfl rfl ?_
        refine z_aload 3 dX0_differ_79 rfl ?_
        refine z_iload 4 dX0_differ_81 rfl ?_
        refine z_aload_n 0 dX0_differ_83 rfl rfl ?_
        refine z_getr fdX0_118_0 (Or.inl ⟨_, rfl⟩) ((hL.b 0 rfl).t 0 rfl) ((hL.b 0 rfl).p 17 rfl) dX0_differ_84 ?_
        rcases zxi_some hf with ⟨v_96, h_97, hc_95, hf⟩ | ⟨e_98, h_99, hc_100, hf⟩
        rotate_left
        · have hct := ctX0_isWritten (l := F.1) hL hc_100
          refine z_invVt suX0_374_0 hct ((hL.b 0 rfl).t 0 rfl) ⟨Nat.le_trans (by decide) hD, by decide⟩ rfl rfl (Nat.le_of_ble_eq_true rfl) dX0_differ_87 ?_
          have hL := hL.ext hct.1
          obtain ⟨ht_101, hf⟩ := zck_some hf
          refine zt_catch (q := (RX1, TX1, 7)) rfl (by decide) q129 rfl rfl ht_101 ?_
          refine z_astore dX0_differ_123 (by decide) (lc' := [(0, .ref a), (3, .int x3), (4, .ref e_98), (5, .ref x5), (6, .int x6)]) rfl ?_
          refine z_aload_n 0 dX0_differ_125 rfl rfl ?_
          refine z_aload 2 dX0_differ_126 rfl ?_
          obtain ⟨hK_102, hf⟩ := zck_some hf
          refine z_geti fdX0_17_1 ((hK_102.b 0 rfl).t 0 rfl) dX0_differ_128 ?_
          obtain ⟨v_104, h_105, hc_103, hf⟩ := zb2_some hf
          have hct := ctX0_answer (l := F.1) hL hc_103
          refine z_invVi suX0_163_0 hct ((hL.b 0 rfl).t 0 rfl) ⟨Nat.le_trans (by decide) hD, by decide⟩ rfl rfl (Nat.le_of_ble_eq_true rfl) dX0_differ_131 ?_
          have hL := hL.ext hct.1
          have hK_102 := hK_102.ext hct.1
          cases hf
          exact z_iret dX0_differ_134 rfl (hM.2 _ rfl)
        have hct := ctX0_isWritten (l := F.1) hL hc_95
        refine z_invVi suX0_374_0 hct ((hL.b 0 rfl).t 0 rfl) ⟨Nat.le_trans (by decide) hD, by decide⟩ rfl rfl (Nat.le_of_ble_eq_true rfl) dX0_differ_87 ?_
        have hL := hL.ext hct.1
        refine z_icmp_ne 107 dX0_differ_90 rfl hf (fun _ hf => ?_) (fun _ hf => ?_)
        · refine z_iload 4 dX0_differ_107 rfl ?_
          cases hf
          exact z_iret dX0_differ_109 rfl (hM.2 _ rfl)
        · refine z_aload_n 0 dX0_differ_93 rfl rfl ?_
          refine z_getr fdX0_115_0 (Or.inl ⟨_, rfl⟩) ((hL.b 0 rfl).t 0 rfl) ((hL.b 0 rfl).p 16 rfl) dX0_differ_94 ?_
          refine z_aload_n 0 dX0_differ_97 rfl rfl ?_
          refine z_getr fdX0_118_0 (Or.inl ⟨_, rfl⟩) ((hL.b 0 rfl).t 0 rfl) ((hL.b 0 rfl).p 17 rfl) dX0_differ_98 ?_
          obtain ⟨v_107, hc_106, hf⟩ := zb1_some hf
          refine z_invSi suX0_378_s (ctX0_areAlike hc_106) ⟨Nat.le_trans (by decide) hD, by decide⟩ rfl rfl (Nat.le_of_ble_eq_true rfl) dX0_differ_101 ?_
          refine z_if_ne 110 dX0_differ_104 rfl hf (fun _ hf => ?_) (fun _ hf => ?_)
          · refine z_iinc 4 (x6 + 1) dX0_differ_110 rfl rfl (by decide) (lc' := [(0, .ref a), (3, .int x3), (4, .ref x4), (5, .ref x5), (6, .int (x6 + 1))]) rfl ?_
            refine z_goto 41 dX0_differ_113 rfl ?_
            cases hf
            exact (hM.1 _ rfl) hL
          · refine z_iload 4 dX0_differ_107 rfl ?_
            cases hf
            exact z_iret dX0_differ_109 rfl (hM.2 _ rfl)
noncomputable def fX0_differ (h : zH) (a : Nat) (x1 : Int32) (x2 : Int32) (x3 : Int32) : Option (Int32 × zH) := zxr (fX0_pageAt h a x1) (fun v_2 h_3 => zb1 v_2 (fun b_12 => zxr (fX0_pageAt h_3 a x2) (fun v_14 h_15 => zb1 v_14 (fun b_24 => zxr (fX0_closedAt h_15 a x1) (fun v_26 h_27 => zb1 v_26 (fun b_36 => zxr (fX0_closedAt h_27 a x2) (fun v_38 h_39 => zb1 v_38 (fun b_48 => zb1 (fX0_in x3 0 1114111) (fun v_50 => zxv (fX0_need h_39 a v_50 ((-1))) (fun h_54 => zlp (fun s => fX0_differ_L41 s.1 a x3 b_36 b_48 s.2) (h_54, x3)) (fun e_55 h_56 => zck (zT h_56 e_55 = (2, 0)) (zck (zOb 1 h_56 e_55) (zb2 (fX0_answer h_56 a (zI h_56 e_55 6)) (fun v_61 h_62 => some ((v_61, h_62))))))))) (fun e_40 h_41 => zck (zT h_41 e_40 = (2, 0)) (zck (zOb 1 h_41 e_40) (zb2 (fX0_answer h_41 a (zI h_41 e_40 6)) (fun v_46 h_47 => some ((v_46, h_47)))))))) (fun e_28 h_29 => zck (zT h_29 e_28 = (2, 0)) (zck (zOb 1 h_29 e_28) (zb2 (fX0_answer h_29 a (zI h_29 e_28 6)) (fun v_34 h_35 => some ((v_34, h_35)))))))) (fun e_16 h_17 => zck (zT h_17 e_16 = (2, 0)) (zck (zOb 1 h_17 e_16) (zb2 (fX0_answer h_17 a (zI h_17 e_16 6)) (fun v_22 h_23 => some ((v_22, h_23)))))))) (fun e_4 h_5 => zck (zT h_5 e_4 = (2, 0)) (zck (zOb 1 h_5 e_4) (zb2 (fX0_answer h_5 a (zI h_5 e_4 6)) (fun v_10 h_11 => some ((v_10, h_11))))))
theorem zX0_differ {F : zF} {h : zH} {a : Nat} {x1 : Int32} {x2 : Int32} {x3 : Int32} {y : Int32 × zH} (hD : 123 ≤ F.2.1) (hL : zXx h a) (hf : fX0_differ h a x1 x2 x3 = some y) (hM : ((.inl (some (.int y.1)), y.2) : zX) = zEnd F) : Z F 7 cX0_differ RX0 "differ" (some .int) [(0, 109, 123, 18), (110, 123, 123, 18)] h 0 [(0, .ref a), (1, .int x1), (2, .int x2), (3, .int x3)] [] := by
  unfold fX0_differ at hf
  refine z_aload_n 0 dX0_differ_0 rfl rfl ?_
  refine z_iload_n 1 dX0_differ_1 rfl rfl ?_
  rcases zxr_some hf with ⟨v_2, h_3, hc_1, hf⟩ | ⟨e_4, h_5, hc_6, hf⟩
  rotate_left
  · have hct := ctX0_pageAt (l := F.1) hL hc_6
    refine z_invVt suX0_152_0 hct ((hL.b 0 rfl).t 0 rfl) ⟨Nat.le_trans (by decide) hD, by decide⟩ rfl rfl (Nat.le_of_ble_eq_true rfl) dX0_differ_2 ?_
    have hL := hL.ext hct.1
    obtain ⟨ht_7, hf⟩ := zck_some hf
    refine zt_catch (q := (RX1, TX1, 7)) rfl (by decide) q129 rfl rfl ht_7 ?_
    refine z_astore dX0_differ_123 (by decide) (lc' := [(0, .ref a), (1, .int x1), (2, .int x2), (3, .int x3), (4, .ref e_4)]) rfl ?_
    refine z_aload_n 0 dX0_differ_125 rfl rfl ?_
    refine z_aload 4 dX0_differ_126 rfl ?_
    obtain ⟨hK_8, hf⟩ := zck_some hf
    refine z_geti fdX0_17_1 ((hK_8.b 0 rfl).t 0 rfl) dX0_differ_128 ?_
    obtain ⟨v_10, h_11, hc_9, hf⟩ := zb2_some hf
    have hct := ctX0_answer (l := F.1) hL hc_9
    refine z_invVi suX0_163_0 hct ((hL.b 0 rfl).t 0 rfl) ⟨Nat.le_trans (by decide) hD, by decide⟩ rfl rfl (Nat.le_of_ble_eq_true rfl) dX0_differ_131 ?_
    have hL := hL.ext hct.1
    have hK_8 := hK_8.ext hct.1
    cases hf
    exact z_iret dX0_differ_134 rfl hM
  have hct := ctX0_pageAt (l := F.1) hL hc_1
  refine z_invVq suX0_152_0 hct ((hL.b 0 rfl).t 0 rfl) ⟨Nat.le_trans (by decide) hD, by decide⟩ rfl rfl (Nat.le_of_ble_eq_true rfl) dX0_differ_2 ?_
  have hL := hL.ext hct.1
  obtain ⟨b_12, e9, hf9⟩ := zb1_some hf
  subst e9
  have hf := hf9
  refine z_pop dX0_differ_5 rfl ?_
  refine z_aload_n 0 dX0_differ_6 rfl rfl ?_
  refine z_iload_n 2 dX0_differ_7 rfl rfl ?_
  rcases zxr_some hf with ⟨v_14, h_15, hc_13, hf⟩ | ⟨e_16, h_17, hc_18, hf⟩
  rotate_left
  · have hct := ctX0_pageAt (l := F.1) hL hc_18
    refine z_invVt suX0_152_0 hct ((hL.b 0 rfl).t 0 rfl) ⟨Nat.le_trans (by decide) hD, by decide⟩ rfl rfl (Nat.le_of_ble_eq_true rfl) dX0_differ_8 ?_
    have hL := hL.ext hct.1
    obtain ⟨ht_19, hf⟩ := zck_some hf
    refine zt_catch (q := (RX1, TX1, 7)) rfl (by decide) q129 rfl rfl ht_19 ?_
    refine z_astore dX0_differ_123 (by decide) (lc' := [(0, .ref a), (1, .int x1), (2, .int x2), (3, .int x3), (4, .ref e_16)]) rfl ?_
    refine z_aload_n 0 dX0_differ_125 rfl rfl ?_
    refine z_aload 4 dX0_differ_126 rfl ?_
    obtain ⟨hK_20, hf⟩ := zck_some hf
    refine z_geti fdX0_17_1 ((hK_20.b 0 rfl).t 0 rfl) dX0_differ_128 ?_
    obtain ⟨v_22, h_23, hc_21, hf⟩ := zb2_some hf
    have hct := ctX0_answer (l := F.1) hL hc_21
    refine z_invVi suX0_163_0 hct ((hL.b 0 rfl).t 0 rfl) ⟨Nat.le_trans (by decide) hD, by decide⟩ rfl rfl (Nat.le_of_ble_eq_true rfl) dX0_differ_131 ?_
    have hL := hL.ext hct.1
    have hK_20 := hK_20.ext hct.1
    cases hf
    exact z_iret dX0_differ_134 rfl hM
  have hct := ctX0_pageAt (l := F.1) hL hc_13
  refine z_invVq suX0_152_0 hct ((hL.b 0 rfl).t 0 rfl) ⟨Nat.le_trans (by decide) hD, by decide⟩ rfl rfl (Nat.le_of_ble_eq_true rfl) dX0_differ_8 ?_
  have hL := hL.ext hct.1
  obtain ⟨b_24, e9, hf9⟩ := zb1_some hf
  subst e9
  have hf := hf9
  refine z_pop dX0_differ_11 rfl ?_
  refine z_aload_n 0 dX0_differ_12 rfl rfl ?_
  refine z_iload_n 1 dX0_differ_13 rfl rfl ?_
  rcases zxr_some hf with ⟨v_26, h_27, hc_25, hf⟩ | ⟨e_28, h_29, hc_30, hf⟩
  rotate_left
  · have hct := ctX0_closedAt (l := F.1) hL hc_30
    refine z_invVt suX0_255_0 hct ((hL.b 0 rfl).t 0 rfl) ⟨Nat.le_trans (by decide) hD, by decide⟩ rfl rfl (Nat.le_of_ble_eq_true rfl) dX0_differ_14 ?_
    have hL := hL.ext hct.1
    obtain ⟨ht_31, hf⟩ := zck_some hf
    refine zt_catch (q := (RX1, TX1, 7)) rfl (by decide) q129 rfl rfl ht_31 ?_
    refine z_astore dX0_differ_123 (by decide) (lc' := [(0, .ref a), (1, .int x1), (2, .int x2), (3, .int x3), (4, .ref e_28)]) rfl ?_
    refine z_aload_n 0 dX0_differ_125 rfl rfl ?_
    refine z_aload 4 dX0_differ_126 rfl ?_
    obtain ⟨hK_32, hf⟩ := zck_some hf
    refine z_geti fdX0_17_1 ((hK_32.b 0 rfl).t 0 rfl) dX0_differ_128 ?_
    obtain ⟨v_34, h_35, hc_33, hf⟩ := zb2_some hf
    have hct := ctX0_answer (l := F.1) hL hc_33
    refine z_invVi suX0_163_0 hct ((hL.b 0 rfl).t 0 rfl) ⟨Nat.le_trans (by decide) hD, by decide⟩ rfl rfl (Nat.le_of_ble_eq_true rfl) dX0_differ_131 ?_
    have hL := hL.ext hct.1
    have hK_32 := hK_32.ext hct.1
    cases hf
    exact z_iret dX0_differ_134 rfl hM
  have hct := ctX0_closedAt (l := F.1) hL hc_25
  refine z_invVq suX0_255_0 hct ((hL.b 0 rfl).t 0 rfl) ⟨Nat.le_trans (by decide) hD, by decide⟩ rfl rfl (Nat.le_of_ble_eq_true rfl) dX0_differ_14 ?_
  have hL := hL.ext hct.1
  obtain ⟨b_36, e9, hf9⟩ := zb1_some hf
  subst e9
  have hf := hf9
  refine z_astore dX0_differ_17 (by decide) (lc' := [(0, .ref a), (1, .int x1), (2, .int x2), (3, .int x3), (4, .ref b_36)]) rfl ?_
  refine z_aload_n 0 dX0_differ_19 rfl rfl ?_
  refine z_iload_n 2 dX0_differ_20 rfl rfl ?_
  rcases zxr_some hf with ⟨v_38, h_39, hc_37, hf⟩ | ⟨e_40, h_41, hc_42, hf⟩
  rotate_left
  · have hct := ctX0_closedAt (l := F.1) hL hc_42
    refine z_invVt suX0_255_0 hct ((hL.b 0 rfl).t 0 rfl) ⟨Nat.le_trans (by decide) hD, by decide⟩ rfl rfl (Nat.le_of_ble_eq_true rfl) dX0_differ_21 ?_
    have hL := hL.ext hct.1
    obtain ⟨ht_43, hf⟩ := zck_some hf
    refine zt_catch (q := (RX1, TX1, 7)) rfl (by decide) q129 rfl rfl ht_43 ?_
    refine z_astore dX0_differ_123 (by decide) (lc' := [(0, .ref a), (1, .int x1), (2, .int x2), (3, .int x3), (4, .ref e_40)]) rfl ?_
    refine z_aload_n 0 dX0_differ_125 rfl rfl ?_
    refine z_aload 4 dX0_differ_126 rfl ?_
    obtain ⟨hK_44, hf⟩ := zck_some hf
    refine z_geti fdX0_17_1 ((hK_44.b 0 rfl).t 0 rfl) dX0_differ_128 ?_
    obtain ⟨v_46, h_47, hc_45, hf⟩ := zb2_some hf
    have hct := ctX0_answer (l := F.1) hL hc_45
    refine z_invVi suX0_163_0 hct ((hL.b 0 rfl).t 0 rfl) ⟨Nat.le_trans (by decide) hD, by decide⟩ rfl rfl (Nat.le_of_ble_eq_true rfl) dX0_differ_131 ?_
    have hL := hL.ext hct.1
    have hK_44 := hK_44.ext hct.1
    cases hf
    exact z_iret dX0_differ_134 rfl hM
  have hct := ctX0_closedAt (l := F.1) hL hc_37
  refine z_invVq suX0_255_0 hct ((hL.b 0 rfl).t 0 rfl) ⟨Nat.le_trans (by decide) hD, by decide⟩ rfl rfl (Nat.le_of_ble_eq_true rfl) dX0_differ_21 ?_
  have hL := hL.ext hct.1
  obtain ⟨b_48, e9, hf9⟩ := zb1_some hf
  subst e9
  have hf := hf9
  refine z_astore dX0_differ_24 (by decide) (lc' := [(0, .ref a), (1, .int x1), (2, .int x2), (3, .int x3), (4, .ref b_36), (5, .ref b_48)]) rfl ?_
  refine z_aload_n 0 dX0_differ_26 rfl rfl ?_
  refine z_iload_n 3 dX0_differ_27 rfl rfl ?_
  refine z_iconst 0 dX0_differ_28 rfl ?_
  refine z_ldc q748 dX0_differ_29 ?_
  obtain ⟨v_50, hc_49, hf⟩ := zb1_some hf
  refine z_invSi suX0_4_s (ctX0_in hc_49) ⟨Nat.le_trans (by decide) hD, by decide⟩ rfl rfl (Nat.le_of_ble_eq_true rfl) dX0_differ_31 ?_
  refine z_iconst (-1) dX0_differ_34 rfl ?_
  rcases zxv_some hf with ⟨h_54, hc_52, hf⟩ | ⟨e_55, h_56, hc_57, hf⟩
  rotate_left
  · have hct := ctX0_need (l := F.1) hL hc_57
    refine z_invVt suX0_184_0 hct ((hL.b 0 rfl).t 0 rfl) ⟨Nat.le_trans (by decide) hD, by decide⟩ rfl rfl (Nat.le_of_ble_eq_true rfl) dX0_differ_35 ?_
    have hL := hL.ext hct.1
    obtain ⟨ht_58, hf⟩ := zck_some hf
    refine zt_catch (q := (RX1, TX1, 7)) rfl (by decide) q129 rfl rfl ht_58 ?_
    refine z_astore dX0_differ_123 (by decide) (lc' := [(0, .ref a), (1, .int x1), (2, .int x2), (3, .int x3), (4, .ref e_55), (5, .ref b_48)]) rfl ?_
    refine z_aload_n 0 dX0_differ_125 rfl rfl ?_
    refine z_aload 4 dX0_differ_126 rfl ?_
    obtain ⟨hK_59, hf⟩ := zck_some hf
    refine z_geti fdX0_17_1 ((hK_59.b 0 rfl).t 0 rfl) dX0_differ_128 ?_
    obtain ⟨v_61, h_62, hc_60, hf⟩ := zb2_some hf
    have hct := ctX0_answer (l := F.1) hL hc_60
    refine z_invVi suX0_163_0 hct ((hL.b 0 rfl).t 0 rfl) ⟨Nat.le_trans (by decide) hD, by decide⟩ rfl rfl (Nat.le_of_ble_eq_true rfl) dX0_differ_131 ?_
    have hL := hL.ext hct.1
    have hK_59 := hK_59.ext hct.1
    cases hf
    exact z_iret dX0_differ_134 rfl hM
  have hct := ctX0_need (l := F.1) hL hc_52
  refine z_invVv suX0_184_0 hct ((hL.b 0 rfl).t 0 rfl) ⟨Nat.le_trans (by decide) hD, by decide⟩ rfl rfl (Nat.le_of_ble_eq_true rfl) dX0_differ_35 ?_
  have hL := hL.ext hct.1
  refine z_iload_n 3 dX0_differ_38 rfl rfl ?_
  refine z_istore dX0_differ_39 (by decide) (lc' := [(0, .ref a), (1, .int x1), (2, .int x2), (3, .int x3), (4, .ref b_36), (5, .ref b_48), (6, .int x3)]) rfl ?_
  refine z_sub [0, 3, 4, 5, 6] rfl ?_
  exact z_loop (fun (s : zH × Int32) => (zXx s.1 a → Z F 7 cX0_differ RX0 "differ" (some .int) [(0, 109, 123, 18), (110, 123, 123, 18)] s.1 41 [(0, .ref a), (3, .int x3), (4, .ref b_36), (5, .ref b_48), (6, .int s.2)] [])) (fun (r : (Int32 × zH)) => ((.inl (some (.int r.1)), r.2) : zX) = zEnd F) (fun s y hb hs hr hL => zX0_differ_L41 hD hL hb ⟨hs, hr⟩) hf hM hL
theorem ctX0_differ {l : Launch} {h : zH} {a : Nat} {x1 : Int32} {x2 : Int32} {x3 : Int32} {v : Int32} {h' : zH} (hL : zXx h a) (hf : fX0_differ h a x1 x2 x3 = some (v, h')) : zC l yX0_differ (wsW_ yX0_differ cX0_differ 7 (some .int) [(0, 109, 123, 18), (110, 123, 123, 18)]) 123 [.ref a, .int x1, .int x2, .int x3] h (.inl (some (.int v)), h') :=
  z_startW (by decide) (Nat.le_of_ble_eq_true rfl) (zX0_differ (F := (l, 123, h, (.inl (some (.int v)), h'))) (Nat.le_refl _) hL hf rfl)
noncomputable def fX0_misread_L111 (h : zH) (a : Nat) (x5 : Int32) (x6 : Int32) (x7 : Int32) : Option ((Int32 × Int32) ⊕ ((Int32 × zH))) := if x5 ≤ x7 then (some (.inr ((x6, h)))) else (if (zI h (a + 48) 1) ≤ x7 then (some (.inl ((x6 + 1, x7 + 1)))) else (if (zI h (a + 50) 1) ≤ x7 then (some (.inl ((x6 + 1, x7 + 1)))) else (zck (vp_in x7 6000) (zck (vp_in x7 6000) (if (zI h (a + 49) x7.toNatClampNeg) = (zI h (a + 51) x7.toNatClampNeg) then (some (.inl ((x6 + 0, x7 + 1)))) else (some (.inl ((x6 + 1, x7 + 1)))))))))
theorem zX0_misread_L111 {F : zF} {h : zH} {a : Nat} {x5 : Int32} {x6 : Int32} {x7 : Int32} {y : (Int32 × Int32) ⊕ ((Int32 × zH))} (hD : 123 ≤ F.2.1) (hL : zXx h a) (hf : fX0_misread_L111 h a x5 x6 x7 = some y) (hM : ((∀ s' : Int32 × Int32, y = .inl s' → Z F 8 cX0_misread RX0 "misread" (some .int) [(0, 183, 184, 18)] h 111 [(0, .ref a), (5, .int x5), (6, .int s'.1), (7, .int s'.2)] []) ∧ ∀ r : (Int32 × zH), y = .inr r → ((.inl (some (.int r.1)), r.2) : zX) = zEnd F)) : Z F 8 cX0_misread RX0 "misread" (some .int) [(0, 183, 184, 18)] h 111 [(0, .ref a), (5, .int x5), (6, .int x6), (7, .int x7)] [] := by
  unfold fX0_misread_L111 at hf
  refine z_iload 3 dX0_misread_111 rfl ?_
  refine z_iload 1 dX0_misread_113 rfl ?_
  refine z_icmp_ge 181 dX0_misread_115 rfl hf (fun _ hf => ?_) (fun _ hf => ?_)
  · refine z_iload 2 dX0_misread_181 rfl ?_
    cases hf
    exact z_iret dX0_misread_183 rfl (hM.2 _ rfl)
  · refine z_iload 2 dX0_misread_118 rfl ?_
    refine z_iload 3 dX0_misread_120 rfl ?_
    refine z_aload_n 0 dX0_misread_122 rfl rfl ?_
    refine z_getr fdX0_115_0 (Or.inl ⟨_, rfl⟩) ((hL.b 0 rfl).t 0 rfl) ((hL.b 0 rfl).p 16 rfl) dX0_misread_123 ?_
    refine z_geti fdX0_275_5 ((hL.b 0 rfl).t 48 rfl) dX0_misread_126 ?_
    refine z_icmp_ge 167 dX0_misread_129 rfl hf (fun _ hf => ?_) (fun _ hf => ?_)
    · refine z_iconst 1 dX0_misread_167 rfl ?_
      refine z_goto 172 dX0_misread_168 rfl ?_
      refine z_iadd dX0_misread_172 ?_
      refine z_istore dX0_misread_173 (by decide) (lc' := [(0, .ref a), (5, .int x5), (6, .int (x6 + 1)), (7, .int x7)]) rfl ?_
      refine z_iinc 3 (x7 + 1) dX0_misread_175 rfl rfl (by decide) (lc' := [(0, .ref a), (5, .int x5), (6, .int (x6 + 1)), (7, .int (x7 + 1))]) rfl ?_
      refine z_goto 111 dX0_misread_178 rfl ?_
      cases hf
      exact (hM.1 _ rfl)
    · refine z_iload 3 dX0_misread_132 rfl ?_
      refine z_aload_n 0 dX0_misread_134 rfl rfl ?_
      refine z_getr fdX0_118_0 (Or.inl ⟨_, rfl⟩) ((hL.b 0 rfl).t 0 rfl) ((hL.b 0 rfl).p 17 rfl) dX0_misread_135 ?_
      refine z_geti fdX0_275_5 ((hL.b 0 rfl).t 50 rfl) dX0_misread_138 ?_
      refine z_icmp_ge 167 dX0_misread_141 rfl hf (fun _ hf => ?_) (fun _ hf => ?_)
      · refine z_iconst 1 dX0_misread_167 rfl ?_
        refine z_goto 172 dX0_misread_168 rfl ?_
        refine z_iadd dX0_misread_172 ?_
        refine z_istore dX0_misread_173 (by decide) (lc' := [(0, .ref a), (5, .int x5), (6, .int (x6 + 1)), (7, .int x7)]) rfl ?_
        refine z_iinc 3 (x7 + 1) dX0_misread_175 rfl rfl (by decide) (lc' := [(0, .ref a), (5, .int x5), (6, .int (x6 + 1)), (7, .int (x7 + 1))]) rfl ?_
        refine z_goto 111 dX0_misread_178 rfl ?_
        cases hf
        exact (hM.1 _ rfl)
      · refine z_aload_n 0 dX0_misread_144 rfl rfl ?_
        refine z_getr fdX0_115_0 (Or.inl ⟨_, rfl⟩) ((hL.b 0 rfl).t 0 rfl) ((hL.b 0 rfl).p 16 rfl) dX0_misread_145 ?_
        refine z_getr fdX0_278_5 (Or.inr ⟨_, rfl⟩) ((hL.b 0 rfl).t 48 rfl) ((hL.b 0 rfl).p 76 rfl) dX0_misread_148 ?_
        refine z_iload 3 dX0_misread_151 rfl ?_
        obtain ⟨hi_80, hf⟩ := zck_some hf
        refine z_iald ((hL.b 0 rfl).t 49 rfl) hi_80 dX0_misread_153 ?_
        refine z_aload_n 0 dX0_misread_154 rfl rfl ?_
        refine z_getr fdX0_118_0 (Or.inl ⟨_, rfl⟩) ((hL.b 0 rfl).t 0 rfl) ((hL.b 0 rfl).p 17 rfl) dX0_misread_155 ?_
        refine z_getr fdX0_278_5 (Or.inr ⟨_, rfl⟩) ((hL.b 0 rfl).t 50 rfl) ((hL.b 0 rfl).p 78 rfl) dX0_misread_158 ?_
        refine z_iload 3 dX0_misread_161 rfl ?_
        obtain ⟨hi_81, hf⟩ := zck_some hf
        refine z_iald ((hL.b 0 rfl).t 51 rfl) hi_81 dX0_misread_163 ?_
        refine z_icmp_eq 171 dX0_misread_164 rfl hf (fun _ hf => ?_) (fun _ hf => ?_)
        · refine z_iconst 0 dX0_misread_171 rfl ?_
          refine z_iadd dX0_misread_172 ?_
          refine z_istore dX0_misread_173 (by decide) (lc' := [(0, .ref a), (5, .int x5), (6, .int (x6 + 0)), (7, .int x7)]) rfl ?_
          refine z_iinc 3 (x7 + 1) dX0_misread_175 rfl rfl (by decide) (lc' := [(0, .ref a), (5, .int x5), (6, .int (x6 + 0)), (7, .int (x7 + 1))]) rfl ?_
          refine z_goto 111 dX0_misread_178 rfl ?_
          cases hf
          exact (hM.1 _ rfl)
        · refine z_iconst 1 dX0_misread_167 rfl ?_
          refine z_goto 172 dX0_misread_168 rfl ?_
          refine z_iadd dX0_misread_172 ?_
          refine z_istore dX0_misread_173 (by decide) (lc' := [(0, .ref a), (5, .int x5), (6, .int (x6 + 1)), (7, .int x7)]) rfl ?_
          refine z_iinc 3 (x7 + 1) dX0_misread_175 rfl rfl (by decide) (lc' := [(0, .ref a), (5, .int x5), (6, .int (x6 + 1)), (7, .int (x7 + 1))]) rfl ?_
          refine z_goto 111 dX0_misread_178 rfl ?_
          cases hf
          exact (hM.1 _ rfl)
noncomputable def fX0_misread (h : zH) (a : Nat) (x1 : Int32) (x2 : Int32) : Option (Int32 × zH) := zxr (fX0_pageAt h a x1) (fun v_2 h_3 => zb1 v_2 (fun b_12 => zxr (fX0_pageAt h_3 a x2) (fun v_14 h_15 => zb1 v_14 (fun b_24 => zxr (fX0_closedAt h_15 a x1) (fun v_26 h_27 => zb1 v_26 (fun b_36 => zxr (fX0_closedAt h_27 a x2) (fun v_38 h_39 => zb1 v_38 (fun b_48 => zck (zRw h_39 (a + 48) a) (zb1 (fX7_begin h_39 (a + 48) a 0) (fun h_52 => zck (zCt [(xB, xP, a), (dB, dP, a + 35)] [(a + 35, 11, a), (a + 35, 14, a)] h_52) (zxv (fX0_run_3 h_52 a (a + 35) b_36 3 (a + 25) (zI h_52 a 5) (a + 48)) (fun h_56 => zck (zRw h_56 (a + 50) a) (zb1 (fX7_begin h_56 (a + 50) a 0) (fun h_68 => zxv (fX0_run_3 h_68 a (a + 35) b_48 3 (a + 25) (zI h_68 a 5) (a + 50)) (fun h_71 => zlp (fun s => fX0_misread_L111 h_71 a (if (zI h_71 (a + 48) 1) < (zI h_71 (a + 50) 1) then (zI h_71 (a + 50) 1) else (zI h_71 (a + 48) 1)) s.1 s.2) (0, 0)) (fun e_72 h_73 => zck (zT h_73 e_72 = (2, 0)) (zck (zOb 1 h_73 e_72) (zb2 (fX0_answer h_73 a (zI h_73 e_72 6)) (fun v_78 h_79 => some ((v_78, h_79))))))))) (fun e_57 h_58 => zck (zT h_58 e_57 = (2, 0)) (zck (zOb 1 h_58 e_57) (zb2 (fX0_answer h_58 a (zI h_58 e_57 6)) (fun v_63 h_64 => some ((v_63, h_64))))))))))) (fun e_40 h_41 => zck (zT h_41 e_40 = (2, 0)) (zck (zOb 1 h_41 e_40) (zb2 (fX0_answer h_41 a (zI h_41 e_40 6)) (fun v_46 h_47 => some ((v_46, h_47)))))))) (fun e_28 h_29 => zck (zT h_29 e_28 = (2, 0)) (zck (zOb 1 h_29 e_28) (zb2 (fX0_answer h_29 a (zI h_29 e_28 6)) (fun v_34 h_35 => some ((v_34, h_35)))))))) (fun e_16 h_17 => zck (zT h_17 e_16 = (2, 0)) (zck (zOb 1 h_17 e_16) (zb2 (fX0_answer h_17 a (zI h_17 e_16 6)) (fun v_22 h_23 => some ((v_22, h_23)))))))) (fun e_4 h_5 => zck (zT h_5 e_4 = (2, 0)) (zck (zOb 1 h_5 e_4) (zb2 (fX0_answer h_5 a (zI h_5 e_4 6)) (fun v_10 h_11 => some ((v_10, h_11))))))
theorem zX0_misread {F : zF} {h : zH} {a : Nat} {x1 : Int32} {x2 : Int32} {y : Int32 × zH} (hD : 123 ≤ F.2.1) (hL : zXx h a) (hf : fX0_misread h a x1 x2 = some y) (hM : ((.inl (some (.int y.1)), y.2) : zX) = zEnd F) : Z F 8 cX0_misread RX0 "misread" (some .int) [(0, 183, 184, 18)] h 0 [(0, .ref a), (1, .int x1), (2, .int x2)] [] := by
  unfold fX0_misread at hf
  refine z_aload_n 0 dX0_misread_0 rfl rfl ?_
  refine z_iload_n 1 dX0_misread_1 rfl rfl ?_
  rcases zxr_some hf with ⟨v_2, h_3, hc_1, hf⟩ | ⟨e_4, h_5, hc_6, hf⟩
  rotate_left
  · have hct := ctX0_pageAt (l := F.1) hL hc_6
    refine z_invVt suX0_152_0 hct ((hL.b 0 rfl).t 0 rfl) ⟨Nat.le_trans (by decide) hD, by decide⟩ rfl rfl (Nat.le_of_ble_eq_true rfl) dX0_misread_2 ?_
    have hL := hL.ext hct.1
    obtain ⟨ht_7, hf⟩ := zck_some hf
    refine zt_catch (q := (RX1, TX1, 7)) rfl (by decide) q129 rfl rfl ht_7 ?_
    refine z_astore_n dX0_misread_184 rfl (by decide) (lc' := [(0, .ref a), (1, .int x1), (2, .int x2), (3, .ref e_4)]) rfl ?_
    refine z_aload_n 0 dX0_misread_185 rfl rfl ?_
    refine z_aload_n 3 dX0_misread_186 rfl rfl ?_
    obtain ⟨hK_8, hf⟩ := zck_some hf
    refine z_geti fdX0_17_1 ((hK_8.b 0 rfl).t 0 rfl) dX0_misread_187 ?_
    obtain ⟨v_10, h_11, hc_9, hf⟩ := zb2_some hf
    have hct := ctX0_answer (l := F.1) hL hc_9
    refine z_invVi suX0_163_0 hct ((hL.b 0 rfl).t 0 rfl) ⟨Nat.le_trans (by decide) hD, by decide⟩ rfl rfl (Nat.le_of_ble_eq_true rfl) dX0_misread_190 ?_
    have hL := hL.ext hct.1
    have hK_8 := hK_8.ext hct.1
    cases hf
    exact z_iret dX0_misread_193 rfl hM
  have hct := ctX0_pageAt (l := F.1) hL hc_1
  refine z_invVq suX0_152_0 hct ((hL.b 0 rfl).t 0 rfl) ⟨Nat.le_trans (by decide) hD, by decide⟩ rfl rfl (Nat.le_of_ble_eq_true rfl) dX0_misread_2 ?_
  have hL := hL.ext hct.1
  obtain ⟨b_12, e9, hf9⟩ := zb1_some hf
  subst e9
  have hf := hf9
  refine z_pop dX0_misread_5 rfl ?_
  refine z_aload_n 0 dX0_misread_6 rfl rfl ?_
  refine z_iload_n 2 dX0_misread_7 rfl rfl ?_
  rcases zxr_some hf with ⟨v_14, h_15, hc_13, hf⟩ | ⟨e_16, h_17, hc_18, hf⟩
  rotate_left
  · have hct := ctX0_pageAt (l := F.1) hL hc_18
    refine z_invVt suX0_152_0 hct ((hL.b 0 rfl).t 0 rfl) ⟨Nat.le_trans (by decide) hD, by decide⟩ rfl rfl (Nat.le_of_ble_eq_true rfl) dX0_misread_8 ?_
    have hL := hL.ext hct.1
    obtain ⟨ht_19, hf⟩ := zck_some hf
    refine zt_catch (q := (RX1, TX1, 7)) rfl (by decide) q129 rfl rfl ht_19 ?_
    refine z_astore_n dX0_misread_184 rfl (by decide) (lc' := [(0, .ref a), (1, .int x1), (2, .int x2), (3, .ref e_16)]) rfl ?_
    refine z_aload_n 0 dX0_misread_185 rfl rfl ?_
    refine z_aload_n 3 dX0_misread_186 rfl rfl ?_
    obtain ⟨hK_20, hf⟩ := zck_some hf
    refine z_geti fdX0_17_1 ((hK_20.b 0 rfl).t 0 rfl) dX0_misread_187 ?_
    obtain ⟨v_22, h_23, hc_21, hf⟩ := zb2_some hf
    have hct := ctX0_answer (l := F.1) hL hc_21
    refine z_invVi suX0_163_0 hct ((hL.b 0 rfl).t 0 rfl) ⟨Nat.le_trans (by decide) hD, by decide⟩ rfl rfl (Nat.le_of_ble_eq_true rfl) dX0_misread_190 ?_
    have hL := hL.ext hct.1
    have hK_20 := hK_20.ext hct.1
    cases hf
    exact z_iret dX0_misread_193 rfl hM
  have hct := ctX0_pageAt (l := F.1) hL hc_13
  refine z_invVq suX0_152_0 hct ((hL.b 0 rfl).t 0 rfl) ⟨Nat.le_trans (by decide) hD, by decide⟩ rfl rfl (Nat.le_of_ble_eq_true rfl) dX0_misread_8 ?_
  have hL := hL.ext hct.1
  obtain ⟨b_24, e9, hf9⟩ := zb1_some hf
  subst e9
  have hf := hf9
  refine z_pop dX0_misread_11 rfl ?_
  refine z_aload_n 0 dX0_misread_12 rfl rfl ?_
  refine z_iload_n 1 dX0_misread_13 rfl rfl ?_
  rcases zxr_some hf with ⟨v_26, h_27, hc_25, hf⟩ | ⟨e_28, h_29, hc_30, hf⟩
  rotate_left
  · have hct := ctX0_closedAt (l := F.1) hL hc_30
    refine z_invVt suX0_255_0 hct ((hL.b 0 rfl).t 0 rfl) ⟨Nat.le_trans (by decide) hD, by decide⟩ rfl rfl (Nat.le_of_ble_eq_true rfl) dX0_misread_14 ?_
    have hL := hL.ext hct.1
    obtain ⟨ht_31, hf⟩ := zck_some hf
    refine zt_catch (q := (RX1, TX1, 7)) rfl (by decide) q129 rfl rfl ht_31 ?_
    refine z_astore_n dX0_misread_184 rfl (by decide) (lc' := [(0, .ref a), (1, .int x1), (2, .int x2), (3, .ref e_28)]) rfl ?_
    refine z_aload_n 0 dX0_misread_185 rfl rfl ?_
    refine z_aload_n 3 dX0_misread_186 rfl rfl ?_
    obtain ⟨hK_32, hf⟩ := zck_some hf
    refine z_geti fdX0_17_1 ((hK_32.b 0 rfl).t 0 rfl) dX0_misread_187 ?_
    obtain ⟨v_34, h_35, hc_33, hf⟩ := zb2_some hf
    have hct := ctX0_answer (l := F.1) hL hc_33
    refine z_invVi suX0_163_0 hct ((hL.b 0 rfl).t 0 rfl) ⟨Nat.le_trans (by decide) hD, by decide⟩ rfl rfl (Nat.le_of_ble_eq_true rfl) dX0_misread_190 ?_
    have hL := hL.ext hct.1
    have hK_32 := hK_32.ext hct.1
    cases hf
    exact z_iret dX0_misread_193 rfl hM
  have hct := ctX0_closedAt (l := F.1) hL hc_25
  refine z_invVq suX0_255_0 hct ((hL.b 0 rfl).t 0 rfl) ⟨Nat.le_trans (by decide) hD, by decide⟩ rfl rfl (Nat.le_of_ble_eq_true rfl) dX0_misread_14 ?_
  have hL := hL.ext hct.1
  obtain ⟨b_36, e9, hf9⟩ := zb1_some hf
  subst e9
  have hf := hf9
  refine z_astore_n dX0_misread_17 rfl (by decide) (lc' := [(0, .ref a), (1, .int x1), (2, .int x2), (3, .ref b_36)]) rfl ?_
  refine z_aload_n 0 dX0_misread_18 rfl rfl ?_
  refine z_iload_n 2 dX0_misread_19 rfl rfl ?_
  rcases zxr_some hf with ⟨v_38, h_39, hc_37, hf⟩ | ⟨e_40, h_41, hc_42, hf⟩
  rotate_left
  · have hct := ctX0_closedAt (l := F.1) hL hc_42
    refine z_invVt suX0_255_0 hct ((hL.b 0 rfl).t 0 rfl) ⟨Nat.le_trans (by decide) hD, by decide⟩ rfl rfl (Nat.le_of_ble_eq_true rfl) dX0_misread_20 ?_
    have hL := hL.ext hct.1
    obtain ⟨ht_43, hf⟩ := zck_some hf
    refine zt_catch (q := (RX1, TX1, 7)) rfl (by decide) q129 rfl rfl ht_43 ?_
    refine z_astore_n dX0_misread_184 rfl (by decide) (lc' := [(0, .ref a), (1, .int x1), (2, .int x2), (3, .ref e_40)]) rfl ?_
    refine z_aload_n 0 dX0_misread_185 rfl rfl ?_
    refine z_aload_n 3 dX0_misread_186 rfl rfl ?_
    obtain ⟨hK_44, hf⟩ := zck_some hf
    refine z_geti fdX0_17_1 ((hK_44.b 0 rfl).t 0 rfl) dX0_misread_187 ?_
    obtain ⟨v_46, h_47, hc_45, hf⟩ := zb2_some hf
    have hct := ctX0_answer (l := F.1) hL hc_45
    refine z_invVi suX0_163_0 hct ((hL.b 0 rfl).t 0 rfl) ⟨Nat.le_trans (by decide) hD, by decide⟩ rfl rfl (Nat.le_of_ble_eq_true rfl) dX0_misread_190 ?_
    have hL := hL.ext hct.1
    have hK_44 := hK_44.ext hct.1
    cases hf
    exact z_iret dX0_misread_193 rfl hM
  have hct := ctX0_closedAt (l := F.1) hL hc_37
  refine z_invVq suX0_255_0 hct ((hL.b 0 rfl).t 0 rfl) ⟨Nat.le_trans (by decide) hD, by decide⟩ rfl rfl (Nat.le_of_ble_eq_true rfl) dX0_misread_20 ?_
  have hL := hL.ext hct.1
  obtain ⟨b_48, e9, hf9⟩ := zb1_some hf
  subst e9
  have hf := hf9
  refine z_astore dX0_misread_23 (by decide) (lc' := [(0, .ref a), (1, .int x1), (2, .int x2), (3, .ref b_36), (4, .ref b_48)]) rfl ?_
  refine z_aload_n 0 dX0_misread_25 rfl rfl ?_
  refine z_getr fdX0_115_0 (Or.inl ⟨_, rfl⟩) ((hL.b 0 rfl).t 0 rfl) ((hL.b 0 rfl).p 16 rfl) dX0_misread_26 ?_
  refine z_iconst 0 dX0_misread_29 rfl ?_
  obtain ⟨hK_49, hf⟩ := zck_some hf
  obtain ⟨h_52, hc_50, hf⟩ := zb1_some hf
  have hct := ctX7_begin (l := F.1) hK_49 hc_50
  refine z_invVv suX0_299_5 hct ((hL.b 0 rfl).t 48 rfl) ⟨Nat.le_trans (by decide) hD, by decide⟩ rfl rfl (Nat.le_of_ble_eq_true rfl) dX0_misread_30 ?_
  have hL := hL.ext hct.1
  have hK_49 := hK_49.ext hct.1
  refine z_aload_n 0 dX0_misread_33 rfl rfl ?_
  refine z_aload_n 0 dX0_misread_34 rfl rfl ?_
  refine z_getr fdX0_90_0 (Or.inl ⟨_, rfl⟩) ((hL.b 0 rfl).t 0 rfl) ((hL.b 0 rfl).p 12 rfl) dX0_misread_35 ?_
  refine z_aload_n 3 dX0_misread_38 rfl rfl ?_
  refine z_iconst 3 dX0_misread_39 rfl ?_
  refine z_aload_n 0 dX0_misread_40 rfl rfl ?_
  refine z_getr fdX0_49_0 (Or.inr ⟨_, rfl⟩) ((hL.b 0 rfl).t 0 rfl) ((hL.b 0 rfl).p 2 rfl) dX0_misread_41 ?_
  refine z_aload_n 0 dX0_misread_44 rfl rfl ?_
  refine z_geti fdX0_262_0 ((hL.b 0 rfl).t 0 rfl) dX0_misread_45 ?_
  refine z_aload_n 0 dX0_misread_48 rfl rfl ?_
  refine z_getr fdX0_115_0 (Or.inl ⟨_, rfl⟩) ((hL.b 0 rfl).t 0 rfl) ((hL.b 0 rfl).p 16 rfl) dX0_misread_49 ?_
  obtain ⟨hK_53, hf⟩ := zck_some hf
  rcases zxv_some hf with ⟨h_56, hc_54, hf⟩ | ⟨e_57, h_58, hc_59, hf⟩
  rotate_left
  · have hct := ctX0_run_3 (l := F.1) hK_53 hc_59
    refine z_invVt suX0_302_0_3 hct ((hL.b 0 rfl).t 0 rfl) ⟨Nat.le_trans (by decide) hD, by decide⟩ rfl rfl (Nat.le_of_ble_eq_true rfl) dX0_misread_52 ?_
    have hL := hL.ext hct.1
    have hK_49 := hK_49.ext hct.1
    have hK_53 := hK_53.ext hct.1
    obtain ⟨ht_60, hf⟩ := zck_some hf
    refine zt_catch (q := (RX1, TX1, 7)) rfl (by decide) q129 rfl rfl ht_60 ?_
    refine z_astore_n dX0_misread_184 rfl (by decide) (lc' := [(0, .ref a), (1, .int x1), (2, .int x2), (3, .ref e_57), (4, .ref b_48)]) rfl ?_
    refine z_aload_n 0 dX0_misread_185 rfl rfl ?_
    refine z_aload_n 3 dX0_misread_186 rfl rfl ?_
    obtain ⟨hK_61, hf⟩ := zck_some hf
    refine z_geti fdX0_17_1 ((hK_61.b 0 rfl).t 0 rfl) dX0_misread_187 ?_
    obtain ⟨v_63, h_64, hc_62, hf⟩ := zb2_some hf
    have hct := ctX0_answer (l := F.1) hL hc_62
    refine z_invVi suX0_163_0 hct ((hL.b 0 rfl).t 0 rfl) ⟨Nat.le_trans (by decide) hD, by decide⟩ rfl rfl (Nat.le_of_ble_eq_true rfl) dX0_misread_190 ?_
    have hL := hL.ext hct.1
    have hK_49 := hK_49.ext hct.1
    have hK_53 := hK_53.ext hct.1
    have hK_61 := hK_61.ext hct.1
    cases hf
    exact z_iret dX0_misread_193 rfl hM
  have hct := ctX0_run_3 (l := F.1) hK_53 hc_54
  refine z_invVv suX0_302_0_3 hct ((hL.b 0 rfl).t 0 rfl) ⟨Nat.le_trans (by decide) hD, by decide⟩ rfl rfl (Nat.le_of_ble_eq_true rfl) dX0_misread_52 ?_
  have hL := hL.ext hct.1
  have hK_49 := hK_49.ext hct.1
  have hK_53 := hK_53.ext hct.1
  refine z_aload_n 0 dX0_misread_55 rfl rfl ?_
  refine z_getr fdX0_118_0 (Or.inl ⟨_, rfl⟩) ((hL.b 0 rfl).t 0 rfl) ((hL.b 0 rfl).p 17 rfl) dX0_misread_56 ?_
  refine z_iconst 0 dX0_misread_59 rfl ?_
  obtain ⟨hK_65, hf⟩ := zck_some hf
  obtain ⟨h_68, hc_66, hf⟩ := zb1_some hf
  have hct := ctX7_begin (l := F.1) hK_65 hc_66
  refine z_invVv suX0_299_5 hct ((hL.b 0 rfl).t 50 rfl) ⟨Nat.le_trans (by decide) hD, by decide⟩ rfl rfl (Nat.le_of_ble_eq_true rfl) dX0_misread_60 ?_
  have hL := hL.ext hct.1
  have hK_49 := hK_49.ext hct.1
  have hK_53 := hK_53.ext hct.1
  have hK_65 := hK_65.ext hct.1
  refine z_aload_n 0 dX0_misread_63 rfl rfl ?_
  refine z_aload_n 0 dX0_misread_64 rfl rfl ?_
  refine z_getr fdX0_90_0 (Or.inl ⟨_, rfl⟩) ((hL.b 0 rfl).t 0 rfl) ((hL.b 0 rfl).p 12 rfl) dX0_misread_65 ?_
  refine z_aload 4 dX0_misread_68 rfl ?_
  refine z_iconst 3 dX0_misread_70 rfl ?_
  refine z_aload_n 0 dX0_misread_71 rfl rfl ?_
  refine z_getr fdX0_49_0 (Or.inr ⟨_, rfl⟩) ((hL.b 0 rfl).t 0 rfl) ((hL.b 0 rfl).p 2 rfl) dX0_misread_72 ?_
  refine z_aload_n 0 dX0_misread_75 rfl rfl ?_
  refine z_geti fdX0_262_0 ((hL.b 0 rfl).t 0 rfl) dX0_misread_76 ?_
  refine z_aload_n 0 dX0_misread_79 rfl rfl ?_
  refine z_getr fdX0_118_0 (Or.inl ⟨_, rfl⟩) ((hL.b 0 rfl).t 0 rfl) ((hL.b 0 rfl).p 17 rfl) dX0_misread_80 ?_
  rcases zxv_some hf with ⟨h_71, hc_69, hf⟩ | ⟨e_72, h_73, hc_74, hf⟩
  rotate_left
  · have hct := ctX0_run_3 (l := F.1) hK_53 hc_74
    refine z_invVt suX0_302_0_3 hct ((hL.b 0 rfl).t 0 rfl) ⟨Nat.le_trans (by decide) hD, by decide⟩ rfl rfl (Nat.le_of_ble_eq_true rfl) dX0_misread_83 ?_
    have hL := hL.ext hct.1
    have hK_49 := hK_49.ext hct.1
    have hK_53 := hK_53.ext hct.1
    have hK_65 := hK_65.ext hct.1
    obtain ⟨ht_75, hf⟩ := zck_some hf
    refine zt_catch (q := (RX1, TX1, 7)) rfl (by decide) q129 rfl rfl ht_75 ?_
    refine z_astore_n dX0_misread_184 rfl (by decide) (lc' := [(0, .ref a), (1, .int x1), (2, .int x2), (3, .ref e_72), (4, .ref b_48)]) rfl ?_
    refine z_aload_n 0 dX0_misread_185 rfl rfl ?_
    refine z_aload_n 3 dX0_misread_186 rfl rfl ?_
    obtain ⟨hK_76, hf⟩ := zck_some hf
    refine z_geti fdX0_17_1 ((hK_76.b 0 rfl).t 0 rfl) dX0_misread_187 ?_
    obtain ⟨v_78, h_79, hc_77, hf⟩ := zb2_some hf
    have hct := ctX0_answer (l := F.1) hL hc_77
    refine z_invVi suX0_163_0 hct ((hL.b 0 rfl).t 0 rfl) ⟨Nat.le_trans (by decide) hD, by decide⟩ rfl rfl (Nat.le_of_ble_eq_true rfl) dX0_misread_190 ?_
    have hL := hL.ext hct.1
    have hK_49 := hK_49.ext hct.1
    have hK_53 := hK_53.ext hct.1
    have hK_65 := hK_65.ext hct.1
    have hK_76 := hK_76.ext hct.1
    cases hf
    exact z_iret dX0_misread_193 rfl hM
  have hct := ctX0_run_3 (l := F.1) hK_53 hc_69
  refine z_invVv suX0_302_0_3 hct ((hL.b 0 rfl).t 0 rfl) ⟨Nat.le_trans (by decide) hD, by decide⟩ rfl rfl (Nat.le_of_ble_eq_true rfl) dX0_misread_83 ?_
  have hL := hL.ext hct.1
  have hK_49 := hK_49.ext hct.1
  have hK_53 := hK_53.ext hct.1
  have hK_65 := hK_65.ext hct.1
  refine z_aload_n 0 dX0_misread_86 rfl rfl ?_
  refine z_getr fdX0_115_0 (Or.inl ⟨_, rfl⟩) ((hL.b 0 rfl).t 0 rfl) ((hL.b 0 rfl).p 16 rfl) dX0_misread_87 ?_
  refine z_geti fdX0_275_5 ((hL.b 0 rfl).t 48 rfl) dX0_misread_90 ?_
  refine z_aload_n 0 dX0_misread_93 rfl rfl ?_
  refine z_getr fdX0_118_0 (Or.inl ⟨_, rfl⟩) ((hL.b 0 rfl).t 0 rfl) ((hL.b 0 rfl).p 17 rfl) dX0_misread_94 ?_
  refine z_geti fdX0_275_5 ((hL.b 0 rfl).t 50 rfl) dX0_misread_97 ?_
  refine z_mmax q1319 q1302 q119 q1303 (Nat.le_trans (by decide) hD) (Nat.le_of_ble_eq_true rfl) dX0_misread_100 ?_
  refine z_istore dX0_misread_103 (by decide) (lc' := [(0, .ref a), (1, .int x1), (2, .int x2), (3, .ref b_36), (4, .ref b_48), (5, .int (if (zI h_71 (a + 48) 1) < (zI h_71 (a + 50) 1) then (zI h_71 (a + 50) 1) else (zI h_71 (a + 48) 1)))]) rfl ?_
  refine z_iconst 0 dX0_misread_105 rfl ?_
  refine z_istore dX0_misread_106 (by decide) (lc' := [(0, .ref a), (1, .int x1), (2, .int x2), (3, .ref b_36), (4, .ref b_48), (5, .int (if (zI h_71 (a + 48) 1) < (zI h_71 (a + 50) 1) then (zI h_71 (a + 50) 1) else (zI h_71 (a + 48) 1))), (6, .int 0)]) rfl ?_
  refine z_iconst 0 dX0_misread_108 rfl ?_
  refine z_istore dX0_misread_109 (by decide) (lc' := [(0, .ref a), (1, .int x1), (2, .int x2), (3, .ref b_36), (4, .ref b_48), (5, .int (if (zI h_71 (a + 48) 1) < (zI h_71 (a + 50) 1) then (zI h_71 (a + 50) 1) else (zI h_71 (a + 48) 1))), (6, .int 0), (7, .int 0)]) rfl ?_
  refine z_sub [0, 5, 6, 7] rfl ?_
  exact z_loop (fun (s : Int32 × Int32) => Z F 8 cX0_misread RX0 "misread" (some .int) [(0, 183, 184, 18)] h_71 111 [(0, .ref a), (5, .int (if (zI h_71 (a + 48) 1) < (zI h_71 (a + 50) 1) then (zI h_71 (a + 50) 1) else (zI h_71 (a + 48) 1))), (6, .int s.1), (7, .int s.2)] []) (fun (r : (Int32 × zH)) => ((.inl (some (.int r.1)), r.2) : zX) = zEnd F) (fun s y hb hs hr => zX0_misread_L111 hD hL hb ⟨hs, hr⟩) hf hM
theorem ctX0_misread {l : Launch} {h : zH} {a : Nat} {x1 : Int32} {x2 : Int32} {v : Int32} {h' : zH} (hL : zXx h a) (hf : fX0_misread h a x1 x2 = some (v, h')) : zC l yX0_misread (wsW_ yX0_misread cX0_misread 8 (some .int) [(0, 183, 184, 18)]) 123 [.ref a, .int x1, .int x2] h (.inl (some (.int v)), h') :=
  z_startW (by decide) (Nat.le_of_ble_eq_true rfl) (zX0_misread (F := (l, 123, h, (.inl (some (.int v)), h'))) (Nat.le_refl _) hL hf rfl)
theorem fdX0_385_3 : zFd RX0 385 3 13 .int false := ⟨_, _, _, rfl, rfl, by decide, rfl, rfl, Or.inr ⟨_, q348⟩, Or.inl rfl⟩
noncomputable def fX0_faultsOf (h : zH) (a : Nat) (x1 : Nat) : Option (zX) := zck (zRw h (a + 45) a) (zb1 (fX7_begin h (a + 45) a 0) (fun h_4 => zlet (zsI h_4 (a + 35) 13 0) (fun h_5 => zck (zCt [(xB, xP, a), (dB, dP, a + 35)] [(a + 35, 11, a), (a + 35, 14, a)] h_5) (zxv (fX0_run_3 h_5 a (a + 35) x1 2 (a + 25) (zI h_5 a 5) (a + 45)) (fun h_9 => some ((.inl (some (.int (zI h_9 (a + 35) 13))), h_9))) (fun e_10 h_11 => some ((.inr e_10, h_11)))))))
theorem zX0_faultsOf {F : zF} {h : zH} {a : Nat} {x1 : Nat} {y : zX} (hD : 10 ≤ F.2.1) (hL : zXx h a) (hf : fX0_faultsOf h a x1 = some y) (hM : (y : zX) = zEnd F) : Z F 2 cX0_faultsOf RX0 "faultsOf" (some .int) [] h 0 [(0, .ref a), (1, .ref x1)] [] := by
  unfold fX0_faultsOf at hf
  refine z_aload_n 0 dX0_faultsOf_0 rfl rfl ?_
  refine z_getr fdX0_109_0 (Or.inl ⟨_, rfl⟩) ((hL.b 0 rfl).t 0 rfl) ((hL.b 0 rfl).p 14 rfl) dX0_faultsOf_1 ?_
  refine z_iconst 0 dX0_faultsOf_4 rfl ?_
  obtain ⟨hK_1, hf⟩ := zck_some hf
  obtain ⟨h_4, hc_2, hf⟩ := zb1_some hf
  have hct := ctX7_begin (l := F.1) hK_1 hc_2
  refine z_invVv suX0_299_5 hct ((hL.b 0 rfl).t 45 rfl) ⟨Nat.le_trans (by decide) hD, by decide⟩ rfl rfl (Nat.le_of_ble_eq_true rfl) dX0_faultsOf_5 ?_
  have hL := hL.ext hct.1
  have hK_1 := hK_1.ext hct.1
  refine z_aload_n 0 dX0_faultsOf_8 rfl rfl ?_
  refine z_getr fdX0_90_0 (Or.inl ⟨_, rfl⟩) ((hL.b 0 rfl).t 0 rfl) ((hL.b 0 rfl).p 12 rfl) dX0_faultsOf_9 ?_
  refine z_iconst 0 dX0_faultsOf_12 rfl ?_
  obtain ⟨h_5, he, hf⟩ := zlet_some hf
  refine z_puti fdX0_385_3 ((hL.b 0 rfl).t 35 rfl) ((hL.b 0 rfl).nz 35) he dX0_faultsOf_13 ?_
  have hL := hL.I he
  have hK_1 := hK_1.I he
  refine z_aload_n 0 dX0_faultsOf_16 rfl rfl ?_
  refine z_aload_n 0 dX0_faultsOf_17 rfl rfl ?_
  refine z_getr fdX0_90_0 (Or.inl ⟨_, rfl⟩) ((hL.b 0 rfl).t 0 rfl) ((hL.b 0 rfl).p 12 rfl) dX0_faultsOf_18 ?_
  refine z_aload_n 1 dX0_faultsOf_21 rfl rfl ?_
  refine z_iconst 2 dX0_faultsOf_22 rfl ?_
  refine z_aload_n 0 dX0_faultsOf_23 rfl rfl ?_
  refine z_getr fdX0_49_0 (Or.inr ⟨_, rfl⟩) ((hL.b 0 rfl).t 0 rfl) ((hL.b 0 rfl).p 2 rfl) dX0_faultsOf_24 ?_
  refine z_aload_n 0 dX0_faultsOf_27 rfl rfl ?_
  refine z_geti fdX0_262_0 ((hL.b 0 rfl).t 0 rfl) dX0_faultsOf_28 ?_
  refine z_aload_n 0 dX0_faultsOf_31 rfl rfl ?_
  refine z_getr fdX0_109_0 (Or.inl ⟨_, rfl⟩) ((hL.b 0 rfl).t 0 rfl) ((hL.b 0 rfl).p 14 rfl) dX0_faultsOf_32 ?_
  obtain ⟨hK_6, hf⟩ := zck_some hf
  rcases zxv_some hf with ⟨h_9, hc_7, hf⟩ | ⟨e_10, h_11, hc_12, hf⟩
  rotate_left
  · have hct := ctX0_run_3 (l := F.1) hK_6 hc_12
    refine z_invVt suX0_302_0_3 hct ((hL.b 0 rfl).t 0 rfl) ⟨Nat.le_trans (by decide) hD, by decide⟩ rfl rfl (Nat.le_of_ble_eq_true rfl) dX0_faultsOf_35 ?_
    have hL := hL.ext hct.1
    have hK_1 := hK_1.ext hct.1
    have hK_6 := hK_6.ext hct.1
    cases hf
    exact zt_out rfl hM
  have hct := ctX0_run_3 (l := F.1) hK_6 hc_7
  refine z_invVv suX0_302_0_3 hct ((hL.b 0 rfl).t 0 rfl) ⟨Nat.le_trans (by decide) hD, by decide⟩ rfl rfl (Nat.le_of_ble_eq_true rfl) dX0_faultsOf_35 ?_
  have hL := hL.ext hct.1
  have hK_1 := hK_1.ext hct.1
  have hK_6 := hK_6.ext hct.1
  refine z_aload_n 0 dX0_faultsOf_38 rfl rfl ?_
  refine z_getr fdX0_90_0 (Or.inl ⟨_, rfl⟩) ((hL.b 0 rfl).t 0 rfl) ((hL.b 0 rfl).p 12 rfl) dX0_faultsOf_39 ?_
  refine z_geti fdX0_385_3 ((hL.b 0 rfl).t 35 rfl) dX0_faultsOf_42 ?_
  cases hf
  exact z_iret dX0_faultsOf_45 rfl hM
theorem ctX0_faultsOf {l : Launch} {h : zH} {a : Nat} {x1 : Nat} {y : zX} (hL : zXx h a) (hf : fX0_faultsOf h a x1 = some y) : zC l yX0_faultsOf (ws_ yX0_faultsOf cX0_faultsOf 2 (some .int)) 10 [.ref a, .ref x1] h y :=
  z_start (by decide) (Nat.le_of_ble_eq_true rfl) (zX0_faultsOf (F := (l, 10, h, y)) (Nat.le_refl _) hL hf rfl)
theorem suX0_388_0 : zIv RX0 388 yX0_faultsOf (ws_ yX0_faultsOf cX0_faultsOf 2 (some .int)) 2 0 1 := ⟨(zGood_c q1327 q97), ⟨_, _, rfl, rfl, qs42⟩, (Or.inl q1324), q1326, ⟨by decide, by decide⟩, by decide +kernel⟩
noncomputable def fX0_faults (h : zH) (a : Nat) (x1 : Int32) : Option (Int32 × zH) := zxr (fX0_closedAt h a x1) (fun v_2 h_3 => zb1 v_2 (fun b_12 => zxi (fX0_faultsOf h_3 a b_12) (fun v_14 h_15 => some ((v_14, h_15))) (fun e_16 h_17 => zck (zT h_17 e_16 = (2, 0)) (zck (zOb 1 h_17 e_16) (zb2 (fX0_answer h_17 a (zI h_17 e_16 6)) (fun v_22 h_23 => some ((v_22, h_23)))))))) (fun e_4 h_5 => zck (zT h_5 e_4 = (2, 0)) (zck (zOb 1 h_5 e_4) (zb2 (fX0_answer h_5 a (zI h_5 e_4 6)) (fun v_10 h_11 => some ((v_10, h_11))))))
theorem zX0_faults {F : zF} {h : zH} {a : Nat} {x1 : Int32} {y : Int32 × zH} (hD : 123 ≤ F.2.1) (hL : zXx h a) (hf : fX0_faults h a x1 = some y) (hM : ((.inl (some (.int y.1)), y.2) : zX) = zEnd F) : Z F 3 cX0_faults RX0 "faults" (some .int) [(0, 9, 10, 18)] h 0 [(0, .ref a), (1, .int x1)] [] := by
  unfold fX0_faults at hf
  refine z_aload_n 0 dX0_faults_0 rfl rfl ?_
  refine z_aload_n 0 dX0_faults_1 rfl rfl ?_
  refine z_iload_n 1 dX0_faults_2 rfl rfl ?_
  rcases zxr_some hf with ⟨v_2, h_3, hc_1, hf⟩ | ⟨e_4, h_5, hc_6, hf⟩
  rotate_left
  · have hct := ctX0_closedAt (l := F.1) hL hc_6
    refine z_invVt suX0_255_0 hct ((hL.b 0 rfl).t 0 rfl) ⟨Nat.le_trans (by decide) hD, by decide⟩ rfl rfl (Nat.le_of_ble_eq_true rfl) dX0_faults_3 ?_
    have hL := hL.ext hct.1
    obtain ⟨ht_7, hf⟩ := zck_some hf
    refine zt_catch (q := (RX1, TX1, 7)) rfl (by decide) q129 rfl rfl ht_7 ?_
    refine z_astore_n dX0_faults_10 rfl (by decide) (lc' := [(0, .ref a), (1, .int x1), (2, .ref e_4)]) rfl ?_
    refine z_aload_n 0 dX0_faults_11 rfl rfl ?_
    refine z_aload_n 2 dX0_faults_12 rfl rfl ?_
    obtain ⟨hK_8, hf⟩ := zck_some hf
    refine z_geti fdX0_17_1 ((hK_8.b 0 rfl).t 0 rfl) dX0_faults_13 ?_
    obtain ⟨v_10, h_11, hc_9, hf⟩ := zb2_some hf
    have hct := ctX0_answer (l := F.1) hL hc_9
    refine z_invVi suX0_163_0 hct ((hL.b 0 rfl).t 0 rfl) ⟨Nat.le_trans (by decide) hD, by decide⟩ rfl rfl (Nat.le_of_ble_eq_true rfl) dX0_faults_16 ?_
    have hL := hL.ext hct.1
    have hK_8 := hK_8.ext hct.1
    cases hf
    exact z_iret dX0_faults_19 rfl hM
  have hct := ctX0_closedAt (l := F.1) hL hc_1
  refine z_invVq suX0_255_0 hct ((hL.b 0 rfl).t 0 rfl) ⟨Nat.le_trans (by decide) hD, by decide⟩ rfl rfl (Nat.le_of_ble_eq_true rfl) dX0_faults_3 ?_
  have hL := hL.ext hct.1
  obtain ⟨b_12, e9, hf9⟩ := zb1_some hf
  subst e9
  have hf := hf9
  rcases zxi_some hf with ⟨v_14, h_15, hc_13, hf⟩ | ⟨e_16, h_17, hc_18, hf⟩
  rotate_left
  · have hct := ctX0_faultsOf (l := F.1) hL hc_18
    refine z_invVt suX0_388_0 hct ((hL.b 0 rfl).t 0 rfl) ⟨Nat.le_trans (by decide) hD, by decide⟩ rfl rfl (Nat.le_of_ble_eq_true rfl) dX0_faults_6 ?_
    have hL := hL.ext hct.1
    obtain ⟨ht_19, hf⟩ := zck_some hf
    refine zt_catch (q := (RX1, TX1, 7)) rfl (by decide) q129 rfl rfl ht_19 ?_
    refine z_astore_n dX0_faults_10 rfl (by decide) (lc' := [(0, .ref a), (1, .int x1), (2, .ref e_16)]) rfl ?_
    refine z_aload_n 0 dX0_faults_11 rfl rfl ?_
    refine z_aload_n 2 dX0_faults_12 rfl rfl ?_
    obtain ⟨hK_20, hf⟩ := zck_some hf
    refine z_geti fdX0_17_1 ((hK_20.b 0 rfl).t 0 rfl) dX0_faults_13 ?_
    obtain ⟨v_22, h_23, hc_21, hf⟩ := zb2_some hf
    have hct := ctX0_answer (l := F.1) hL hc_21
    refine z_invVi suX0_163_0 hct ((hL.b 0 rfl).t 0 rfl) ⟨Nat.le_trans (by decide) hD, by decide⟩ rfl rfl (Nat.le_of_ble_eq_true rfl) dX0_faults_16 ?_
    have hL := hL.ext hct.1
    have hK_20 := hK_20.ext hct.1
    cases hf
    exact z_iret dX0_faults_19 rfl hM
  have hct := ctX0_faultsOf (l := F.1) hL hc_13
  refine z_invVi suX0_388_0 hct ((hL.b 0 rfl).t 0 rfl) ⟨Nat.le_trans (by decide) hD, by decide⟩ rfl rfl (Nat.le_of_ble_eq_true rfl) dX0_faults_6 ?_
  have hL := hL.ext hct.1
  cases hf
  exact z_iret dX0_faults_9 rfl hM
theorem ctX0_faults {l : Launch} {h : zH} {a : Nat} {x1 : Int32} {v : Int32} {h' : zH} (hL : zXx h a) (hf : fX0_faults h a x1 = some (v, h')) : zC l yX0_faults (wsW_ yX0_faults cX0_faults 3 (some .int) [(0, 9, 10, 18)]) 123 [.ref a, .int x1] h (.inl (some (.int v)), h') :=
  z_startW (by decide) (Nat.le_of_ble_eq_true rfl) (zX0_faults (F := (l, 123, h, (.inl (some (.int v)), h'))) (Nat.le_refl _) hL hf rfl)
noncomputable def fX0_detect_L6 (h : zH) (a : Nat) (x1 : Int32) (x2 : Int32) (x3 : Int32) : Option ((zH × Int32 × Int32 × Int32) ⊕ (zX)) := if (zI h a 2) ≤ x3 then (if 0 ≤ x1 then (some (.inr ((.inl (some (.int x1)), h)))) else (zb2 (fX0_answer h a ((-2))) (fun v_2 h_3 => some (.inr ((.inl (some (.int v_2)), h_3)))))) else (zck (vp_in x3 10) (zb1 (zP h (a + 2) x3.toNatClampNeg) (fun b_5 => zck (zOb 6 h b_5) (zlet (zP h b_5 0) (fun q_7 => zrq q_7 (none) (fun b_8 => zck (zPg h b_8) (zb1 (fV_Page_isClosed h b_8) (fun v_11 => if v_11 = 0 then (some (.inl ((h, x1, x2, x3 + 1)))) else (zxi (fX0_faultsOf h a b_8) (fun v_14 h_15 => if x1 < 0 then (some (.inl ((h_15, x3, v_14, x3 + 1)))) else (if x2 ≤ v_14 then (some (.inl ((h_15, x1, x2, x3 + 1)))) else (some (.inl ((h_15, x3, v_14, x3 + 1)))))) (fun e_16 h_17 => some (.inr ((.inr e_16, h_17)))))))))))))
theorem zX0_detect_L6 {F : zF} {h : zH} {a : Nat} {x1 : Int32} {x2 : Int32} {x3 : Int32} {y : (zH × Int32 × Int32 × Int32) ⊕ (zX)} (hD : 11 ≤ F.2.1) (hL : zXx h a) (hf : fX0_detect_L6 h a x1 x2 x3 = some y) (hM : ((∀ s' : zH × Int32 × Int32 × Int32, y = .inl s' → (zXx s'.1 a → Z F 6 cX0_detect RX0 "detect" (some .int) [] s'.1 6 [(0, .ref a), (1, .int s'.2.1), (2, .int s'.2.2.1), (3, .int s'.2.2.2)] [])) ∧ ∀ r : zX, y = .inr r → (r : zX) = zEnd F)) : Z F 6 cX0_detect RX0 "detect" (some .int) [] h 6 [(0, .ref a), (1, .int x1), (2, .int x2), (3, .int x3)] [] := by
  unfold fX0_detect_L6 at hf
  refine z_iload_n 3 dX0_detect_6 rfl rfl ?_
  refine z_aload_n 0 dX0_detect_7 rfl rfl ?_
  refine z_geti fdX0_160_0 ((hL.b 0 rfl).t 0 rfl) dX0_detect_8 ?_
  refine z_icmp_ge 68 dX0_detect_11 rfl hf (fun _ hf => ?_) (fun _ hf => ?_)
  · refine z_iload_n 1 dX0_detect_68 rfl rfl ?_
    refine z_if_ge 81 dX0_detect_69 rfl hf (fun _ hf => ?_) (fun _ hf => ?_)
    · refine z_iload_n 1 dX0_detect_81 rfl rfl ?_
      cases hf
      exact z_iret dX0_detect_82 rfl (hM.2 _ rfl)
    · refine z_aload_n 0 dX0_detect_72 rfl rfl ?_
      refine z_bipush (-2) dX0_detect_73 rfl ?_
      obtain ⟨v_2, h_3, hc_1, hf⟩ := zb2_some hf
      have hct := ctX0_answer (l := F.1) hL hc_1
      refine z_invVi suX0_163_0 hct ((hL.b 0 rfl).t 0 rfl) ⟨Nat.le_trans (by decide) hD, by decide⟩ rfl rfl (Nat.le_of_ble_eq_true rfl) dX0_detect_75 ?_
      have hL := hL.ext hct.1
      refine z_goto 82 dX0_detect_78 rfl ?_
      cases hf
      exact z_iret dX0_detect_82 rfl (hM.2 _ rfl)
  · refine z_aload_n 0 dX0_detect_14 rfl rfl ?_
    refine z_getr fdX0_38_0 (Or.inr ⟨_, rfl⟩) ((hL.b 0 rfl).t 0 rfl) ((hL.b 0 rfl).p 1 rfl) dX0_detect_15 ?_
    refine z_iload_n 3 dX0_detect_18 rfl rfl ?_
    obtain ⟨hi_4, hf⟩ := zck_some hf
    obtain ⟨b_5, hb_5, hf⟩ := zb1_some hf
    refine z_aldr (t := 3) rfl (Or.inl ⟨_, rfl⟩) ((hL.b 0 rfl).t 2 rfl) hi_4 hb_5 dX0_detect_19 ?_
    obtain ⟨hK_6, hf⟩ := zck_some hf
    obtain ⟨q_7, hq, hf⟩ := zlet_some hf
    refine z_getqv fdX0_128_6 (Or.inl ⟨_, rfl⟩) ((hK_6.b 0 rfl).t 0 rfl) hq dX0_detect_20 ?_
    rcases zrq_some hf with ⟨e9, hf9⟩ | ⟨b_8, e9, hf9⟩
    · subst e9
      have hf := hf9
      refine z_castN dX0_detect_23 ?_
      refine z_astoreq (x := none) dX0_detect_26 (by decide) (lc' := [(0, .ref a), (1, .int x1), (2, .int x2), (3, .int x3), (4, .null)]) rfl ?_
      refine z_aloadq (x := none) 4 dX0_detect_28 rfl ?_
      cases hf
    · subst e9
      have hf := hf9
      obtain ⟨hK_9, hf⟩ := zck_some hf
      refine z_castP caX0_150_4 hK_9 dX0_detect_23 ?_
      refine z_astore dX0_detect_26 (by decide) (lc' := [(0, .ref a), (1, .int x1), (2, .int x2), (3, .int x3), (4, .ref b_8)]) rfl ?_
      refine z_aload 4 dX0_detect_28 rfl ?_
      obtain ⟨v_11, hc_10, hf⟩ := zb1_some hf
      refine zVX0_156i (Nat.le_trans (by decide) hD) hc_10 (Nat.le_of_ble_eq_true rfl) dX0_detect_30 ?_
      refine z_if_ne 39 dX0_detect_33 rfl hf (fun _ hf => ?_) (fun _ hf => ?_)
      · refine z_aload_n 0 dX0_detect_39 rfl rfl ?_
        refine z_aload 4 dX0_detect_40 rfl ?_
        rcases zxi_some hf with ⟨v_14, h_15, hc_13, hf⟩ | ⟨e_16, h_17, hc_18, hf⟩
        rotate_left
        · have hct := ctX0_faultsOf (l := F.1) hL hc_18
          refine z_invVt suX0_388_0 hct ((hL.b 0 rfl).t 0 rfl) ⟨Nat.le_trans (by decide) hD, by decide⟩ rfl rfl (Nat.le_of_ble_eq_true rfl) dX0_detect_42 ?_
          have hL := hL.ext hct.1
          have hK_6 := hK_6.ext hct.1
          have hK_9 := hK_9.ext hct.1
          cases hf
          exact zt_out rfl (hM.2 _ rfl)
        have hct := ctX0_faultsOf (l := F.1) hL hc_13
        refine z_invVi suX0_388_0 hct ((hL.b 0 rfl).t 0 rfl) ⟨Nat.le_trans (by decide) hD, by decide⟩ rfl rfl (Nat.le_of_ble_eq_true rfl) dX0_detect_42 ?_
        have hL := hL.ext hct.1
        have hK_6 := hK_6.ext hct.1
        have hK_9 := hK_9.ext hct.1
        refine z_istore dX0_detect_45 (by decide) (lc' := [(0, .ref a), (1, .int x1), (2, .int x2), (3, .int x3), (4, .ref b_8), (5, .int v_14)]) rfl ?_
        refine z_iload_n 1 dX0_detect_47 rfl rfl ?_
        refine z_if_lt 57 dX0_detect_48 rfl hf (fun _ hf => ?_) (fun _ hf => ?_)
        · refine z_iload_n 3 dX0_detect_57 rfl rfl ?_
          refine z_istore_n dX0_detect_58 rfl (by decide) (lc' := [(0, .ref a), (1, .int x3), (2, .int x2), (3, .int x3), (4, .ref b_8), (5, .int v_14)]) rfl ?_
          refine z_iload 5 dX0_detect_59 rfl ?_
          refine z_istore_n dX0_detect_61 rfl (by decide) (lc' := [(0, .ref a), (1, .int x3), (2, .int v_14), (3, .int x3), (4, .ref b_8), (5, .int v_14)]) rfl ?_
          refine z_iinc 3 (x3 + 1) dX0_detect_62 rfl rfl (by decide) (lc' := [(0, .ref a), (1, .int x3), (2, .int v_14), (3, .int (x3 + 1)), (4, .ref b_8), (5, .int v_14)]) rfl ?_
          refine z_goto 6 dX0_detect_65 rfl ?_
          cases hf
          refine z_sub [0, 1, 2, 3] rfl ?_
          exact (hM.1 _ rfl) hL
        · refine z_iload 5 dX0_detect_51 rfl ?_
          refine z_iload_n 2 dX0_detect_53 rfl rfl ?_
          refine z_icmp_ge 62 dX0_detect_54 rfl hf (fun _ hf => ?_) (fun _ hf => ?_)
          · refine z_iinc 3 (x3 + 1) dX0_detect_62 rfl rfl (by decide) (lc' := [(0, .ref a), (1, .int x1), (2, .int x2), (3, .int (x3 + 1)), (4, .ref b_8), (5, .int v_14)]) rfl ?_
            refine z_goto 6 dX0_detect_65 rfl ?_
            cases hf
            refine z_sub [0, 1, 2, 3] rfl ?_
            exact (hM.1 _ rfl) hL
          · refine z_iload_n 3 dX0_detect_57 rfl rfl ?_
            refine z_istore_n dX0_detect_58 rfl (by decide) (lc' := [(0, .ref a), (1, .int x3), (2, .int x2), (3, .int x3), (4, .ref b_8), (5, .int v_14)]) rfl ?_
            refine z_iload 5 dX0_detect_59 rfl ?_
            refine z_istore_n dX0_detect_61 rfl (by decide) (lc' := [(0, .ref a), (1, .int x3), (2, .int v_14), (3, .int x3), (4, .ref b_8), (5, .int v_14)]) rfl ?_
            refine z_iinc 3 (x3 + 1) dX0_detect_62 rfl rfl (by decide) (lc' := [(0, .ref a), (1, .int x3), (2, .int v_14), (3, .int (x3 + 1)), (4, .ref b_8), (5, .int v_14)]) rfl ?_
            refine z_goto 6 dX0_detect_65 rfl ?_
            cases hf
            refine z_sub [0, 1, 2, 3] rfl ?_
            exact (hM.1 _ rfl) hL
      · refine z_goto 62 dX0_detect_36 rfl ?_
        refine z_iinc 3 (x3 + 1) dX0_detect_62 rfl rfl (by decide) (lc' := [(0, .ref a), (1, .int x1), (2, .int x2), (3, .int (x3 + 1)), (4, .ref b_8)]) rfl ?_
        refine z_goto 6 dX0_detect_65 rfl ?_
        cases hf
        refine z_sub [0, 1, 2, 3] rfl ?_
        exact (hM.1 _ rfl) hL
noncomputable def fX0_detect (h : zH) (a : Nat) : Option (zX) := zlp (fun s => fX0_detect_L6 s.1 a s.2.1 s.2.2.1 s.2.2.2) (h, (-1), 0, 0)
theorem zX0_detect {F : zF} {h : zH} {a : Nat} {y : zX} (hD : 11 ≤ F.2.1) (hL : zXx h a) (hf : fX0_detect h a = some y) (hM : (y : zX) = zEnd F) : Z F 6 cX0_detect RX0 "detect" (some .int) [] h 0 [(0, .ref a)] [] := by
  unfold fX0_detect at hf
  refine z_iconst (-1) dX0_detect_0 rfl ?_
  refine z_istore_n dX0_detect_1 rfl (by decide) (lc' := [(0, .ref a), (1, .int ((-1)))]) rfl ?_
  refine z_iconst 0 dX0_detect_2 rfl ?_
  refine z_istore_n dX0_detect_3 rfl (by decide) (lc' := [(0, .ref a), (1, .int ((-1))), (2, .int 0)]) rfl ?_
  refine z_iconst 0 dX0_detect_4 rfl ?_
  refine z_istore_n dX0_detect_5 rfl (by decide) (lc' := [(0, .ref a), (1, .int ((-1))), (2, .int 0), (3, .int 0)]) rfl ?_
  exact z_loop (fun (s : zH × Int32 × Int32 × Int32) => (zXx s.1 a → Z F 6 cX0_detect RX0 "detect" (some .int) [] s.1 6 [(0, .ref a), (1, .int s.2.1), (2, .int s.2.2.1), (3, .int s.2.2.2)] [])) (fun (r : zX) => (r : zX) = zEnd F) (fun s y hb hs hr hL => zX0_detect_L6 hD hL hb ⟨hs, hr⟩) hf hM hL
theorem ctX0_detect {l : Launch} {h : zH} {a : Nat} {y : zX} (hL : zXx h a) (hf : fX0_detect h a = some y) : zC l yX0_detect (ws_ yX0_detect cX0_detect 6 (some .int)) 11 [.ref a] h y :=
  z_start (by decide) (Nat.le_of_ble_eq_true rfl) (zX0_detect (F := (l, 11, h, y)) (Nat.le_refl _) hL hf rfl)
noncomputable def fX2_isReached_8 (a : Nat) (x1 : Int32) : Option (Int32) := if x1 = 0 then (some 1) else (some 0)
theorem zX2_isReached_8 {F : zF} {h : zH} {a : Nat} {x1 : Int32} {y : Int32} (hD : 1 ≤ F.2.1) (hL : zOb 8 h a) (hf : fX2_isReached_8 a x1 = some y) (hM : ((.inl (some (.int y)), h) : zX) = zEnd F) : Z F 2 cX2_isReached RX2 "isReached" (some .boolean) [] h 0 [(0, .ref a), (1, .int x1)] [] := by
  unfold fX2_isReached_8 at hf
  refine z_iload_n 1 dX2_isReached_0 rfl rfl ?_
  refine z_if_ne 8 dX2_isReached_1 rfl hf (fun _ hf => ?_) (fun _ hf => ?_)
  · refine z_iconst 0 dX2_isReached_8 rfl ?_
    cases hf
    exact z_zret dX2_isReached_9 rfl (Or.inl rfl) hM
  · refine z_iconst 1 dX2_isReached_4 rfl ?_
    refine z_goto 9 dX2_isReached_5 rfl ?_
    cases hf
    exact z_zret dX2_isReached_9 rfl (Or.inr rfl) hM
theorem ctX2_isReached_8 {l : Launch} {h : zH} {a : Nat} {x1 : Int32} {v : Int32} (hL : zOb 8 h a) (hf : fX2_isReached_8 a x1 = some v) : zC l yX2_isReached (ws_ yX2_isReached cX2_isReached 2 (some .boolean)) 1 [.ref a, .int x1] h (.inl (some (.int v)), h) :=
  z_start (by decide) (Nat.le_of_ble_eq_true rfl) (zX2_isReached_8 (F := (l, 1, h, (.inl (some (.int v)), h))) (Nat.le_refl _) hL hf rfl)
noncomputable def fX2_isReached_9 (a : Nat) (x1 : Int32) : Option (Int32) := if x1 = 0 then (some 1) else (some 0)
theorem zX2_isReached_9 {F : zF} {h : zH} {a : Nat} {x1 : Int32} {y : Int32} (hD : 1 ≤ F.2.1) (hL : zOb 9 h a) (hf : fX2_isReached_9 a x1 = some y) (hM : ((.inl (some (.int y)), h) : zX) = zEnd F) : Z F 2 cX2_isReached RX2 "isReached" (some .boolean) [] h 0 [(0, .ref a), (1, .int x1)] [] := by
  unfold fX2_isReached_9 at hf
  refine z_iload_n 1 dX2_isReached_0 rfl rfl ?_
  refine z_if_ne 8 dX2_isReached_1 rfl hf (fun _ hf => ?_) (fun _ hf => ?_)
  · refine z_iconst 0 dX2_isReached_8 rfl ?_
    cases hf
    exact z_zret dX2_isReached_9 rfl (Or.inl rfl) hM
  · refine z_iconst 1 dX2_isReached_4 rfl ?_
    refine z_goto 9 dX2_isReached_5 rfl ?_
    cases hf
    exact z_zret dX2_isReached_9 rfl (Or.inr rfl) hM
theorem ctX2_isReached_9 {l : Launch} {h : zH} {a : Nat} {x1 : Int32} {v : Int32} (hL : zOb 9 h a) (hf : fX2_isReached_9 a x1 = some v) : zC l yX2_isReached (ws_ yX2_isReached cX2_isReached 2 (some .boolean)) 1 [.ref a, .int x1] h (.inl (some (.int v)), h) :=
  z_start (by decide) (Nat.le_of_ble_eq_true rfl) (zX2_isReached_9 (F := (l, 1, h, (.inl (some (.int v)), h))) (Nat.le_refl _) hL hf rfl)
noncomputable def fX2_isReached_10 (a : Nat) (x1 : Int32) : Option (Int32) := if x1 = 0 then (some 1) else (some 0)
theorem zX2_isReached_10 {F : zF} {h : zH} {a : Nat} {x1 : Int32} {y : Int32} (hD : 1 ≤ F.2.1) (hL : zOb 10 h a) (hf : fX2_isReached_10 a x1 = some y) (hM : ((.inl (some (.int y)), h) : zX) = zEnd F) : Z F 2 cX2_isReached RX2 "isReached" (some .boolean) [] h 0 [(0, .ref a), (1, .int x1)] [] := by
  unfold fX2_isReached_10 at hf
  refine z_iload_n 1 dX2_isReached_0 rfl rfl ?_
  refine z_if_ne 8 dX2_isReached_1 rfl hf (fun _ hf => ?_) (fun _ hf => ?_)
  · refine z_iconst 0 dX2_isReached_8 rfl ?_
    cases hf
    exact z_zret dX2_isReached_9 rfl (Or.inl rfl) hM
  · refine z_iconst 1 dX2_isReached_4 rfl ?_
    refine z_goto 9 dX2_isReached_5 rfl ?_
    cases hf
    exact z_zret dX2_isReached_9 rfl (Or.inr rfl) hM
theorem ctX2_isReached_10 {l : Launch} {h : zH} {a : Nat} {x1 : Int32} {v : Int32} (hL : zOb 10 h a) (hf : fX2_isReached_10 a x1 = some v) : zC l yX2_isReached (ws_ yX2_isReached cX2_isReached 2 (some .boolean)) 1 [.ref a, .int x1] h (.inl (some (.int v)), h) :=
  z_start (by decide) (Nat.le_of_ble_eq_true rfl) (zX2_isReached_10 (F := (l, 1, h, (.inl (some (.int v)), h))) (Nat.le_refl _) hL hf rfl)
noncomputable def fV_Page_isReached (h : zH) (b : Nat) (p0 : Int32) : Option (Int32) := if zT h b = (3, 0) then (zck (zTb h b) (fX3_isReached h b p0)) else if zT h b = (9, 0) then (zck (zOb 8 h b) (fX2_isReached_8 b p0)) else if zT h b = (10, 0) then (zck (zOb 9 h b) (fX2_isReached_9 b p0)) else if zT h b = (11, 0) then (zck (zOb 10 h b) (fX2_isReached_10 b p0)) else none
theorem suX0_391_2 : zIu RX0 391 ⟨"CodeExchange$Page", "isReached", "(I)Z"⟩ "CodeExchange$Page" yX3_isReached (ws_ yX3_isReached cX3_isReached 2 (some .boolean)) 2 2 1 := ⟨(zGood_c q839 q103), ⟨_, _, rfl, rfl, q1340⟩, q1336, q1338, (Or.inl ⟨q1337, _, _, _, q1343⟩), by decide, q837, by decide +kernel⟩
theorem suX0_391_8 : zIu RX0 391 ⟨"CodeExchange$Page", "isReached", "(I)Z"⟩ "CodeExchange$Page" yX2_isReached (ws_ yX2_isReached cX2_isReached 2 (some .boolean)) 2 8 1 := ⟨(zGood_c q1343 q102), ⟨_, _, rfl, rfl, q1342⟩, q1336, q1338, (Or.inl ⟨q1337, _, _, _, q1343⟩), by decide, q1337, by decide +kernel⟩
theorem suX0_391_9 : zIu RX0 391 ⟨"CodeExchange$Page", "isReached", "(I)Z"⟩ "CodeExchange$Page" yX2_isReached (ws_ yX2_isReached cX2_isReached 2 (some .boolean)) 2 9 1 := ⟨(zGood_c q1343 q102), ⟨_, _, rfl, rfl, q1341⟩, q1336, q1338, (Or.inl ⟨q1337, _, _, _, q1343⟩), by decide, q1337, by decide +kernel⟩
theorem suX0_391_10 : zIu RX0 391 ⟨"CodeExchange$Page", "isReached", "(I)Z"⟩ "CodeExchange$Page" yX2_isReached (ws_ yX2_isReached cX2_isReached 2 (some .boolean)) 2 10 1 := ⟨(zGood_c q1343 q102), ⟨_, _, rfl, rfl, q1339⟩, q1336, q1338, (Or.inl ⟨q1337, _, _, _, q1343⟩), by decide, q1337, by decide +kernel⟩
theorem zVX0_391i {F : zF} {nL : Nat} {cc : ByteArray} {nm : String} {ret : Option FieldType} {hh : List (Nat × Nat × Nat × Nat)} {h : zH} {pc b : Nat} {lc : List (Nat × Value)} {st : List Value} {p0 : Int32} {v : Int32} (hD : 2 ≤ F.2.1) (hf : fV_Page_isReached h b p0 = some v) (hcat : (st.map fun v => v.category).sum ≤ 8) (hd : decode cc pc = .ok (.invokevirtual 391, 3)) (kk : Z F nL cc RX0 nm ret hh h (pc + 3) lc (.int v :: st)) : Z F nL cc RX0 nm ret hh h pc lc (.int p0 :: .ref b :: st) := by
  unfold fV_Page_isReached at hf
  refine zdsp hf (fun e hf => ?_) (fun _ hf => ?_)
  · obtain ⟨hK, hf⟩ := zck_some hf
    have hc := hf
    exact z_invUi suX0_391_2 (ctX3_isReached hK hc) e ⟨Nat.le_trans (by decide) hD, by decide⟩ rfl rfl hcat hd kk
  refine zdsp hf (fun e hf => ?_) (fun _ hf => ?_)
  · obtain ⟨hK, hf⟩ := zck_some hf
    have hc := hf
    exact z_invUi suX0_391_8 (ctX2_isReached_8 hK hc) e ⟨Nat.le_trans (by decide) hD, by decide⟩ rfl rfl hcat hd kk
  refine zdsp hf (fun e hf => ?_) (fun _ hf => ?_)
  · obtain ⟨hK, hf⟩ := zck_some hf
    have hc := hf
    exact z_invUi suX0_391_9 (ctX2_isReached_9 hK hc) e ⟨Nat.le_trans (by decide) hD, by decide⟩ rfl rfl hcat hd kk
  refine zdsp hf (fun e hf => ?_) (fun _ hf => ?_)
  · obtain ⟨hK, hf⟩ := zck_some hf
    have hc := hf
    exact z_invUi suX0_391_10 (ctX2_isReached_10 hK hc) e ⟨Nat.le_trans (by decide) hD, by decide⟩ rfl rfl hcat hd kk
  cases hf
theorem suX0_394_4 : zIu RX0 394 ⟨"CodeExchange$Writer", "begin", "(LCodeExchange$Page;ILCodeExchange$Sink;)V"⟩ "CodeExchange$Machine" yX4_begin (ws_ yX4_begin cX4_begin 4 none) 4 4 3 := ⟨(zGood_c q967 q104), ⟨_, _, rfl, rfl, q1347⟩, q1344, q1345, (Or.inl ⟨q963, _, _, _, q967⟩), by decide, q963, by decide +kernel⟩
theorem fdX0_395_4 : zFd RX0 395 4 6 .int false := ⟨_, _, _, rfl, rfl, by decide, rfl, rfl, Or.inl q375, Or.inr q371⟩
theorem suX0_396_4 : zIu RX0 396 ⟨"CodeExchange$Writer", "feed", "(I)V"⟩ "CodeExchange$Machine" yX4_feed (ws_ yX4_feed cX4_feed 2 none) 2 4 1 := ⟨(zGood_c q973 q104), ⟨_, _, rfl, rfl, q1351⟩, q1348, q1349, (Or.inl ⟨q969, _, _, _, q973⟩), by decide, q969, by decide +kernel⟩
noncomputable def fX0_lengths_L74 (h : zH) (a : Nat) (x2 : Int32) (x3 : Nat) (x4 : Int32) (x5 : Int32) (x6 : Int32) : Option ((zH × Int32) ⊕ ((zH) ⊕ ((zH × Int32 × Int32) ⊕ ((Int32 × zH))))) := if (zI h a 7) ≤ x6 then (some (.inr (.inl h))) else (zck (vp_in x6 1000) (zck (zWr h (a + 38) a) (zxv (fX4_feed_4 h (a + 38) a (zI h (a + 26) x6.toNatClampNeg)) (fun h_43 => some (.inl ((h_43, x6 + 1)))) (fun e_44 h_45 => zck (zT h_45 e_44 = (2, 0)) (zck (zOb 1 h_45 e_44) (zb2 (fX0_answer h_45 a (zI h_45 e_44 6)) (fun v_50 h_51 => some (.inr (.inr (.inr ((v_50, h_51))))))))))))
theorem zX0_lengths_L74 {F : zF} {h : zH} {a : Nat} {x2 : Int32} {x3 : Nat} {x4 : Int32} {x5 : Int32} {x6 : Int32} {y : (zH × Int32) ⊕ ((zH) ⊕ ((zH × Int32 × Int32) ⊕ ((Int32 × zH))))} (hD : 123 ≤ F.2.1) (hL : zXx h a) (hf : fX0_lengths_L74 h a x2 x3 x4 x5 x6 = some y) (hM : ((∀ s' : zH × Int32, y = .inl s' → (zXx s'.1 a → Z F 7 cX0_lengths RX0 "lengths" (some .int) [(0, 168, 169, 18)] s'.1 74 [(0, .ref a), (2, .int x2), (3, .ref x3), (4, .int x4), (5, .int x5), (6, .int s'.2)] [])) ∧ ∀ r : (zH) ⊕ ((zH × Int32 × Int32) ⊕ ((Int32 × zH))), y = .inr r → (match r with | .inl t => (zXx t a → Z F 7 cX0_lengths RX0 "lengths" (some .int) [(0, 168, 169, 18)] t 103 [(0, .ref a), (2, .int x2), (3, .ref x3), (4, .int x4), (5, .int x5)] []) | .inr z => ((∀ s' : zH × Int32 × Int32, z = .inl s' → (zXx s'.1 a → Z F 7 cX0_lengths RX0 "lengths" (some .int) [(0, 168, 169, 18)] s'.1 23 [(0, .ref a), (2, .int x2), (3, .ref x3), (4, .int s'.2.1), (5, .int s'.2.2)] [])) ∧ ∀ r : (Int32 × zH), z = .inr r → ((.inl (some (.int r.1)), r.2) : zX) = zEnd F)))) : Z F 7 cX0_lengths RX0 "lengths" (some .int) [(0, 168, 169, 18)] h 74 [(0, .ref a), (2, .int x2), (3, .ref x3), (4, .int x4), (5, .int x5), (6, .int x6)] [] := by
  unfold fX0_lengths_L74 at hf
  refine z_iload 5 dX0_lengths_74 rfl ?_
  refine z_aload_n 0 dX0_lengths_76 rfl rfl ?_
  refine z_geti fdX0_267_0 ((hL.b 0 rfl).t 0 rfl) dX0_lengths_77 ?_
  refine z_icmp_ge 103 dX0_lengths_80 rfl hf (fun _ hf => ?_) (fun _ hf => ?_)
  · cases hf
    refine z_sub [0, 1, 2, 3, 4] rfl ?_
    exact (hM.2 _ rfl) hL
  · refine z_aload_n 0 dX0_lengths_83 rfl rfl ?_
    refine z_getr fdX0_95_0 (Or.inl ⟨_, rfl⟩) ((hL.b 0 rfl).t 0 rfl) ((hL.b 0 rfl).p 13 rfl) dX0_lengths_84 ?_
    refine z_aload_n 0 dX0_lengths_87 rfl rfl ?_
    refine z_getr fdX0_53_0 (Or.inr ⟨_, rfl⟩) ((hL.b 0 rfl).t 0 rfl) ((hL.b 0 rfl).p 3 rfl) dX0_lengths_88 ?_
    refine z_iload 5 dX0_lengths_91 rfl ?_
    obtain ⟨hi_39, hf⟩ := zck_some hf
    refine z_iald ((hL.b 0 rfl).t 26 rfl) hi_39 dX0_lengths_93 ?_
    obtain ⟨hK_40, hf⟩ := zck_some hf
    rcases zxv_some hf with ⟨h_43, hc_41, hf⟩ | ⟨e_44, h_45, hc_46, hf⟩
    rotate_left
    · have hct := ctX4_feed_4 (l := F.1) hK_40 hc_46
      refine z_invUt suX0_396_4 hct ((hL.b 0 rfl).t 38 rfl) ⟨Nat.le_trans (by decide) hD, by decide⟩ rfl rfl (Nat.le_of_ble_eq_true rfl) dX0_lengths_94 ?_
      have hL := hL.ext hct.1
      have hK_40 := hK_40.ext hct.1
      obtain ⟨ht_47, hf⟩ := zck_some hf
      refine zt_catch (q := (RX1, TX1, 7)) rfl (by decide) q129 rfl rfl ht_47 ?_
      refine z_astore_n dX0_lengths_169 rfl (by decide) (lc' := [(0, .ref a), (2, .int x2), (3, .ref e_44), (4, .int x4), (5, .int x5), (6, .int x6)]) rfl ?_
      refine z_aload_n 0 dX0_lengths_170 rfl rfl ?_
      refine z_aload_n 2 dX0_lengths_171 rfl rfl ?_
      obtain ⟨hK_48, hf⟩ := zck_some hf
      refine z_geti fdX0_17_1 ((hK_48.b 0 rfl).t 0 rfl) dX0_lengths_172 ?_
      obtain ⟨v_50, h_51, hc_49, hf⟩ := zb2_some hf
      have hct := ctX0_answer (l := F.1) hL hc_49
      refine z_invVi suX0_163_0 hct ((hL.b 0 rfl).t 0 rfl) ⟨Nat.le_trans (by decide) hD, by decide⟩ rfl rfl (Nat.le_of_ble_eq_true rfl) dX0_lengths_175 ?_
      have hL := hL.ext hct.1
      have hK_40 := hK_40.ext hct.1
      have hK_48 := hK_48.ext hct.1
      cases hf
      exact z_iret dX0_lengths_178 rfl ((hM.2 _ rfl).2 _ rfl)
    have hct := ctX4_feed_4 (l := F.1) hK_40 hc_41
    refine z_invUv suX0_396_4 hct ((hL.b 0 rfl).t 38 rfl) ⟨Nat.le_trans (by decide) hD, by decide⟩ rfl rfl (Nat.le_of_ble_eq_true rfl) dX0_lengths_94 ?_
    have hL := hL.ext hct.1
    have hK_40 := hK_40.ext hct.1
    refine z_iinc 5 (x6 + 1) dX0_lengths_97 rfl rfl (by decide) (lc' := [(0, .ref a), (2, .int x2), (3, .ref x3), (4, .int x4), (5, .int x5), (6, .int (x6 + 1))]) rfl ?_
    refine z_goto 74 dX0_lengths_100 rfl ?_
    cases hf
    exact (hM.1 _ rfl) hL
theorem suX0_397_4 : zIu RX0 397 ⟨"CodeExchange$Writer", "end", "()V"⟩ "CodeExchange$Machine" yX4_end (ws_ yX4_end cX4_end 1 none) 1 4 0 := ⟨(zGood_c q1160 q104), ⟨_, _, rfl, rfl, q1355⟩, q1352, q1353, (Or.inl ⟨q1156, _, _, _, q1160⟩), by decide, q1156, by decide +kernel⟩
noncomputable def fX0_lengths_L23 (h : zH) (a : Nat) (x2 : Int32) (x3 : Nat) (x4 : Int32) (x5 : Int32) : Option ((zH × Int32 × Int32) ⊕ ((Int32 × zH))) := if 4 ≤ x5 then (some (.inr ((x4, h)))) else (zb1 (fV_Page_isReached h x3 x5) (fun v_28 => if v_28 = 0 then (some (.inl ((h, x4, x5 + 1)))) else (zck (zRw h (a + 45) a) (zb1 (fX7_begin h (a + 45) a 1) (fun h_33 => zck (zWr h_33 (a + 38) a) (zb1 (fX4_begin_4 h_33 (a + 38) a x3 0 (a + 45)) (fun h_37 => zlet (zsI h_37 (a + 38) 6 x5) (fun h_38 => zlx (zlp (fun s => fX0_lengths_L74 s.1 a x2 x3 x4 x5 s.2) (h_38, 0)) (fun t_52 => zck (zWr t_52 (a + 38) a) (zxv (fX4_end_4 t_52 (a + 38) a) (fun h_56 => if x4 < 0 then (some (.inl ((h_56, zI h_56 (a + 45) 1, x5 + 1)))) else (if x2 = 0 then (if x4 ≤ (zI h_56 (a + 45) 1) then (some (.inl ((h_56, x4, x5 + 1)))) else (some (.inl ((h_56, zI h_56 (a + 45) 1, x5 + 1))))) else (if (zI h_56 (a + 45) 1) ≤ x4 then (some (.inl ((h_56, x4, x5 + 1)))) else (some (.inl ((h_56, zI h_56 (a + 45) 1, x5 + 1))))))) (fun e_57 h_58 => zck (zT h_58 e_57 = (2, 0)) (zck (zOb 1 h_58 e_57) (zb2 (fX0_answer h_58 a (zI h_58 e_57 6)) (fun v_63 h_64 => some (.inr ((v_63, h_64)))))))))))))))))
theorem zX0_lengths_L23 {F : zF} {h : zH} {a : Nat} {x2 : Int32} {x3 : Nat} {x4 : Int32} {x5 : Int32} {y : (zH × Int32 × Int32) ⊕ ((Int32 × zH))} (hD : 123 ≤ F.2.1) (hL : zXx h a) (hf : fX0_lengths_L23 h a x2 x3 x4 x5 = some y) (hM : ((∀ s' : zH × Int32 × Int32, y = .inl s' → (zXx s'.1 a → Z F 7 cX0_lengths RX0 "lengths" (some .int) [(0, 168, 169, 18)] s'.1 23 [(0, .ref a), (2, .int x2), (3, .ref x3), (4, .int s'.2.1), (5, .int s'.2.2)] [])) ∧ ∀ r : (Int32 × zH), y = .inr r → ((.inl (some (.int r.1)), r.2) : zX) = zEnd F)) : Z F 7 cX0_lengths RX0 "lengths" (some .int) [(0, 168, 169, 18)] h 23 [(0, .ref a), (2, .int x2), (3, .ref x3), (4, .int x4), (5, .int x5)] [] := by
  unfold fX0_lengths_L23 at hf
  refine z_iload 4 dX0_lengths_23 rfl ?_
  refine z_iconst 4 dX0_lengths_25 rfl ?_
  refine z_icmp_ge 166 dX0_lengths_26 rfl hf (fun _ hf => ?_) (fun _ hf => ?_)
  · refine z_iload 3 dX0_lengths_166 rfl ?_
    cases hf
    exact z_iret dX0_lengths_168 rfl (hM.2 _ rfl)
  · refine z_aload_n 2 dX0_lengths_29 rfl rfl ?_
    refine z_iload 4 dX0_lengths_30 rfl ?_
    obtain ⟨v_28, hc_27, hf⟩ := zb1_some hf
    refine zVX0_391i (Nat.le_trans (by decide) hD) hc_27 (Nat.le_of_ble_eq_true rfl) dX0_lengths_32 ?_
    refine z_if_ne 41 dX0_lengths_35 rfl hf (fun _ hf => ?_) (fun _ hf => ?_)
    · refine z_aload_n 0 dX0_lengths_41 rfl rfl ?_
      refine z_getr fdX0_109_0 (Or.inl ⟨_, rfl⟩) ((hL.b 0 rfl).t 0 rfl) ((hL.b 0 rfl).p 14 rfl) dX0_lengths_42 ?_
      refine z_iconst 1 dX0_lengths_45 rfl ?_
      obtain ⟨hK_30, hf⟩ := zck_some hf
      obtain ⟨h_33, hc_31, hf⟩ := zb1_some hf
      have hct := ctX7_begin (l := F.1) hK_30 hc_31
      refine z_invVv suX0_299_5 hct ((hL.b 0 rfl).t 45 rfl) ⟨Nat.le_trans (by decide) hD, by decide⟩ rfl rfl (Nat.le_of_ble_eq_true rfl) dX0_lengths_46 ?_
      have hL := hL.ext hct.1
      have hK_30 := hK_30.ext hct.1
      refine z_aload_n 0 dX0_lengths_49 rfl rfl ?_
      refine z_getr fdX0_95_0 (Or.inl ⟨_, rfl⟩) ((hL.b 0 rfl).t 0 rfl) ((hL.b 0 rfl).p 13 rfl) dX0_lengths_50 ?_
      refine z_aload_n 2 dX0_lengths_53 rfl rfl ?_
      refine z_iconst 0 dX0_lengths_54 rfl ?_
      refine z_aload_n 0 dX0_lengths_55 rfl rfl ?_
      refine z_getr fdX0_109_0 (Or.inl ⟨_, rfl⟩) ((hL.b 0 rfl).t 0 rfl) ((hL.b 0 rfl).p 14 rfl) dX0_lengths_56 ?_
      obtain ⟨hK_34, hf⟩ := zck_some hf
      obtain ⟨h_37, hc_35, hf⟩ := zb1_some hf
      have hct := ctX4_begin_4 (l := F.1) hK_34 hc_35
      refine z_invUv suX0_394_4 hct ((hL.b 0 rfl).t 38 rfl) ⟨Nat.le_trans (by decide) hD, by decide⟩ rfl rfl (Nat.le_of_ble_eq_true rfl) dX0_lengths_59 ?_
      have hL := hL.ext hct.1
      have hK_30 := hK_30.ext hct.1
      have hK_34 := hK_34.ext hct.1
      refine z_aload_n 0 dX0_lengths_62 rfl rfl ?_
      refine z_getr fdX0_95_0 (Or.inl ⟨_, rfl⟩) ((hL.b 0 rfl).t 0 rfl) ((hL.b 0 rfl).p 13 rfl) dX0_lengths_63 ?_
      refine z_iload 4 dX0_lengths_66 rfl ?_
      obtain ⟨h_38, he, hf⟩ := zlet_some hf
      refine z_puti fdX0_395_4 ((hL.b 0 rfl).t 38 rfl) ((hL.b 0 rfl).nz 38) he dX0_lengths_68 ?_
      have hL := hL.I he
      have hK_30 := hK_30.I he
      have hK_34 := hK_34.I he
      refine z_iconst 0 dX0_lengths_71 rfl ?_
      refine z_istore dX0_lengths_72 (by decide) (lc' := [(0, .ref a), (2, .int x2), (3, .ref x3), (4, .int x4), (5, .int x5), (6, .int 0)]) rfl ?_
      obtain ⟨rr, hl, hf⟩ := zlx_some hf
      refine z_loop (fun (s : zH × Int32) => (zXx s.1 a → Z F 7 cX0_lengths RX0 "lengths" (some .int) [(0, 168, 169, 18)] s.1 74 [(0, .ref a), (2, .int x2), (3, .ref x3), (4, .int x4), (5, .int x5), (6, .int s.2)] [])) (fun (r : (zH) ⊕ ((zH × Int32 × Int32) ⊕ ((Int32 × zH)))) => (match r with | .inl t => (zXx t a → Z F 7 cX0_lengths RX0 "lengths" (some .int) [(0, 168, 169, 18)] t 103 [(0, .ref a), (2, .int x2), (3, .ref x3), (4, .int x4), (5, .int x5)] []) | .inr z => ((∀ s' : zH × Int32 × Int32, z = .inl s' → (zXx s'.1 a → Z F 7 cX0_lengths RX0 "lengths" (some .int) [(0, 168, 169, 18)] s'.1 23 [(0, .ref a), (2, .int x2), (3, .ref x3), (4, .int s'.2.1), (5, .int s'.2.2)] [])) ∧ ∀ r : (Int32 × zH), z = .inr r → ((.inl (some (.int r.1)), r.2) : zX) = zEnd F))) (fun s y hb hs hr hL => zX0_lengths_L74 hD hL hb ⟨hs, hr⟩) hl ?_ hL
      rcases hf with ⟨t_52, rfl, hf⟩ | rfl
      · intro hL
        show Z F 7 cX0_lengths RX0 "lengths" (some .int) [(0, 168, 169, 18)] t_52 103 [(0, .ref a), (2, .int x2), (3, .ref x3), (4, .int x4), (5, .int x5)] []
        refine z_aload_n 0 dX0_lengths_103 rfl rfl ?_
        refine z_getr fdX0_95_0 (Or.inl ⟨_, rfl⟩) ((hL.b 0 rfl).t 0 rfl) ((hL.b 0 rfl).p 13 rfl) dX0_lengths_104 ?_
        obtain ⟨hK_53, hf⟩ := zck_some hf
        rcases zxv_some hf with ⟨h_56, hc_54, hf⟩ | ⟨e_57, h_58, hc_59, hf⟩
        rotate_left
        · have hct := ctX4_end_4 (l := F.1) hK_53 hc_59
          refine z_invUt suX0_397_4 hct ((hL.b 0 rfl).t 38 rfl) ⟨Nat.le_trans (by decide) hD, by decide⟩ rfl rfl (Nat.le_of_ble_eq_true rfl) dX0_lengths_107 ?_
          have hL := hL.ext hct.1
          have hK_53 := hK_53.ext hct.1
          obtain ⟨ht_60, hf⟩ := zck_some hf
          refine zt_catch (q := (RX1, TX1, 7)) rfl (by decide) q129 rfl rfl ht_60 ?_
          refine z_astore_n dX0_lengths_169 rfl (by decide) (lc' := [(0, .ref a), (2, .int x2), (3, .ref e_57), (4, .int x4), (5, .int x5)]) rfl ?_
          refine z_aload_n 0 dX0_lengths_170 rfl rfl ?_
          refine z_aload_n 2 dX0_lengths_171 rfl rfl ?_
          obtain ⟨hK_61, hf⟩ := zck_some hf
          refine z_geti fdX0_17_1 ((hK_61.b 0 rfl).t 0 rfl) dX0_lengths_172 ?_
          obtain ⟨v_63, h_64, hc_62, hf⟩ := zb2_some hf
          have hct := ctX0_answer (l := F.1) hL hc_62
          refine z_invVi suX0_163_0 hct ((hL.b 0 rfl).t 0 rfl) ⟨Nat.le_trans (by decide) hD, by decide⟩ rfl rfl (Nat.le_of_ble_eq_true rfl) dX0_lengths_175 ?_
          have hL := hL.ext hct.1
          have hK_53 := hK_53.ext hct.1
          have hK_61 := hK_61.ext hct.1
          cases hf
          exact z_iret dX0_lengths_178 rfl (hM.2 _ rfl)
        have hct := ctX4_end_4 (l := F.1) hK_53 hc_54
        refine z_invUv suX0_397_4 hct ((hL.b 0 rfl).t 38 rfl) ⟨Nat.le_trans (by decide) hD, by decide⟩ rfl rfl (Nat.le_of_ble_eq_true rfl) dX0_lengths_107 ?_
        have hL := hL.ext hct.1
        have hK_53 := hK_53.ext hct.1
        refine z_iload 3 dX0_lengths_110 rfl ?_
        refine z_if_lt 146 dX0_lengths_112 rfl hf (fun _ hf => ?_) (fun _ hf => ?_)
        · refine z_aload_n 0 dX0_lengths_146 rfl rfl ?_
          refine z_getr fdX0_109_0 (Or.inl ⟨_, rfl⟩) ((hL.b 0 rfl).t 0 rfl) ((hL.b 0 rfl).p 14 rfl) dX0_lengths_147 ?_
          refine z_geti fdX0_275_5 ((hL.b 0 rfl).t 45 rfl) dX0_lengths_150 ?_
          refine z_goto 158 dX0_lengths_153 rfl ?_
          refine z_istore dX0_lengths_158 (by decide) (lc' := [(0, .ref a), (2, .int x2), (3, .ref x3), (4, .int (zI h_56 (a + 45) 1)), (5, .int x5)]) rfl ?_
          refine z_iinc 4 (x5 + 1) dX0_lengths_160 rfl rfl (by decide) (lc' := [(0, .ref a), (2, .int x2), (3, .ref x3), (4, .int (zI h_56 (a + 45) 1)), (5, .int (x5 + 1))]) rfl ?_
          refine z_goto 23 dX0_lengths_163 rfl ?_
          cases hf
          exact (hM.1 _ rfl) hL
        · refine z_iload_n 1 dX0_lengths_115 rfl rfl ?_
          refine z_if_ne 134 dX0_lengths_116 rfl hf (fun _ hf => ?_) (fun _ hf => ?_)
          · refine z_aload_n 0 dX0_lengths_134 rfl rfl ?_
            refine z_getr fdX0_109_0 (Or.inl ⟨_, rfl⟩) ((hL.b 0 rfl).t 0 rfl) ((hL.b 0 rfl).p 14 rfl) dX0_lengths_135 ?_
            refine z_geti fdX0_275_5 ((hL.b 0 rfl).t 45 rfl) dX0_lengths_138 ?_
            refine z_iload 3 dX0_lengths_141 rfl ?_
            refine z_icmp_le 156 dX0_lengths_143 rfl hf (fun _ hf => ?_) (fun _ hf => ?_)
            · refine z_iload 3 dX0_lengths_156 rfl ?_
              refine z_istore dX0_lengths_158 (by decide) (lc' := [(0, .ref a), (2, .int x2), (3, .ref x3), (4, .int x4), (5, .int x5)]) rfl ?_
              refine z_iinc 4 (x5 + 1) dX0_lengths_160 rfl rfl (by decide) (lc' := [(0, .ref a), (2, .int x2), (3, .ref x3), (4, .int x4), (5, .int (x5 + 1))]) rfl ?_
              refine z_goto 23 dX0_lengths_163 rfl ?_
              cases hf
              exact (hM.1 _ rfl) hL
            · refine z_aload_n 0 dX0_lengths_146 rfl rfl ?_
              refine z_getr fdX0_109_0 (Or.inl ⟨_, rfl⟩) ((hL.b 0 rfl).t 0 rfl) ((hL.b 0 rfl).p 14 rfl) dX0_lengths_147 ?_
              refine z_geti fdX0_275_5 ((hL.b 0 rfl).t 45 rfl) dX0_lengths_150 ?_
              refine z_goto 158 dX0_lengths_153 rfl ?_
              refine z_istore dX0_lengths_158 (by decide) (lc' := [(0, .ref a), (2, .int x2), (3, .ref x3), (4, .int (zI h_56 (a + 45) 1)), (5, .int x5)]) rfl ?_
              refine z_iinc 4 (x5 + 1) dX0_lengths_160 rfl rfl (by decide) (lc' := [(0, .ref a), (2, .int x2), (3, .ref x3), (4, .int (zI h_56 (a + 45) 1)), (5, .int (x5 + 1))]) rfl ?_
              refine z_goto 23 dX0_lengths_163 rfl ?_
              cases hf
              exact (hM.1 _ rfl) hL
          · refine z_aload_n 0 dX0_lengths_119 rfl rfl ?_
            refine z_getr fdX0_109_0 (Or.inl ⟨_, rfl⟩) ((hL.b 0 rfl).t 0 rfl) ((hL.b 0 rfl).p 14 rfl) dX0_lengths_120 ?_
            refine z_geti fdX0_275_5 ((hL.b 0 rfl).t 45 rfl) dX0_lengths_123 ?_
            refine z_iload 3 dX0_lengths_126 rfl ?_
            refine z_icmp_ge 156 dX0_lengths_128 rfl hf (fun _ hf => ?_) (fun _ hf => ?_)
            · refine z_iload 3 dX0_lengths_156 rfl ?_
              refine z_istore dX0_lengths_158 (by decide) (lc' := [(0, .ref a), (2, .int x2), (3, .ref x3), (4, .int x4), (5, .int x5)]) rfl ?_
              refine z_iinc 4 (x5 + 1) dX0_lengths_160 rfl rfl (by decide) (lc' := [(0, .ref a), (2, .int x2), (3, .ref x3), (4, .int x4), (5, .int (x5 + 1))]) rfl ?_
              refine z_goto 23 dX0_lengths_163 rfl ?_
              cases hf
              exact (hM.1 _ rfl) hL
            · refine z_goto 146 dX0_lengths_131 rfl ?_
              refine z_aload_n 0 dX0_lengths_146 rfl rfl ?_
              refine z_getr fdX0_109_0 (Or.inl ⟨_, rfl⟩) ((hL.b 0 rfl).t 0 rfl) ((hL.b 0 rfl).p 14 rfl) dX0_lengths_147 ?_
              refine z_geti fdX0_275_5 ((hL.b 0 rfl).t 45 rfl) dX0_lengths_150 ?_
              refine z_goto 158 dX0_lengths_153 rfl ?_
              refine z_istore dX0_lengths_158 (by decide) (lc' := [(0, .ref a), (2, .int x2), (3, .ref x3), (4, .int (zI h_56 (a + 45) 1)), (5, .int x5)]) rfl ?_
              refine z_iinc 4 (x5 + 1) dX0_lengths_160 rfl rfl (by decide) (lc' := [(0, .ref a), (2, .int x2), (3, .ref x3), (4, .int (zI h_56 (a + 45) 1)), (5, .int (x5 + 1))]) rfl ?_
              refine z_goto 23 dX0_lengths_163 rfl ?_
              cases hf
              exact (hM.1 _ rfl) hL
      · exact hM
    · refine z_goto 160 dX0_lengths_38 rfl ?_
      refine z_iinc 4 (x5 + 1) dX0_lengths_160 rfl rfl (by decide) (lc' := [(0, .ref a), (2, .int x2), (3, .ref x3), (4, .int x4), (5, .int (x5 + 1))]) rfl ?_
      refine z_goto 23 dX0_lengths_163 rfl ?_
      cases hf
      exact (hM.1 _ rfl) hL
noncomputable def fX0_lengths (h : zH) (a : Nat) (x1 : Int32) (x2 : Int32) : Option (Int32 × zH) := zxr (fX0_closedAt h a x1) (fun v_2 h_3 => zb1 v_2 (fun b_12 => zb1 (fX0_in x2 0 1) (fun v_14 => zxv (fX0_need h_3 a v_14 ((-1))) (fun h_18 => zlp (fun s => fX0_lengths_L23 s.1 a x2 b_12 s.2.1 s.2.2) (h_18, (-1), 0)) (fun e_19 h_20 => zck (zT h_20 e_19 = (2, 0)) (zck (zOb 1 h_20 e_19) (zb2 (fX0_answer h_20 a (zI h_20 e_19 6)) (fun v_25 h_26 => some ((v_25, h_26))))))))) (fun e_4 h_5 => zck (zT h_5 e_4 = (2, 0)) (zck (zOb 1 h_5 e_4) (zb2 (fX0_answer h_5 a (zI h_5 e_4 6)) (fun v_10 h_11 => some ((v_10, h_11))))))
theorem zX0_lengths {F : zF} {h : zH} {a : Nat} {x1 : Int32} {x2 : Int32} {y : Int32 × zH} (hD : 123 ≤ F.2.1) (hL : zXx h a) (hf : fX0_lengths h a x1 x2 = some y) (hM : ((.inl (some (.int y.1)), y.2) : zX) = zEnd F) : Z F 7 cX0_lengths RX0 "lengths" (some .int) [(0, 168, 169, 18)] h 0 [(0, .ref a), (1, .int x1), (2, .int x2)] [] := by
  unfold fX0_lengths at hf
  refine z_aload_n 0 dX0_lengths_0 rfl rfl ?_
  refine z_iload_n 1 dX0_lengths_1 rfl rfl ?_
  rcases zxr_some hf with ⟨v_2, h_3, hc_1, hf⟩ | ⟨e_4, h_5, hc_6, hf⟩
  rotate_left
  · have hct := ctX0_closedAt (l := F.1) hL hc_6
    refine z_invVt suX0_255_0 hct ((hL.b 0 rfl).t 0 rfl) ⟨Nat.le_trans (by decide) hD, by decide⟩ rfl rfl (Nat.le_of_ble_eq_true rfl) dX0_lengths_2 ?_
    have hL := hL.ext hct.1
    obtain ⟨ht_7, hf⟩ := zck_some hf
    refine zt_catch (q := (RX1, TX1, 7)) rfl (by decide) q129 rfl rfl ht_7 ?_
    refine z_astore_n dX0_lengths_169 rfl (by decide) (lc' := [(0, .ref a), (1, .int x1), (2, .int x2), (3, .ref e_4)]) rfl ?_
    refine z_aload_n 0 dX0_lengths_170 rfl rfl ?_
    refine z_aload_n 3 dX0_lengths_171 rfl rfl ?_
    obtain ⟨hK_8, hf⟩ := zck_some hf
    refine z_geti fdX0_17_1 ((hK_8.b 0 rfl).t 0 rfl) dX0_lengths_172 ?_
    obtain ⟨v_10, h_11, hc_9, hf⟩ := zb2_some hf
    have hct := ctX0_answer (l := F.1) hL hc_9
    refine z_invVi suX0_163_0 hct ((hL.b 0 rfl).t 0 rfl) ⟨Nat.le_trans (by decide) hD, by decide⟩ rfl rfl (Nat.le_of_ble_eq_true rfl) dX0_lengths_175 ?_
    have hL := hL.ext hct.1
    have hK_8 := hK_8.ext hct.1
    cases hf
    exact z_iret dX0_lengths_178 rfl hM
  have hct := ctX0_closedAt (l := F.1) hL hc_1
  refine z_invVq suX0_255_0 hct ((hL.b 0 rfl).t 0 rfl) ⟨Nat.le_trans (by decide) hD, by decide⟩ rfl rfl (Nat.le_of_ble_eq_true rfl) dX0_lengths_2 ?_
  have hL := hL.ext hct.1
  obtain ⟨b_12, e9, hf9⟩ := zb1_some hf
  subst e9
  have hf := hf9
  refine z_astore_n dX0_lengths_5 rfl (by decide) (lc' := [(0, .ref a), (1, .int x1), (2, .int x2), (3, .ref b_12)]) rfl ?_
  refine z_aload_n 0 dX0_lengths_6 rfl rfl ?_
  refine z_iload_n 2 dX0_lengths_7 rfl rfl ?_
  refine z_iconst 0 dX0_lengths_8 rfl ?_
  refine z_iconst 1 dX0_lengths_9 rfl ?_
  obtain ⟨v_14, hc_13, hf⟩ := zb1_some hf
  refine z_invSi suX0_4_s (ctX0_in hc_13) ⟨Nat.le_trans (by decide) hD, by decide⟩ rfl rfl (Nat.le_of_ble_eq_true rfl) dX0_lengths_10 ?_
  refine z_iconst (-1) dX0_lengths_13 rfl ?_
  rcases zxv_some hf with ⟨h_18, hc_16, hf⟩ | ⟨e_19, h_20, hc_21, hf⟩
  rotate_left
  · have hct := ctX0_need (l := F.1) hL hc_21
    refine z_invVt suX0_184_0 hct ((hL.b 0 rfl).t 0 rfl) ⟨Nat.le_trans (by decide) hD, by decide⟩ rfl rfl (Nat.le_of_ble_eq_true rfl) dX0_lengths_14 ?_
    have hL := hL.ext hct.1
    obtain ⟨ht_22, hf⟩ := zck_some hf
    refine zt_catch (q := (RX1, TX1, 7)) rfl (by decide) q129 rfl rfl ht_22 ?_
    refine z_astore_n dX0_lengths_169 rfl (by decide) (lc' := [(0, .ref a), (1, .int x1), (2, .int x2), (3, .ref e_19)]) rfl ?_
    refine z_aload_n 0 dX0_lengths_170 rfl rfl ?_
    refine z_aload_n 3 dX0_lengths_171 rfl rfl ?_
    obtain ⟨hK_23, hf⟩ := zck_some hf
    refine z_geti fdX0_17_1 ((hK_23.b 0 rfl).t 0 rfl) dX0_lengths_172 ?_
    obtain ⟨v_25, h_26, hc_24, hf⟩ := zb2_some hf
    have hct := ctX0_answer (l := F.1) hL hc_24
    refine z_invVi suX0_163_0 hct ((hL.b 0 rfl).t 0 rfl) ⟨Nat.le_trans (by decide) hD, by decide⟩ rfl rfl (Nat.le_of_ble_eq_true rfl) dX0_lengths_175 ?_
    have hL := hL.ext hct.1
    have hK_23 := hK_23.ext hct.1
    cases hf
    exact z_iret dX0_lengths_178 rfl hM
  have hct := ctX0_need (l := F.1) hL hc_16
  refine z_invVv suX0_184_0 hct ((hL.b 0 rfl).t 0 rfl) ⟨Nat.le_trans (by decide) hD, by decide⟩ rfl rfl (Nat.le_of_ble_eq_true rfl) dX0_lengths_14 ?_
  have hL := hL.ext hct.1
  refine z_iconst (-1) dX0_lengths_17 rfl ?_
  refine z_istore dX0_lengths_18 (by decide) (lc' := [(0, .ref a), (1, .int x1), (2, .int x2), (3, .ref b_12), (4, .int ((-1)))]) rfl ?_
  refine z_iconst 0 dX0_lengths_20 rfl ?_
  refine z_istore dX0_lengths_21 (by decide) (lc' := [(0, .ref a), (1, .int x1), (2, .int x2), (3, .ref b_12), (4, .int ((-1))), (5, .int 0)]) rfl ?_
  refine z_sub [0, 2, 3, 4, 5] rfl ?_
  exact z_loop (fun (s : zH × Int32 × Int32) => (zXx s.1 a → Z F 7 cX0_lengths RX0 "lengths" (some .int) [(0, 168, 169, 18)] s.1 23 [(0, .ref a), (2, .int x2), (3, .ref b_12), (4, .int s.2.1), (5, .int s.2.2)] [])) (fun (r : (Int32 × zH)) => ((.inl (some (.int r.1)), r.2) : zX) = zEnd F) (fun s y hb hs hr hL => zX0_lengths_L23 hD hL hb ⟨hs, hr⟩) hf hM hL
theorem ctX0_lengths {l : Launch} {h : zH} {a : Nat} {x1 : Int32} {x2 : Int32} {v : Int32} {h' : zH} (hL : zXx h a) (hf : fX0_lengths h a x1 x2 = some (v, h')) : zC l yX0_lengths (wsW_ yX0_lengths cX0_lengths 7 (some .int) [(0, 168, 169, 18)]) 123 [.ref a, .int x1, .int x2] h (.inl (some (.int v)), h') :=
  z_startW (by decide) (Nat.le_of_ble_eq_true rfl) (zX0_lengths (F := (l, 123, h, (.inl (some (.int v)), h'))) (Nat.le_refl _) hL hf rfl)
noncomputable def fX0_sumOf_L4 (h : zH) (x0 : Nat) (x1 : Int32) (x2 : Int32) (x3 : Int32) : Option ((Int32 × Int32) ⊕ (Int32)) := if x1 ≤ x3 then (some (.inr x2)) else (zck (zAr h x0 x3) (some (.inl (((x2 + ((x3 + 1) * (zI h x0 x3.toNatClampNeg))) - (x2 + ((x3 + 1) * (zI h x0 x3.toNatClampNeg))) / 65521 * 65521, x3 + 1)))))
theorem zX0_sumOf_L4 {F : zF} {h : zH} {x0 : Nat} {x1 : Int32} {x2 : Int32} {x3 : Int32} {y : (Int32 × Int32) ⊕ (Int32)} (hD : 1 ≤ F.2.1) (hf : fX0_sumOf_L4 h x0 x1 x2 x3 = some y) (hM : ((∀ s' : Int32 × Int32, y = .inl s' → Z F 4 cX0_sumOf RX0 "sumOf" (some .int) [] h 4 [(0, .ref x0), (1, .int x1), (2, .int s'.1), (3, .int s'.2)] []) ∧ ∀ r : Int32, y = .inr r → ((.inl (some (.int r)), h) : zX) = zEnd F)) : Z F 4 cX0_sumOf RX0 "sumOf" (some .int) [] h 4 [(0, .ref x0), (1, .int x1), (2, .int x2), (3, .int x3)] [] := by
  unfold fX0_sumOf_L4 at hf
  refine z_iload_n 3 dX0_sumOf_4 rfl rfl ?_
  refine z_iload_n 1 dX0_sumOf_5 rfl rfl ?_
  refine z_icmp_ge 29 dX0_sumOf_6 rfl hf (fun _ hf => ?_) (fun _ hf => ?_)
  · refine z_iload_n 2 dX0_sumOf_29 rfl rfl ?_
    cases hf
    exact z_iret dX0_sumOf_30 rfl (hM.2 _ rfl)
  · refine z_iload_n 2 dX0_sumOf_9 rfl rfl ?_
    refine z_iload_n 3 dX0_sumOf_10 rfl rfl ?_
    refine z_iconst 1 dX0_sumOf_11 rfl ?_
    refine z_iadd dX0_sumOf_12 ?_
    refine z_aload_n 0 dX0_sumOf_13 rfl rfl ?_
    refine z_iload_n 3 dX0_sumOf_14 rfl rfl ?_
    obtain ⟨hi_1, hf⟩ := zck_some hf
    refine z_iald (zAr_t hi_1) hi_1.2 dX0_sumOf_15 ?_
    refine z_imul dX0_sumOf_16 ?_
    refine z_iadd dX0_sumOf_17 ?_
    refine z_ldcw q1364 dX0_sumOf_18 ?_
    refine z_irem dX0_sumOf_21 (by decide) ?_
    refine z_istore_n dX0_sumOf_22 rfl (by decide) (lc' := [(0, .ref x0), (1, .int x1), (2, .int ((x2 + ((x3 + 1) * (zI h x0 x3.toNatClampNeg))) - (x2 + ((x3 + 1) * (zI h x0 x3.toNatClampNeg))) / 65521 * 65521)), (3, .int x3)]) rfl ?_
    refine z_iinc 3 (x3 + 1) dX0_sumOf_23 rfl rfl (by decide) (lc' := [(0, .ref x0), (1, .int x1), (2, .int ((x2 + ((x3 + 1) * (zI h x0 x3.toNatClampNeg))) - (x2 + ((x3 + 1) * (zI h x0 x3.toNatClampNeg))) / 65521 * 65521)), (3, .int (x3 + 1))]) rfl ?_
    refine z_goto 4 dX0_sumOf_26 rfl ?_
    cases hf
    exact (hM.1 _ rfl)
noncomputable def fX0_sumOf (h : zH) (x0 : Nat) (x1 : Int32) : Option (Int32) := zlp (fun s => fX0_sumOf_L4 h x0 x1 s.1 s.2) (0, 0)
theorem zX0_sumOf {F : zF} {h : zH} {x0 : Nat} {x1 : Int32} {y : Int32} (hD : 1 ≤ F.2.1) (hf : fX0_sumOf h x0 x1 = some y) (hM : ((.inl (some (.int y)), h) : zX) = zEnd F) : Z F 4 cX0_sumOf RX0 "sumOf" (some .int) [] h 0 [(0, .ref x0), (1, .int x1)] [] := by
  unfold fX0_sumOf at hf
  refine z_iconst 0 dX0_sumOf_0 rfl ?_
  refine z_istore_n dX0_sumOf_1 rfl (by decide) (lc' := [(0, .ref x0), (1, .int x1), (2, .int 0)]) rfl ?_
  refine z_iconst 0 dX0_sumOf_2 rfl ?_
  refine z_istore_n dX0_sumOf_3 rfl (by decide) (lc' := [(0, .ref x0), (1, .int x1), (2, .int 0), (3, .int 0)]) rfl ?_
  exact z_loop (fun (s : Int32 × Int32) => Z F 4 cX0_sumOf RX0 "sumOf" (some .int) [] h 4 [(0, .ref x0), (1, .int x1), (2, .int s.1), (3, .int s.2)] []) (fun (r : Int32) => ((.inl (some (.int r)), h) : zX) = zEnd F) (fun s y hb hs hr => zX0_sumOf_L4 hD hb ⟨hs, hr⟩) hf hM
theorem ctX0_sumOf {l : Launch} {h : zH} {x0 : Nat} {x1 : Int32} {v : Int32} (hf : fX0_sumOf h x0 x1 = some v) : zC l yX0_sumOf (ws_ yX0_sumOf cX0_sumOf 4 (some .int)) 1 [.ref x0, .int x1] h (.inl (some (.int v)), h) :=
  z_start (by decide) (Nat.le_of_ble_eq_true rfl) (zX0_sumOf (F := (l, 1, h, (.inl (some (.int v)), h))) (Nat.le_refl _) hf rfl)
theorem suX0_399_5 : zIv RX0 399 yX7_put (ws_ yX7_put cX7_put 2 none) 2 5 1 := ⟨(zGood_c q1090 q107), ⟨_, _, rfl, rfl, q1964⟩, (Or.inl q1360), q1088, ⟨by decide, by decide⟩, by decide +kernel⟩
theorem fdX0_400_2 : zFd RX0 400 2 5 (.array .int) true := ⟨_, _, _, rfl, rfl, by decide, rfl, rfl, Or.inr ⟨_, q230⟩, Or.inl rfl⟩
theorem fdX0_402_2 : zFd RX0 402 2 7 (.array .int) true := ⟨_, _, _, rfl, rfl, by decide, rfl, rfl, Or.inr ⟨_, q234⟩, Or.inl rfl⟩
theorem fdX0_405_2 : zFd RX0 405 2 6 (.array .int) true := ⟨_, _, _, rfl, rfl, by decide, rfl, rfl, Or.inr ⟨_, q232⟩, Or.inl rfl⟩
noncomputable def fX0_send_L72 (h : zH) (a : Nat) (x2 : Nat) (x3 : Int32) (x4 : Int32) : Option ((zH × Int32) ⊕ ((zH) ⊕ ((zH × Int32) ⊕ ((zH) ⊕ (Int32 × zH))))) := if x4 < 0 then (some (.inr (.inl h))) else (zb1 (zP h a 25) (fun b_62 => zck (zTb h x2) (zck (vp_in x3 100) (zck (zRw h b_62 a) (zxv (fX7_put h b_62 a (((zI h (x2 + 2) x3.toNatClampNeg) >>> (((8 : Int32) * x4) &&& 31)) &&& 255)) (fun h_68 => some (.inl ((h_68, x4 + (-1))))) (fun e_69 h_70 => zck (zT h_70 e_69 = (2, 0)) (zck (zOb 1 h_70 e_69) (zb2 (fX0_answer h_70 a (zI h_70 e_69 6)) (fun v_75 h_76 => some (.inr (.inr (.inr (.inr ((v_75, h_76)))))))))))))))
theorem zX0_send_L72 {F : zF} {h : zH} {a : Nat} {x2 : Nat} {x3 : Int32} {x4 : Int32} {y : (zH × Int32) ⊕ ((zH) ⊕ ((zH × Int32) ⊕ ((zH) ⊕ (Int32 × zH))))} (hD : 122 ≤ F.2.1) (hL : zXx h a) (hf : fX0_send_L72 h a x2 x3 x4 = some y) (hM : ((∀ s' : zH × Int32, y = .inl s' → (zXx s'.1 a → Z F 5 cX0_send RX0 "send" (some .int) [(0, 303, 304, 18)] s'.1 72 [(0, .ref a), (2, .ref x2), (3, .int x3), (4, .int s'.2)] [])) ∧ ∀ r : (zH) ⊕ ((zH × Int32) ⊕ ((zH) ⊕ (Int32 × zH))), y = .inr r → (match r with | .inl t => (zXx t a → Z F 5 cX0_send RX0 "send" (some .int) [(0, 303, 304, 18)] t 106 [(0, .ref a), (2, .ref x2), (3, .int x3)] []) | .inr z => ((∀ s' : zH × Int32, z = .inl s' → (zXx s'.1 a → Z F 5 cX0_send RX0 "send" (some .int) [(0, 303, 304, 18)] s'.1 28 [(0, .ref a), (2, .ref x2), (3, .int s'.2)] [])) ∧ ∀ r : (zH) ⊕ (Int32 × zH), z = .inr r → (match r with | .inl t => (zXx t a → Z F 5 cX0_send RX0 "send" (some .int) [(0, 303, 304, 18)] t 170 [(0, .ref a), (2, .ref x2)] []) | .inr z => ((.inl (some (.int z.1)), z.2) : zX) = zEnd F))))) : Z F 5 cX0_send RX0 "send" (some .int) [(0, 303, 304, 18)] h 72 [(0, .ref a), (2, .ref x2), (3, .int x3), (4, .int x4)] [] := by
  unfold fX0_send_L72 at hf
  refine z_iload 3 dX0_send_72 rfl ?_
  refine z_if_lt 106 dX0_send_74 rfl hf (fun _ hf => ?_) (fun _ hf => ?_)
  · cases hf
    refine z_sub [0, 1, 2] rfl ?_
    exact (hM.2 _ rfl) hL
  · refine z_aload_n 0 dX0_send_77 rfl rfl ?_
    obtain ⟨b_62, hb_62, hf⟩ := zb1_some hf
    refine z_getr fdX0_106_0 (Or.inl ⟨_, rfl⟩) ((hL.b 0 rfl).t 0 rfl) hb_62 dX0_send_78 ?_
    refine z_aload_n 1 dX0_send_81 rfl rfl ?_
    obtain ⟨hK_63, hf⟩ := zck_some hf
    refine z_getr fdX0_405_2 (Or.inr ⟨_, rfl⟩) ((hK_63.b 0 rfl).t 0 rfl) ((hK_63.b 0 rfl).p 1 rfl) dX0_send_82 ?_
    refine z_iload_n 2 dX0_send_85 rfl rfl ?_
    obtain ⟨hi_64, hf⟩ := zck_some hf
    refine z_iald ((hK_63.b 0 rfl).t 2 rfl) hi_64 dX0_send_86 ?_
    refine z_bipush 8 dX0_send_87 rfl ?_
    refine z_iload 3 dX0_send_89 rfl ?_
    refine z_imul dX0_send_91 ?_
    refine z_ishr dX0_send_92 ?_
    refine z_sipush 255 dX0_send_93 rfl ?_
    refine z_iand dX0_send_96 ?_
    obtain ⟨hK_65, hf⟩ := zck_some hf
    rcases zxv_some hf with ⟨h_68, hc_66, hf⟩ | ⟨e_69, h_70, hc_71, hf⟩
    rotate_left
    · have hct := ctX7_put (l := F.1) hK_65 hc_71
      refine z_invVt suX0_399_5 hct ((hK_65.b 0 rfl).t 0 rfl) ⟨Nat.le_trans (by decide) hD, by decide⟩ rfl rfl (Nat.le_of_ble_eq_true rfl) dX0_send_97 ?_
      have hL := hL.ext hct.1
      have hK_63 := hK_63.ext hct.1
      have hK_65 := hK_65.ext hct.1
      obtain ⟨ht_72, hf⟩ := zck_some hf
      refine zt_catch (q := (RX1, TX1, 7)) rfl (by decide) q129 rfl rfl ht_72 ?_
      refine z_astore_n dX0_send_304 rfl (by decide) (lc' := [(0, .ref a), (2, .ref e_69), (3, .int x3), (4, .int x4)]) rfl ?_
      refine z_aload_n 0 dX0_send_305 rfl rfl ?_
      refine z_aload_n 1 dX0_send_306 rfl rfl ?_
      obtain ⟨hK_73, hf⟩ := zck_some hf
      refine z_geti fdX0_17_1 ((hK_73.b 0 rfl).t 0 rfl) dX0_send_307 ?_
      obtain ⟨v_75, h_76, hc_74, hf⟩ := zb2_some hf
      have hct := ctX0_answer (l := F.1) hL hc_74
      refine z_invVi suX0_163_0 hct ((hL.b 0 rfl).t 0 rfl) ⟨Nat.le_trans (by decide) hD, by decide⟩ rfl rfl (Nat.le_of_ble_eq_true rfl) dX0_send_310 ?_
      have hL := hL.ext hct.1
      have hK_63 := hK_63.ext hct.1
      have hK_65 := hK_65.ext hct.1
      have hK_73 := hK_73.ext hct.1
      cases hf
      exact z_iret dX0_send_313 rfl ((hM.2 _ rfl).2 _ rfl)
    have hct := ctX7_put (l := F.1) hK_65 hc_66
    refine z_invVv suX0_399_5 hct ((hK_65.b 0 rfl).t 0 rfl) ⟨Nat.le_trans (by decide) hD, by decide⟩ rfl rfl (Nat.le_of_ble_eq_true rfl) dX0_send_97 ?_
    have hL := hL.ext hct.1
    have hK_63 := hK_63.ext hct.1
    have hK_65 := hK_65.ext hct.1
    refine z_iinc 3 (x4 + (-1)) dX0_send_100 rfl rfl (by decide) (lc' := [(0, .ref a), (2, .ref x2), (3, .int x3), (4, .int (x4 + (-1)))]) rfl ?_
    refine z_goto 72 dX0_send_103 rfl ?_
    cases hf
    exact (hM.1 _ rfl) hL
theorem fdX0_408_2 : zFd RX0 408 2 8 (.array .int) true := ⟨_, _, _, rfl, rfl, by decide, rfl, rfl, Or.inr ⟨_, q236⟩, Or.inl rfl⟩
noncomputable def fX0_send_L109 (h : zH) (a : Nat) (x2 : Nat) (x3 : Int32) (x4 : Int32) : Option ((zH × Int32) ⊕ ((zH) ⊕ ((zH × Int32) ⊕ ((zH) ⊕ (Int32 × zH))))) := if x4 < 0 then (some (.inr (.inl h))) else (zb1 (zP h a 25) (fun b_78 => zck (zTb h x2) (zck (vp_in x3 100) (zck (zRw h b_78 a) (zxv (fX7_put h b_78 a (((zI h (x2 + 4) x3.toNatClampNeg) >>> (((8 : Int32) * x4) &&& 31)) &&& 255)) (fun h_84 => some (.inl ((h_84, x4 + (-1))))) (fun e_85 h_86 => zck (zT h_86 e_85 = (2, 0)) (zck (zOb 1 h_86 e_85) (zb2 (fX0_answer h_86 a (zI h_86 e_85 6)) (fun v_91 h_92 => some (.inr (.inr (.inr (.inr ((v_91, h_92)))))))))))))))
theorem zX0_send_L109 {F : zF} {h : zH} {a : Nat} {x2 : Nat} {x3 : Int32} {x4 : Int32} {y : (zH × Int32) ⊕ ((zH) ⊕ ((zH × Int32) ⊕ ((zH) ⊕ (Int32 × zH))))} (hD : 122 ≤ F.2.1) (hL : zXx h a) (hf : fX0_send_L109 h a x2 x3 x4 = some y) (hM : ((∀ s' : zH × Int32, y = .inl s' → (zXx s'.1 a → Z F 5 cX0_send RX0 "send" (some .int) [(0, 303, 304, 18)] s'.1 109 [(0, .ref a), (2, .ref x2), (3, .int x3), (4, .int s'.2)] [])) ∧ ∀ r : (zH) ⊕ ((zH × Int32) ⊕ ((zH) ⊕ (Int32 × zH))), y = .inr r → (match r with | .inl t => (zXx t a → Z F 5 cX0_send RX0 "send" (some .int) [(0, 303, 304, 18)] t 143 [(0, .ref a), (2, .ref x2), (3, .int x3)] []) | .inr z => ((∀ s' : zH × Int32, z = .inl s' → (zXx s'.1 a → Z F 5 cX0_send RX0 "send" (some .int) [(0, 303, 304, 18)] s'.1 28 [(0, .ref a), (2, .ref x2), (3, .int s'.2)] [])) ∧ ∀ r : (zH) ⊕ (Int32 × zH), z = .inr r → (match r with | .inl t => (zXx t a → Z F 5 cX0_send RX0 "send" (some .int) [(0, 303, 304, 18)] t 170 [(0, .ref a), (2, .ref x2)] []) | .inr z => ((.inl (some (.int z.1)), z.2) : zX) = zEnd F))))) : Z F 5 cX0_send RX0 "send" (some .int) [(0, 303, 304, 18)] h 109 [(0, .ref a), (2, .ref x2), (3, .int x3), (4, .int x4)] [] := by
  unfold fX0_send_L109 at hf
  refine z_iload 3 dX0_send_109 rfl ?_
  refine z_if_lt 143 dX0_send_111 rfl hf (fun _ hf => ?_) (fun _ hf => ?_)
  · cases hf
    refine z_sub [0, 1, 2] rfl ?_
    exact (hM.2 _ rfl) hL
  · refine z_aload_n 0 dX0_send_114 rfl rfl ?_
    obtain ⟨b_78, hb_78, hf⟩ := zb1_some hf
    refine z_getr fdX0_106_0 (Or.inl ⟨_, rfl⟩) ((hL.b 0 rfl).t 0 rfl) hb_78 dX0_send_115 ?_
    refine z_aload_n 1 dX0_send_118 rfl rfl ?_
    obtain ⟨hK_79, hf⟩ := zck_some hf
    refine z_getr fdX0_408_2 (Or.inr ⟨_, rfl⟩) ((hK_79.b 0 rfl).t 0 rfl) ((hK_79.b 0 rfl).p 3 rfl) dX0_send_119 ?_
    refine z_iload_n 2 dX0_send_122 rfl rfl ?_
    obtain ⟨hi_80, hf⟩ := zck_some hf
    refine z_iald ((hK_79.b 0 rfl).t 4 rfl) hi_80 dX0_send_123 ?_
    refine z_bipush 8 dX0_send_124 rfl ?_
    refine z_iload 3 dX0_send_126 rfl ?_
    refine z_imul dX0_send_128 ?_
    refine z_ishr dX0_send_129 ?_
    refine z_sipush 255 dX0_send_130 rfl ?_
    refine z_iand dX0_send_133 ?_
    obtain ⟨hK_81, hf⟩ := zck_some hf
    rcases zxv_some hf with ⟨h_84, hc_82, hf⟩ | ⟨e_85, h_86, hc_87, hf⟩
    rotate_left
    · have hct := ctX7_put (l := F.1) hK_81 hc_87
      refine z_invVt suX0_399_5 hct ((hK_81.b 0 rfl).t 0 rfl) ⟨Nat.le_trans (by decide) hD, by decide⟩ rfl rfl (Nat.le_of_ble_eq_true rfl) dX0_send_134 ?_
      have hL := hL.ext hct.1
      have hK_79 := hK_79.ext hct.1
      have hK_81 := hK_81.ext hct.1
      obtain ⟨ht_88, hf⟩ := zck_some hf
      refine zt_catch (q := (RX1, TX1, 7)) rfl (by decide) q129 rfl rfl ht_88 ?_
      refine z_astore_n dX0_send_304 rfl (by decide) (lc' := [(0, .ref a), (2, .ref e_85), (3, .int x3), (4, .int x4)]) rfl ?_
      refine z_aload_n 0 dX0_send_305 rfl rfl ?_
      refine z_aload_n 1 dX0_send_306 rfl rfl ?_
      obtain ⟨hK_89, hf⟩ := zck_some hf
      refine z_geti fdX0_17_1 ((hK_89.b 0 rfl).t 0 rfl) dX0_send_307 ?_
      obtain ⟨v_91, h_92, hc_90, hf⟩ := zb2_some hf
      have hct := ctX0_answer (l := F.1) hL hc_90
      refine z_invVi suX0_163_0 hct ((hL.b 0 rfl).t 0 rfl) ⟨Nat.le_trans (by decide) hD, by decide⟩ rfl rfl (Nat.le_of_ble_eq_true rfl) dX0_send_310 ?_
      have hL := hL.ext hct.1
      have hK_79 := hK_79.ext hct.1
      have hK_81 := hK_81.ext hct.1
      have hK_89 := hK_89.ext hct.1
      cases hf
      exact z_iret dX0_send_313 rfl ((hM.2 _ rfl).2 _ rfl)
    have hct := ctX7_put (l := F.1) hK_81 hc_82
    refine z_invVv suX0_399_5 hct ((hK_81.b 0 rfl).t 0 rfl) ⟨Nat.le_trans (by decide) hD, by decide⟩ rfl rfl (Nat.le_of_ble_eq_true rfl) dX0_send_134 ?_
    have hL := hL.ext hct.1
    have hK_79 := hK_79.ext hct.1
    have hK_81 := hK_81.ext hct.1
    refine z_iinc 3 (x4 + (-1)) dX0_send_137 rfl rfl (by decide) (lc' := [(0, .ref a), (2, .ref x2), (3, .int x3), (4, .int (x4 + (-1)))]) rfl ?_
    refine z_goto 109 dX0_send_140 rfl ?_
    cases hf
    exact (hM.1 _ rfl) hL
theorem fdX0_411_2 : zFd RX0 411 2 9 (.array .boolean) true := ⟨_, _, _, rfl, rfl, by decide, rfl, rfl, Or.inr ⟨_, q238⟩, Or.inl rfl⟩
noncomputable def fX0_send_L28 (h : zH) (a : Nat) (x2 : Nat) (x3 : Int32) : Option ((zH × Int32) ⊕ ((zH) ⊕ (Int32 × zH))) := zck (zTb h x2) (if (zI h x2 4) ≤ x3 then (some (.inr (.inl h))) else (zb1 (zP h a 25) (fun b_33 => zck (vp_in x3 100) (zck (zRw h b_33 a) (zxv (fX7_put h b_33 a (zI h (x2 + 1) x3.toNatClampNeg)) (fun h_38 => zb1 (zP h_38 a 25) (fun b_47 => zck (vp_in x3 100) (zck (zRw h_38 b_47 a) (zxv (fX7_put h_38 b_47 a (zI h_38 (x2 + 3) x3.toNatClampNeg)) (fun h_52 => zck (vp_in x3 100) (zlx (zlp (fun s => fX0_send_L72 s.1 a x2 x3 s.2) (h_52, (zI h_52 (x2 + 3) x3.toNatClampNeg) - 1)) (fun t_77 => zlx (zlp (fun s => fX0_send_L109 s.1 a x2 x3 s.2) (t_77, 2)) (fun t_93 => zb1 (zP t_93 a 25) (fun b_94 => zck (zTb t_93 x2) (zck (vp_in x3 100) (if (zI t_93 (x2 + 5) x3.toNatClampNeg) = 0 then (zck (zRw t_93 b_94 a) (zxv (fX7_put t_93 b_94 a 0) (fun h_100 => some (.inl ((h_100, x3 + 1)))) (fun e_101 h_102 => zck (zT h_102 e_101 = (2, 0)) (zck (zOb 1 h_102 e_101) (zb2 (fX0_answer h_102 a (zI h_102 e_101 6)) (fun v_107 h_108 => some (.inr (.inr ((v_107, h_108)))))))))) else (zck (zRw t_93 b_94 a) (zxv (fX7_put t_93 b_94 a 1) (fun h_112 => some (.inl ((h_112, x3 + 1)))) (fun e_113 h_114 => zck (zT h_114 e_113 = (2, 0)) (zck (zOb 1 h_114 e_113) (zb2 (fX0_answer h_114 a (zI h_114 e_113 6)) (fun v_119 h_120 => some (.inr (.inr ((v_119, h_120))))))))))))))))) (fun e_53 h_54 => zck (zT h_54 e_53 = (2, 0)) (zck (zOb 1 h_54 e_53) (zb2 (fX0_answer h_54 a (zI h_54 e_53 6)) (fun v_59 h_60 => some (.inr (.inr ((v_59, h_60)))))))))))) (fun e_39 h_40 => zck (zT h_40 e_39 = (2, 0)) (zck (zOb 1 h_40 e_39) (zb2 (fX0_answer h_40 a (zI h_40 e_39 6)) (fun v_45 h_46 => some (.inr (.inr ((v_45, h_46)))))))))))))
theorem zX0_send_L28 {F : zF} {h : zH} {a : Nat} {x2 : Nat} {x3 : Int32} {y : (zH × Int32) ⊕ ((zH) ⊕ (Int32 × zH))} (hD : 122 ≤ F.2.1) (hL : zXx h a) (hf : fX0_send_L28 h a x2 x3 = some y) (hM : ((∀ s' : zH × Int32, y = .inl s' → (zXx s'.1 a → Z F 5 cX0_send RX0 "send" (some .int) [(0, 303, 304, 18)] s'.1 28 [(0, .ref a), (2, .ref x2), (3, .int s'.2)] [])) ∧ ∀ r : (zH) ⊕ (Int32 × zH), y = .inr r → (match r with | .inl t => (zXx t a → Z F 5 cX0_send RX0 "send" (some .int) [(0, 303, 304, 18)] t 170 [(0, .ref a), (2, .ref x2)] []) | .inr z => ((.inl (some (.int z.1)), z.2) : zX) = zEnd F))) : Z F 5 cX0_send RX0 "send" (some .int) [(0, 303, 304, 18)] h 28 [(0, .ref a), (2, .ref x2), (3, .int x3)] [] := by
  unfold fX0_send_L28 at hf
  refine z_iload_n 2 dX0_send_28 rfl rfl ?_
  refine z_aload_n 1 dX0_send_29 rfl rfl ?_
  obtain ⟨hK_32, hf⟩ := zck_some hf
  refine z_geti fdX0_203_2 ((hK_32.b 0 rfl).t 0 rfl) dX0_send_30 ?_
  refine z_icmp_ge 170 dX0_send_33 rfl hf (fun _ hf => ?_) (fun _ hf => ?_)
  · cases hf
    refine z_sub [0, 1] rfl ?_
    exact (hM.2 _ rfl) hL
  · refine z_aload_n 0 dX0_send_36 rfl rfl ?_
    obtain ⟨b_33, hb_33, hf⟩ := zb1_some hf
    refine z_getr fdX0_106_0 (Or.inl ⟨_, rfl⟩) ((hL.b 0 rfl).t 0 rfl) hb_33 dX0_send_37 ?_
    refine z_aload_n 1 dX0_send_40 rfl rfl ?_
    refine z_getr fdX0_400_2 (Or.inr ⟨_, rfl⟩) ((hK_32.b 0 rfl).t 0 rfl) ((hK_32.b 0 rfl).p 0 rfl) dX0_send_41 ?_
    refine z_iload_n 2 dX0_send_44 rfl rfl ?_
    obtain ⟨hi_34, hf⟩ := zck_some hf
    refine z_iald ((hK_32.b 0 rfl).t 1 rfl) hi_34 dX0_send_45 ?_
    obtain ⟨hK_35, hf⟩ := zck_some hf
    rcases zxv_some hf with ⟨h_38, hc_36, hf⟩ | ⟨e_39, h_40, hc_41, hf⟩
    rotate_left
    · have hct := ctX7_put (l := F.1) hK_35 hc_41
      refine z_invVt suX0_399_5 hct ((hK_35.b 0 rfl).t 0 rfl) ⟨Nat.le_trans (by decide) hD, by decide⟩ rfl rfl (Nat.le_of_ble_eq_true rfl) dX0_send_46 ?_
      have hL := hL.ext hct.1
      have hK_32 := hK_32.ext hct.1
      have hK_35 := hK_35.ext hct.1
      obtain ⟨ht_42, hf⟩ := zck_some hf
      refine zt_catch (q := (RX1, TX1, 7)) rfl (by decide) q129 rfl rfl ht_42 ?_
      refine z_astore_n dX0_send_304 rfl (by decide) (lc' := [(0, .ref a), (2, .ref e_39), (3, .int x3)]) rfl ?_
      refine z_aload_n 0 dX0_send_305 rfl rfl ?_
      refine z_aload_n 1 dX0_send_306 rfl rfl ?_
      obtain ⟨hK_43, hf⟩ := zck_some hf
      refine z_geti fdX0_17_1 ((hK_43.b 0 rfl).t 0 rfl) dX0_send_307 ?_
      obtain ⟨v_45, h_46, hc_44, hf⟩ := zb2_some hf
      have hct := ctX0_answer (l := F.1) hL hc_44
      refine z_invVi suX0_163_0 hct ((hL.b 0 rfl).t 0 rfl) ⟨Nat.le_trans (by decide) hD, by decide⟩ rfl rfl (Nat.le_of_ble_eq_true rfl) dX0_send_310 ?_
      have hL := hL.ext hct.1
      have hK_32 := hK_32.ext hct.1
      have hK_35 := hK_35.ext hct.1
      have hK_43 := hK_43.ext hct.1
      cases hf
      exact z_iret dX0_send_313 rfl (hM.2 _ rfl)
    have hct := ctX7_put (l := F.1) hK_35 hc_36
    refine z_invVv suX0_399_5 hct ((hK_35.b 0 rfl).t 0 rfl) ⟨Nat.le_trans (by decide) hD, by decide⟩ rfl rfl (Nat.le_of_ble_eq_true rfl) dX0_send_46 ?_
    have hL := hL.ext hct.1
    have hK_32 := hK_32.ext hct.1
    have hK_35 := hK_35.ext hct.1
    refine z_aload_n 0 dX0_send_49 rfl rfl ?_
    obtain ⟨b_47, hb_47, hf⟩ := zb1_some hf
    refine z_getr fdX0_106_0 (Or.inl ⟨_, rfl⟩) ((hL.b 0 rfl).t 0 rfl) hb_47 dX0_send_50 ?_
    refine z_aload_n 1 dX0_send_53 rfl rfl ?_
    refine z_getr fdX0_402_2 (Or.inr ⟨_, rfl⟩) ((hK_32.b 0 rfl).t 0 rfl) ((hK_32.b 0 rfl).p 2 rfl) dX0_send_54 ?_
    refine z_iload_n 2 dX0_send_57 rfl rfl ?_
    obtain ⟨hi_48, hf⟩ := zck_some hf
    refine z_iald ((hK_32.b 0 rfl).t 3 rfl) hi_48 dX0_send_58 ?_
    obtain ⟨hK_49, hf⟩ := zck_some hf
    rcases zxv_some hf with ⟨h_52, hc_50, hf⟩ | ⟨e_53, h_54, hc_55, hf⟩
    rotate_left
    · have hct := ctX7_put (l := F.1) hK_49 hc_55
      refine z_invVt suX0_399_5 hct ((hK_49.b 0 rfl).t 0 rfl) ⟨Nat.le_trans (by decide) hD, by decide⟩ rfl rfl (Nat.le_of_ble_eq_true rfl) dX0_send_59 ?_
      have hL := hL.ext hct.1
      have hK_32 := hK_32.ext hct.1
      have hK_35 := hK_35.ext hct.1
      have hK_49 := hK_49.ext hct.1
      obtain ⟨ht_56, hf⟩ := zck_some hf
      refine zt_catch (q := (RX1, TX1, 7)) rfl (by decide) q129 rfl rfl ht_56 ?_
      refine z_astore_n dX0_send_304 rfl (by decide) (lc' := [(0, .ref a), (2, .ref e_53), (3, .int x3)]) rfl ?_
      refine z_aload_n 0 dX0_send_305 rfl rfl ?_
      refine z_aload_n 1 dX0_send_306 rfl rfl ?_
      obtain ⟨hK_57, hf⟩ := zck_some hf
      refine z_geti fdX0_17_1 ((hK_57.b 0 rfl).t 0 rfl) dX0_send_307 ?_
      obtain ⟨v_59, h_60, hc_58, hf⟩ := zb2_some hf
      have hct := ctX0_answer (l := F.1) hL hc_58
      refine z_invVi suX0_163_0 hct ((hL.b 0 rfl).t 0 rfl) ⟨Nat.le_trans (by decide) hD, by decide⟩ rfl rfl (Nat.le_of_ble_eq_true rfl) dX0_send_310 ?_
      have hL := hL.ext hct.1
      have hK_32 := hK_32.ext hct.1
      have hK_35 := hK_35.ext hct.1
      have hK_49 := hK_49.ext hct.1
      have hK_57 := hK_57.ext hct.1
      cases hf
      exact z_iret dX0_send_313 rfl (hM.2 _ rfl)
    have hct := ctX7_put (l := F.1) hK_49 hc_50
    refine z_invVv suX0_399_5 hct ((hK_49.b 0 rfl).t 0 rfl) ⟨Nat.le_trans (by decide) hD, by decide⟩ rfl rfl (Nat.le_of_ble_eq_true rfl) dX0_send_59 ?_
    have hL := hL.ext hct.1
    have hK_32 := hK_32.ext hct.1
    have hK_35 := hK_35.ext hct.1
    have hK_49 := hK_49.ext hct.1
    refine z_aload_n 1 dX0_send_62 rfl rfl ?_
    refine z_getr fdX0_402_2 (Or.inr ⟨_, rfl⟩) ((hK_32.b 0 rfl).t 0 rfl) ((hK_32.b 0 rfl).p 2 rfl) dX0_send_63 ?_
    refine z_iload_n 2 dX0_send_66 rfl rfl ?_
    obtain ⟨hi_61, hf⟩ := zck_some hf
    refine z_iald ((hK_32.b 0 rfl).t 3 rfl) hi_61 dX0_send_67 ?_
    refine z_iconst 1 dX0_send_68 rfl ?_
    refine z_isub dX0_send_69 ?_
    refine z_istore dX0_send_70 (by decide) (lc' := [(0, .ref a), (2, .ref x2), (3, .int x3), (4, .int ((zI h_52 (x2 + 3) x3.toNatClampNeg) - 1))]) rfl ?_
    obtain ⟨rr, hl, hf⟩ := zlx_some hf
    refine z_loop (fun (s : zH × Int32) => (zXx s.1 a → Z F 5 cX0_send RX0 "send" (some .int) [(0, 303, 304, 18)] s.1 72 [(0, .ref a), (2, .ref x2), (3, .int x3), (4, .int s.2)] [])) (fun (r : (zH) ⊕ ((zH × Int32) ⊕ ((zH) ⊕ (Int32 × zH)))) => (match r with | .inl t => (zXx t a → Z F 5 cX0_send RX0 "send" (some .int) [(0, 303, 304, 18)] t 106 [(0, .ref a), (2, .ref x2), (3, .int x3)] []) | .inr z => ((∀ s' : zH × Int32, z = .inl s' → (zXx s'.1 a → Z F 5 cX0_send RX0 "send" (some .int) [(0, 303, 304, 18)] s'.1 28 [(0, .ref a), (2, .ref x2), (3, .int s'.2)] [])) ∧ ∀ r : (zH) ⊕ (Int32 × zH), z = .inr r → (match r with | .inl t => (zXx t a → Z F 5 cX0_send RX0 "send" (some .int) [(0, 303, 304, 18)] t 170 [(0, .ref a), (2, .ref x2)] []) | .inr z => ((.inl (some (.int z.1)), z.2) : zX) = zEnd F)))) (fun s y hb hs hr hL => zX0_send_L72 hD hL hb ⟨hs, hr⟩) hl ?_ hL
    rcases hf with ⟨t_77, rfl, hf⟩ | rfl
    · intro hL
      show Z F 5 cX0_send RX0 "send" (some .int) [(0, 303, 304, 18)] t_77 106 [(0, .ref a), (2, .ref x2), (3, .int x3)] []
      refine z_iconst 2 dX0_send_106 rfl ?_
      refine z_istore dX0_send_107 (by decide) (lc' := [(0, .ref a), (2, .ref x2), (3, .int x3), (4, .int 2)]) rfl ?_
      obtain ⟨rr, hl, hf⟩ := zlx_some hf
      refine z_loop (fun (s : zH × Int32) => (zXx s.1 a → Z F 5 cX0_send RX0 "send" (some .int) [(0, 303, 304, 18)] s.1 109 [(0, .ref a), (2, .ref x2), (3, .int x3), (4, .int s.2)] [])) (fun (r : (zH) ⊕ ((zH × Int32) ⊕ ((zH) ⊕ (Int32 × zH)))) => (match r with | .inl t => (zXx t a → Z F 5 cX0_send RX0 "send" (some .int) [(0, 303, 304, 18)] t 143 [(0, .ref a), (2, .ref x2), (3, .int x3)] []) | .inr z => ((∀ s' : zH × Int32, z = .inl s' → (zXx s'.1 a → Z F 5 cX0_send RX0 "send" (some .int) [(0, 303, 304, 18)] s'.1 28 [(0, .ref a), (2, .ref x2), (3, .int s'.2)] [])) ∧ ∀ r : (zH) ⊕ (Int32 × zH), z = .inr r → (match r with | .inl t => (zXx t a → Z F 5 cX0_send RX0 "send" (some .int) [(0, 303, 304, 18)] t 170 [(0, .ref a), (2, .ref x2)] []) | .inr z => ((.inl (some (.int z.1)), z.2) : zX) = zEnd F)))) (fun s y hb hs hr hL => zX0_send_L109 hD hL hb ⟨hs, hr⟩) hl ?_ hL
      rcases hf with ⟨t_93, rfl, hf⟩ | rfl
      · intro hL
        show Z F 5 cX0_send RX0 "send" (some .int) [(0, 303, 304, 18)] t_93 143 [(0, .ref a), (2, .ref x2), (3, .int x3)] []
        refine z_aload_n 0 dX0_send_143 rfl rfl ?_
        obtain ⟨b_94, hb_94, hf⟩ := zb1_some hf
        refine z_getr fdX0_106_0 (Or.inl ⟨_, rfl⟩) ((hL.b 0 rfl).t 0 rfl) hb_94 dX0_send_144 ?_
        refine z_aload_n 1 dX0_send_147 rfl rfl ?_
        obtain ⟨hK_95, hf⟩ := zck_some hf
        refine z_getr fdX0_411_2 (Or.inr ⟨_, rfl⟩) ((hK_95.b 0 rfl).t 0 rfl) ((hK_95.b 0 rfl).p 4 rfl) dX0_send_148 ?_
        refine z_iload_n 2 dX0_send_151 rfl rfl ?_
        obtain ⟨hi_96, hf⟩ := zck_some hf
        refine z_zald ((hK_95.b 0 rfl).t 5 rfl) hi_96 dX0_send_152 ?_
        refine z_if_eq 160 dX0_send_153 rfl hf (fun _ hf => ?_) (fun _ hf => ?_)
        · refine z_iconst 0 dX0_send_160 rfl ?_
          obtain ⟨hK_97, hf⟩ := zck_some hf
          rcases zxv_some hf with ⟨h_100, hc_98, hf⟩ | ⟨e_101, h_102, hc_103, hf⟩
          rotate_left
          · have hct := ctX7_put (l := F.1) hK_97 hc_103
            refine z_invVt suX0_399_5 hct ((hK_97.b 0 rfl).t 0 rfl) ⟨Nat.le_trans (by decide) hD, by decide⟩ rfl rfl (Nat.le_of_ble_eq_true rfl) dX0_send_161 ?_
            have hL := hL.ext hct.1
            have hK_95 := hK_95.ext hct.1
            have hK_97 := hK_97.ext hct.1
            obtain ⟨ht_104, hf⟩ := zck_some hf
            refine zt_catch (q := (RX1, TX1, 7)) rfl (by decide) q129 rfl rfl ht_104 ?_
            refine z_astore_n dX0_send_304 rfl (by decide) (lc' := [(0, .ref a), (2, .ref e_101), (3, .int x3)]) rfl ?_
            refine z_aload_n 0 dX0_send_305 rfl rfl ?_
            refine z_aload_n 1 dX0_send_306 rfl rfl ?_
            obtain ⟨hK_105, hf⟩ := zck_some hf
            refine z_geti fdX0_17_1 ((hK_105.b 0 rfl).t 0 rfl) dX0_send_307 ?_
            obtain ⟨v_107, h_108, hc_106, hf⟩ := zb2_some hf
            have hct := ctX0_answer (l := F.1) hL hc_106
            refine z_invVi suX0_163_0 hct ((hL.b 0 rfl).t 0 rfl) ⟨Nat.le_trans (by decide) hD, by decide⟩ rfl rfl (Nat.le_of_ble_eq_true rfl) dX0_send_310 ?_
            have hL := hL.ext hct.1
            have hK_95 := hK_95.ext hct.1
            have hK_97 := hK_97.ext hct.1
            have hK_105 := hK_105.ext hct.1
            cases hf
            exact z_iret dX0_send_313 rfl (hM.2 _ rfl)
          have hct := ctX7_put (l := F.1) hK_97 hc_98
          refine z_invVv suX0_399_5 hct ((hK_97.b 0 rfl).t 0 rfl) ⟨Nat.le_trans (by decide) hD, by decide⟩ rfl rfl (Nat.le_of_ble_eq_true rfl) dX0_send_161 ?_
          have hL := hL.ext hct.1
          have hK_95 := hK_95.ext hct.1
          have hK_97 := hK_97.ext hct.1
          refine z_iinc 2 (x3 + 1) dX0_send_164 rfl rfl (by decide) (lc' := [(0, .ref a), (2, .ref x2), (3, .int (x3 + 1))]) rfl ?_
          refine z_goto 28 dX0_send_167 rfl ?_
          cases hf
          exact (hM.1 _ rfl) hL
        · refine z_iconst 1 dX0_send_156 rfl ?_
          refine z_goto 161 dX0_send_157 rfl ?_
          obtain ⟨hK_109, hf⟩ := zck_some hf
          rcases zxv_some hf with ⟨h_112, hc_110, hf⟩ | ⟨e_113, h_114, hc_115, hf⟩
          rotate_left
          · have hct := ctX7_put (l := F.1) hK_109 hc_115
            refine z_invVt suX0_399_5 hct ((hK_109.b 0 rfl).t 0 rfl) ⟨Nat.le_trans (by decide) hD, by decide⟩ rfl rfl (Nat.le_of_ble_eq_true rfl) dX0_send_161 ?_
            have hL := hL.ext hct.1
            have hK_95 := hK_95.ext hct.1
            have hK_109 := hK_109.ext hct.1
            obtain ⟨ht_116, hf⟩ := zck_some hf
            refine zt_catch (q := (RX1, TX1, 7)) rfl (by decide) q129 rfl rfl ht_116 ?_
            refine z_astore_n dX0_send_304 rfl (by decide) (lc' := [(0, .ref a), (2, .ref e_113), (3, .int x3)]) rfl ?_
            refine z_aload_n 0 dX0_send_305 rfl rfl ?_
            refine z_aload_n 1 dX0_send_306 rfl rfl ?_
            obtain ⟨hK_117, hf⟩ := zck_some hf
            refine z_geti fdX0_17_1 ((hK_117.b 0 rfl).t 0 rfl) dX0_send_307 ?_
            obtain ⟨v_119, h_120, hc_118, hf⟩ := zb2_some hf
            have hct := ctX0_answer (l := F.1) hL hc_118
            refine z_invVi suX0_163_0 hct ((hL.b 0 rfl).t 0 rfl) ⟨Nat.le_trans (by decide) hD, by decide⟩ rfl rfl (Nat.le_of_ble_eq_true rfl) dX0_send_310 ?_
            have hL := hL.ext hct.1
            have hK_95 := hK_95.ext hct.1
            have hK_109 := hK_109.ext hct.1
            have hK_117 := hK_117.ext hct.1
            cases hf
            exact z_iret dX0_send_313 rfl (hM.2 _ rfl)
          have hct := ctX7_put (l := F.1) hK_109 hc_110
          refine z_invVv suX0_399_5 hct ((hK_109.b 0 rfl).t 0 rfl) ⟨Nat.le_trans (by decide) hD, by decide⟩ rfl rfl (Nat.le_of_ble_eq_true rfl) dX0_send_161 ?_
          have hL := hL.ext hct.1
          have hK_95 := hK_95.ext hct.1
          have hK_109 := hK_109.ext hct.1
          refine z_iinc 2 (x3 + 1) dX0_send_164 rfl rfl (by decide) (lc' := [(0, .ref a), (2, .ref x2), (3, .int (x3 + 1))]) rfl ?_
          refine z_goto 28 dX0_send_167 rfl ?_
          cases hf
          exact (hM.1 _ rfl) hL
      · exact hM
    · exact hM
theorem fdX0_415_2 : zFd RX0 415 2 11 (.array .int) true := ⟨_, _, _, rfl, rfl, by decide, rfl, rfl, Or.inr ⟨_, q242⟩, Or.inl rfl⟩
theorem fdX0_418_2 : zFd RX0 418 2 12 (.array .int) true := ⟨_, _, _, rfl, rfl, by decide, rfl, rfl, Or.inr ⟨_, q244⟩, Or.inl rfl⟩
theorem fdX0_421_2 : zFd RX0 421 2 13 (.array .int) true := ⟨_, _, _, rfl, rfl, by decide, rfl, rfl, Or.inr ⟨_, q246⟩, Or.inl rfl⟩
theorem fdX0_424_2 : zFd RX0 424 2 14 (.array .boolean) true := ⟨_, _, _, rfl, rfl, by decide, rfl, rfl, Or.inr ⟨_, q248⟩, Or.inl rfl⟩
noncomputable def fX0_send_L183 (h : zH) (a : Nat) (x2 : Nat) (x3 : Int32) : Option ((zH × Int32) ⊕ ((zH) ⊕ (Int32 × zH))) := zck (zTb h x2) (if (zI h x2 10) ≤ x3 then (some (.inr (.inl h))) else (zb1 (zP h a 25) (fun b_137 => zck (vp_in x3 10) (zck (zRw h b_137 a) (zxv (fX7_put h b_137 a (zI h (x2 + 6) x3.toNatClampNeg)) (fun h_142 => zb1 (zP h_142 a 25) (fun b_151 => zck (vp_in x3 10) (zck (zRw h_142 b_151 a) (zxv (fX7_put h_142 b_151 a (zI h_142 (x2 + 7) x3.toNatClampNeg)) (fun h_156 => zb1 (zP h_156 a 25) (fun b_165 => zck (vp_in x3 10) (zck (zRw h_156 b_165 a) (zxv (fX7_put h_156 b_165 a (zI h_156 (x2 + 8) x3.toNatClampNeg)) (fun h_170 => zb1 (zP h_170 a 25) (fun b_179 => zck (vp_in x3 10) (if (zI h_170 (x2 + 9) x3.toNatClampNeg) = 0 then (zck (zRw h_170 b_179 a) (zxv (fX7_put h_170 b_179 a 0) (fun h_184 => some (.inl ((h_184, x3 + 1)))) (fun e_185 h_186 => zck (zT h_186 e_185 = (2, 0)) (zck (zOb 1 h_186 e_185) (zb2 (fX0_answer h_186 a (zI h_186 e_185 6)) (fun v_191 h_192 => some (.inr (.inr ((v_191, h_192)))))))))) else (zck (zRw h_170 b_179 a) (zxv (fX7_put h_170 b_179 a 1) (fun h_196 => some (.inl ((h_196, x3 + 1)))) (fun e_197 h_198 => zck (zT h_198 e_197 = (2, 0)) (zck (zOb 1 h_198 e_197) (zb2 (fX0_answer h_198 a (zI h_198 e_197 6)) (fun v_203 h_204 => some (.inr (.inr ((v_203, h_204))))))))))))) (fun e_171 h_172 => zck (zT h_172 e_171 = (2, 0)) (zck (zOb 1 h_172 e_171) (zb2 (fX0_answer h_172 a (zI h_172 e_171 6)) (fun v_177 h_178 => some (.inr (.inr ((v_177, h_178)))))))))))) (fun e_157 h_158 => zck (zT h_158 e_157 = (2, 0)) (zck (zOb 1 h_158 e_157) (zb2 (fX0_answer h_158 a (zI h_158 e_157 6)) (fun v_163 h_164 => some (.inr (.inr ((v_163, h_164)))))))))))) (fun e_143 h_144 => zck (zT h_144 e_143 = (2, 0)) (zck (zOb 1 h_144 e_143) (zb2 (fX0_answer h_144 a (zI h_144 e_143 6)) (fun v_149 h_150 => some (.inr (.inr ((v_149, h_150)))))))))))))
theorem zX0_send_L183 {F : zF} {h : zH} {a : Nat} {x2 : Nat} {x3 : Int32} {y : (zH × Int32) ⊕ ((zH) ⊕ (Int32 × zH))} (hD : 122 ≤ F.2.1) (hL : zXx h a) (hf : fX0_send_L183 h a x2 x3 = some y) (hM : ((∀ s' : zH × Int32, y = .inl s' → (zXx s'.1 a → Z F 5 cX0_send RX0 "send" (some .int) [(0, 303, 304, 18)] s'.1 183 [(0, .ref a), (2, .ref x2), (3, .int s'.2)] [])) ∧ ∀ r : (zH) ⊕ (Int32 × zH), y = .inr r → (match r with | .inl t => (zXx t a → Z F 5 cX0_send RX0 "send" (some .int) [(0, 303, 304, 18)] t 257 [(0, .ref a)] []) | .inr z => ((.inl (some (.int z.1)), z.2) : zX) = zEnd F))) : Z F 5 cX0_send RX0 "send" (some .int) [(0, 303, 304, 18)] h 183 [(0, .ref a), (2, .ref x2), (3, .int x3)] [] := by
  unfold fX0_send_L183 at hf
  refine z_iload_n 2 dX0_send_183 rfl rfl ?_
  refine z_aload_n 1 dX0_send_184 rfl rfl ?_
  obtain ⟨hK_136, hf⟩ := zck_some hf
  refine z_geti fdX0_214_2 ((hK_136.b 0 rfl).t 0 rfl) dX0_send_185 ?_
  refine z_icmp_ge 257 dX0_send_188 rfl hf (fun _ hf => ?_) (fun _ hf => ?_)
  · cases hf
    refine z_sub [0] rfl ?_
    exact (hM.2 _ rfl) hL
  · refine z_aload_n 0 dX0_send_191 rfl rfl ?_
    obtain ⟨b_137, hb_137, hf⟩ := zb1_some hf
    refine z_getr fdX0_106_0 (Or.inl ⟨_, rfl⟩) ((hL.b 0 rfl).t 0 rfl) hb_137 dX0_send_192 ?_
    refine z_aload_n 1 dX0_send_195 rfl rfl ?_
    refine z_getr fdX0_415_2 (Or.inr ⟨_, rfl⟩) ((hK_136.b 0 rfl).t 0 rfl) ((hK_136.b 0 rfl).p 5 rfl) dX0_send_196 ?_
    refine z_iload_n 2 dX0_send_199 rfl rfl ?_
    obtain ⟨hi_138, hf⟩ := zck_some hf
    refine z_iald ((hK_136.b 0 rfl).t 6 rfl) hi_138 dX0_send_200 ?_
    obtain ⟨hK_139, hf⟩ := zck_some hf
    rcases zxv_some hf with ⟨h_142, hc_140, hf⟩ | ⟨e_143, h_144, hc_145, hf⟩
    rotate_left
    · have hct := ctX7_put (l := F.1) hK_139 hc_145
      refine z_invVt suX0_399_5 hct ((hK_139.b 0 rfl).t 0 rfl) ⟨Nat.le_trans (by decide) hD, by decide⟩ rfl rfl (Nat.le_of_ble_eq_true rfl) dX0_send_201 ?_
      have hL := hL.ext hct.1
      have hK_136 := hK_136.ext hct.1
      have hK_139 := hK_139.ext hct.1
      obtain ⟨ht_146, hf⟩ := zck_some hf
      refine zt_catch (q := (RX1, TX1, 7)) rfl (by decide) q129 rfl rfl ht_146 ?_
      refine z_astore_n dX0_send_304 rfl (by decide) (lc' := [(0, .ref a), (2, .ref e_143), (3, .int x3)]) rfl ?_
      refine z_aload_n 0 dX0_send_305 rfl rfl ?_
      refine z_aload_n 1 dX0_send_306 rfl rfl ?_
      obtain ⟨hK_147, hf⟩ := zck_some hf
      refine z_geti fdX0_17_1 ((hK_147.b 0 rfl).t 0 rfl) dX0_send_307 ?_
      obtain ⟨v_149, h_150, hc_148, hf⟩ := zb2_some hf
      have hct := ctX0_answer (l := F.1) hL hc_148
      refine z_invVi suX0_163_0 hct ((hL.b 0 rfl).t 0 rfl) ⟨Nat.le_trans (by decide) hD, by decide⟩ rfl rfl (Nat.le_of_ble_eq_true rfl) dX0_send_310 ?_
      have hL := hL.ext hct.1
      have hK_136 := hK_136.ext hct.1
      have hK_139 := hK_139.ext hct.1
      have hK_147 := hK_147.ext hct.1
      cases hf
      exact z_iret dX0_send_313 rfl (hM.2 _ rfl)
    have hct := ctX7_put (l := F.1) hK_139 hc_140
    refine z_invVv suX0_399_5 hct ((hK_139.b 0 rfl).t 0 rfl) ⟨Nat.le_trans (by decide) hD, by decide⟩ rfl rfl (Nat.le_of_ble_eq_true rfl) dX0_send_201 ?_
    have hL := hL.ext hct.1
    have hK_136 := hK_136.ext hct.1
    have hK_139 := hK_139.ext hct.1
    refine z_aload_n 0 dX0_send_204 rfl rfl ?_
    obtain ⟨b_151, hb_151, hf⟩ := zb1_some hf
    refine z_getr fdX0_106_0 (Or.inl ⟨_, rfl⟩) ((hL.b 0 rfl).t 0 rfl) hb_151 dX0_send_205 ?_
    refine z_aload_n 1 dX0_send_208 rfl rfl ?_
    refine z_getr fdX0_418_2 (Or.inr ⟨_, rfl⟩) ((hK_136.b 0 rfl).t 0 rfl) ((hK_136.b 0 rfl).p 6 rfl) dX0_send_209 ?_
    refine z_iload_n 2 dX0_send_212 rfl rfl ?_
    obtain ⟨hi_152, hf⟩ := zck_some hf
    refine z_iald ((hK_136.b 0 rfl).t 7 rfl) hi_152 dX0_send_213 ?_
    obtain ⟨hK_153, hf⟩ := zck_some hf
    rcases zxv_some hf with ⟨h_156, hc_154, hf⟩ | ⟨e_157, h_158, hc_159, hf⟩
    rotate_left
    · have hct := ctX7_put (l := F.1) hK_153 hc_159
      refine z_invVt suX0_399_5 hct ((hK_153.b 0 rfl).t 0 rfl) ⟨Nat.le_trans (by decide) hD, by decide⟩ rfl rfl (Nat.le_of_ble_eq_true rfl) dX0_send_214 ?_
      have hL := hL.ext hct.1
      have hK_136 := hK_136.ext hct.1
      have hK_139 := hK_139.ext hct.1
      have hK_153 := hK_153.ext hct.1
      obtain ⟨ht_160, hf⟩ := zck_some hf
      refine zt_catch (q := (RX1, TX1, 7)) rfl (by decide) q129 rfl rfl ht_160 ?_
      refine z_astore_n dX0_send_304 rfl (by decide) (lc' := [(0, .ref a), (2, .ref e_157), (3, .int x3)]) rfl ?_
      refine z_aload_n 0 dX0_send_305 rfl rfl ?_
      refine z_aload_n 1 dX0_send_306 rfl rfl ?_
      obtain ⟨hK_161, hf⟩ := zck_some hf
      refine z_geti fdX0_17_1 ((hK_161.b 0 rfl).t 0 rfl) dX0_send_307 ?_
      obtain ⟨v_163, h_164, hc_162, hf⟩ := zb2_some hf
      have hct := ctX0_answer (l := F.1) hL hc_162
      refine z_invVi suX0_163_0 hct ((hL.b 0 rfl).t 0 rfl) ⟨Nat.le_trans (by decide) hD, by decide⟩ rfl rfl (Nat.le_of_ble_eq_true rfl) dX0_send_310 ?_
      have hL := hL.ext hct.1
      have hK_136 := hK_136.ext hct.1
      have hK_139 := hK_139.ext hct.1
      have hK_153 := hK_153.ext hct.1
      have hK_161 := hK_161.ext hct.1
      cases hf
      exact z_iret dX0_send_313 rfl (hM.2 _ rfl)
    have hct := ctX7_put (l := F.1) hK_153 hc_154
    refine z_invVv suX0_399_5 hct ((hK_153.b 0 rfl).t 0 rfl) ⟨Nat.le_trans (by decide) hD, by decide⟩ rfl rfl (Nat.le_of_ble_eq_true rfl) dX0_send_214 ?_
    have hL := hL.ext hct.1
    have hK_136 := hK_136.ext hct.1
    have hK_139 := hK_139.ext hct.1
    have hK_153 := hK_153.ext hct.1
    refine z_aload_n 0 dX0_send_217 rfl rfl ?_
    obtain ⟨b_165, hb_165, hf⟩ := zb1_some hf
    refine z_getr fdX0_106_0 (Or.inl ⟨_, rfl⟩) ((hL.b 0 rfl).t 0 rfl) hb_165 dX0_send_218 ?_
    refine z_aload_n 1 dX0_send_221 rfl rfl ?_
    refine z_getr fdX0_421_2 (Or.inr ⟨_, rfl⟩) ((hK_136.b 0 rfl).t 0 rfl) ((hK_136.b 0 rfl).p 7 rfl) dX0_send_222 ?_
    refine z_iload_n 2 dX0_send_225 rfl rfl ?_
    obtain ⟨hi_166, hf⟩ := zck_some hf
    refine z_iald ((hK_136.b 0 rfl).t 8 rfl) hi_166 dX0_send_226 ?_
    obtain ⟨hK_167, hf⟩ := zck_some hf
    rcases zxv_some hf with ⟨h_170, hc_168, hf⟩ | ⟨e_171, h_172, hc_173, hf⟩
    rotate_left
    · have hct := ctX7_put (l := F.1) hK_167 hc_173
      refine z_invVt suX0_399_5 hct ((hK_167.b 0 rfl).t 0 rfl) ⟨Nat.le_trans (by decide) hD, by decide⟩ rfl rfl (Nat.le_of_ble_eq_true rfl) dX0_send_227 ?_
      have hL := hL.ext hct.1
      have hK_136 := hK_136.ext hct.1
      have hK_139 := hK_139.ext hct.1
      have hK_153 := hK_153.ext hct.1
      have hK_167 := hK_167.ext hct.1
      obtain ⟨ht_174, hf⟩ := zck_some hf
      refine zt_catch (q := (RX1, TX1, 7)) rfl (by decide) q129 rfl rfl ht_174 ?_
      refine z_astore_n dX0_send_304 rfl (by decide) (lc' := [(0, .ref a), (2, .ref e_171), (3, .int x3)]) rfl ?_
      refine z_aload_n 0 dX0_send_305 rfl rfl ?_
      refine z_aload_n 1 dX0_send_306 rfl rfl ?_
      obtain ⟨hK_175, hf⟩ := zck_some hf
      refine z_geti fdX0_17_1 ((hK_175.b 0 rfl).t 0 rfl) dX0_send_307 ?_
      obtain ⟨v_177, h_178, hc_176, hf⟩ := zb2_some hf
      have hct := ctX0_answer (l := F.1) hL hc_176
      refine z_invVi suX0_163_0 hct ((hL.b 0 rfl).t 0 rfl) ⟨Nat.le_trans (by decide) hD, by decide⟩ rfl rfl (Nat.le_of_ble_eq_true rfl) dX0_send_310 ?_
      have hL := hL.ext hct.1
      have hK_136 := hK_136.ext hct.1
      have hK_139 := hK_139.ext hct.1
      have hK_153 := hK_153.ext hct.1
      have hK_167 := hK_167.ext hct.1
      have hK_175 := hK_175.ext hct.1
      cases hf
      exact z_iret dX0_send_313 rfl (hM.2 _ rfl)
    have hct := ctX7_put (l := F.1) hK_167 hc_168
    refine z_invVv suX0_399_5 hct ((hK_167.b 0 rfl).t 0 rfl) ⟨Nat.le_trans (by decide) hD, by decide⟩ rfl rfl (Nat.le_of_ble_eq_true rfl) dX0_send_227 ?_
    have hL := hL.ext hct.1
    have hK_136 := hK_136.ext hct.1
    have hK_139 := hK_139.ext hct.1
    have hK_153 := hK_153.ext hct.1
    have hK_167 := hK_167.ext hct.1
    refine z_aload_n 0 dX0_send_230 rfl rfl ?_
    obtain ⟨b_179, hb_179, hf⟩ := zb1_some hf
    refine z_getr fdX0_106_0 (Or.inl ⟨_, rfl⟩) ((hL.b 0 rfl).t 0 rfl) hb_179 dX0_send_231 ?_
    refine z_aload_n 1 dX0_send_234 rfl rfl ?_
    refine z_getr fdX0_424_2 (Or.inr ⟨_, rfl⟩) ((hK_136.b 0 rfl).t 0 rfl) ((hK_136.b 0 rfl).p 8 rfl) dX0_send_235 ?_
    refine z_iload_n 2 dX0_send_238 rfl rfl ?_
    obtain ⟨hi_180, hf⟩ := zck_some hf
    refine z_zald ((hK_136.b 0 rfl).t 9 rfl) hi_180 dX0_send_239 ?_
    refine z_if_eq 247 dX0_send_240 rfl hf (fun _ hf => ?_) (fun _ hf => ?_)
    · refine z_iconst 0 dX0_send_247 rfl ?_
      obtain ⟨hK_181, hf⟩ := zck_some hf
      rcases zxv_some hf with ⟨h_184, hc_182, hf⟩ | ⟨e_185, h_186, hc_187, hf⟩
      rotate_left
      · have hct := ctX7_put (l := F.1) hK_181 hc_187
        refine z_invVt suX0_399_5 hct ((hK_181.b 0 rfl).t 0 rfl) ⟨Nat.le_trans (by decide) hD, by decide⟩ rfl rfl (Nat.le_of_ble_eq_true rfl) dX0_send_248 ?_
        have hL := hL.ext hct.1
        have hK_136 := hK_136.ext hct.1
        have hK_139 := hK_139.ext hct.1
        have hK_153 := hK_153.ext hct.1
        have hK_167 := hK_167.ext hct.1
        have hK_181 := hK_181.ext hct.1
        obtain ⟨ht_188, hf⟩ := zck_some hf
        refine zt_catch (q := (RX1, TX1, 7)) rfl (by decide) q129 rfl rfl ht_188 ?_
        refine z_astore_n dX0_send_304 rfl (by decide) (lc' := [(0, .ref a), (2, .ref e_185), (3, .int x3)]) rfl ?_
        refine z_aload_n 0 dX0_send_305 rfl rfl ?_
        refine z_aload_n 1 dX0_send_306 rfl rfl ?_
        obtain ⟨hK_189, hf⟩ := zck_some hf
        refine z_geti fdX0_17_1 ((hK_189.b 0 rfl).t 0 rfl) dX0_send_307 ?_
        obtain ⟨v_191, h_192, hc_190, hf⟩ := zb2_some hf
        have hct := ctX0_answer (l := F.1) hL hc_190
        refine z_invVi suX0_163_0 hct ((hL.b 0 rfl).t 0 rfl) ⟨Nat.le_trans (by decide) hD, by decide⟩ rfl rfl (Nat.le_of_ble_eq_true rfl) dX0_send_310 ?_
        have hL := hL.ext hct.1
        have hK_136 := hK_136.ext hct.1
        have hK_139 := hK_139.ext hct.1
        have hK_153 := hK_153.ext hct.1
        have hK_167 := hK_167.ext hct.1
        have hK_181 := hK_181.ext hct.1
        have hK_189 := hK_189.ext hct.1
        cases hf
        exact z_iret dX0_send_313 rfl (hM.2 _ rfl)
      have hct := ctX7_put (l := F.1) hK_181 hc_182
      refine z_invVv suX0_399_5 hct ((hK_181.b 0 rfl).t 0 rfl) ⟨Nat.le_trans (by decide) hD, by decide⟩ rfl rfl (Nat.le_of_ble_eq_true rfl) dX0_send_248 ?_
      have hL := hL.ext hct.1
      have hK_136 := hK_136.ext hct.1
      have hK_139 := hK_139.ext hct.1
      have hK_153 := hK_153.ext hct.1
      have hK_167 := hK_167.ext hct.1
      have hK_181 := hK_181.ext hct.1
      refine z_iinc 2 (x3 + 1) dX0_send_251 rfl rfl (by decide) (lc' := [(0, .ref a), (2, .ref x2), (3, .int (x3 + 1))]) rfl ?_
      refine z_goto 183 dX0_send_254 rfl ?_
      cases hf
      exact (hM.1 _ rfl) hL
    · refine z_iconst 1 dX0_send_243 rfl ?_
      refine z_goto 248 dX0_send_244 rfl ?_
      obtain ⟨hK_193, hf⟩ := zck_some hf
      rcases zxv_some hf with ⟨h_196, hc_194, hf⟩ | ⟨e_197, h_198, hc_199, hf⟩
      rotate_left
      · have hct := ctX7_put (l := F.1) hK_193 hc_199
        refine z_invVt suX0_399_5 hct ((hK_193.b 0 rfl).t 0 rfl) ⟨Nat.le_trans (by decide) hD, by decide⟩ rfl rfl (Nat.le_of_ble_eq_true rfl) dX0_send_248 ?_
        have hL := hL.ext hct.1
        have hK_136 := hK_136.ext hct.1
        have hK_139 := hK_139.ext hct.1
        have hK_153 := hK_153.ext hct.1
        have hK_167 := hK_167.ext hct.1
        have hK_193 := hK_193.ext hct.1
        obtain ⟨ht_200, hf⟩ := zck_some hf
        refine zt_catch (q := (RX1, TX1, 7)) rfl (by decide) q129 rfl rfl ht_200 ?_
        refine z_astore_n dX0_send_304 rfl (by decide) (lc' := [(0, .ref a), (2, .ref e_197), (3, .int x3)]) rfl ?_
        refine z_aload_n 0 dX0_send_305 rfl rfl ?_
        refine z_aload_n 1 dX0_send_306 rfl rfl ?_
        obtain ⟨hK_201, hf⟩ := zck_some hf
        refine z_geti fdX0_17_1 ((hK_201.b 0 rfl).t 0 rfl) dX0_send_307 ?_
        obtain ⟨v_203, h_204, hc_202, hf⟩ := zb2_some hf
        have hct := ctX0_answer (l := F.1) hL hc_202
        refine z_invVi suX0_163_0 hct ((hL.b 0 rfl).t 0 rfl) ⟨Nat.le_trans (by decide) hD, by decide⟩ rfl rfl (Nat.le_of_ble_eq_true rfl) dX0_send_310 ?_
        have hL := hL.ext hct.1
        have hK_136 := hK_136.ext hct.1
        have hK_139 := hK_139.ext hct.1
        have hK_153 := hK_153.ext hct.1
        have hK_167 := hK_167.ext hct.1
        have hK_193 := hK_193.ext hct.1
        have hK_201 := hK_201.ext hct.1
        cases hf
        exact z_iret dX0_send_313 rfl (hM.2 _ rfl)
      have hct := ctX7_put (l := F.1) hK_193 hc_194
      refine z_invVv suX0_399_5 hct ((hK_193.b 0 rfl).t 0 rfl) ⟨Nat.le_trans (by decide) hD, by decide⟩ rfl rfl (Nat.le_of_ble_eq_true rfl) dX0_send_248 ?_
      have hL := hL.ext hct.1
      have hK_136 := hK_136.ext hct.1
      have hK_139 := hK_139.ext hct.1
      have hK_153 := hK_153.ext hct.1
      have hK_167 := hK_167.ext hct.1
      have hK_193 := hK_193.ext hct.1
      refine z_iinc 2 (x3 + 1) dX0_send_251 rfl rfl (by decide) (lc' := [(0, .ref a), (2, .ref x2), (3, .int (x3 + 1))]) rfl ?_
      refine z_goto 183 dX0_send_254 rfl ?_
      cases hf
      exact (hM.1 _ rfl) hL
theorem suX0_427_s : zIs RX0 427 yX0_sumOf (ws_ yX0_sumOf cX0_sumOf 4 (some .int)) 4 2 := ⟨(zGood_c q1363 q97), (Or.inl q1361), q1362, ⟨by decide, by decide⟩, by decide +kernel⟩
noncomputable def fX0_send (h : zH) (a : Nat) (x1 : Int32) : Option (Int32 × zH) := zxr (fX0_tableAt h a x1 1) (fun v_2 h_3 => zb1 v_2 (fun b_12 => zb1 (zP h_3 a 25) (fun b_13 => zck (zRw h_3 b_13 a) (zb1 (fX7_begin h_3 b_13 a 0) (fun h_17 => zb1 (zP h_17 a 25) (fun b_18 => zck (zTb h_17 b_12) (zck (zRw h_17 b_18 a) (zxv (fX7_put h_17 b_18 a (zI h_17 b_12 4)) (fun h_23 => zlx (zlp (fun s => fX0_send_L28 s.1 a b_12 s.2) (h_23, 0)) (fun t_121 => zb1 (zP t_121 a 25) (fun b_122 => zck (zTb t_121 b_12) (zck (zRw t_121 b_122 a) (zxv (fX7_put t_121 b_122 a (zI t_121 b_12 10)) (fun h_127 => zlx (zlp (fun s => fX0_send_L183 s.1 a b_12 s.2) (h_127, 0)) (fun t_205 => zb1 (zP t_205 a 25) (fun b_206 => zck (zOb 5 t_205 b_206) (zb1 (zP t_205 b_206 0) (fun b_208 => zb1 (zP t_205 a 25) (fun b_209 => zck (zOb 5 t_205 b_209) (zb1 (fX0_sumOf t_205 b_208 (zI t_205 b_209 1)) (fun v_212 => zb1 (zP t_205 a 25) (fun b_214 => zck (zRw t_205 b_214 a) (zxv (fX7_put t_205 b_214 a (v_212 >>> (8 &&& 31))) (fun h_218 => zb1 (zP h_218 a 25) (fun b_227 => zck (zRw h_218 b_227 a) (zxv (fX7_put h_218 b_227 a (v_212 &&& 255)) (fun h_231 => zb2 (fX0_becomes h_231 a 2) (fun v_241 h_242 => some ((v_241, h_242)))) (fun e_232 h_233 => zck (zT h_233 e_232 = (2, 0)) (zck (zOb 1 h_233 e_232) (zb2 (fX0_answer h_233 a (zI h_233 e_232 6)) (fun v_238 h_239 => some ((v_238, h_239))))))))) (fun e_219 h_220 => zck (zT h_220 e_219 = (2, 0)) (zck (zOb 1 h_220 e_219) (zb2 (fX0_answer h_220 a (zI h_220 e_219 6)) (fun v_225 h_226 => some ((v_225, h_226)))))))))))))))) (fun e_128 h_129 => zck (zT h_129 e_128 = (2, 0)) (zck (zOb 1 h_129 e_128) (zb2 (fX0_answer h_129 a (zI h_129 e_128 6)) (fun v_134 h_135 => some ((v_134, h_135))))))))))) (fun e_24 h_25 => zck (zT h_25 e_24 = (2, 0)) (zck (zOb 1 h_25 e_24) (zb2 (fX0_answer h_25 a (zI h_25 e_24 6)) (fun v_30 h_31 => some ((v_30, h_31)))))))))))))) (fun e_4 h_5 => zck (zT h_5 e_4 = (2, 0)) (zck (zOb 1 h_5 e_4) (zb2 (fX0_answer h_5 a (zI h_5 e_4 6)) (fun v_10 h_11 => some ((v_10, h_11))))))
theorem zX0_send {F : zF} {h : zH} {a : Nat} {x1 : Int32} {y : Int32 × zH} (hD : 122 ≤ F.2.1) (hL : zXx h a) (hf : fX0_send h a x1 = some y) (hM : ((.inl (some (.int y.1)), y.2) : zX) = zEnd F) : Z F 5 cX0_send RX0 "send" (some .int) [(0, 303, 304, 18)] h 0 [(0, .ref a), (1, .int x1)] [] := by
  unfold fX0_send at hf
  refine z_aload_n 0 dX0_send_0 rfl rfl ?_
  refine z_iload_n 1 dX0_send_1 rfl rfl ?_
  refine z_iconst 1 dX0_send_2 rfl ?_
  rcases zxr_some hf with ⟨v_2, h_3, hc_1, hf⟩ | ⟨e_4, h_5, hc_6, hf⟩
  rotate_left
  · have hct := ctX0_tableAt (l := F.1) hL hc_6
    refine z_invVt suX0_180_0 hct ((hL.b 0 rfl).t 0 rfl) ⟨Nat.le_trans (by decide) hD, by decide⟩ rfl rfl (Nat.le_of_ble_eq_true rfl) dX0_send_3 ?_
    have hL := hL.ext hct.1
    obtain ⟨ht_7, hf⟩ := zck_some hf
    refine zt_catch (q := (RX1, TX1, 7)) rfl (by decide) q129 rfl rfl ht_7 ?_
    refine z_astore_n dX0_send_304 rfl (by decide) (lc' := [(0, .ref a), (1, .int x1), (2, .ref e_4)]) rfl ?_
    refine z_aload_n 0 dX0_send_305 rfl rfl ?_
    refine z_aload_n 2 dX0_send_306 rfl rfl ?_
    obtain ⟨hK_8, hf⟩ := zck_some hf
    refine z_geti fdX0_17_1 ((hK_8.b 0 rfl).t 0 rfl) dX0_send_307 ?_
    obtain ⟨v_10, h_11, hc_9, hf⟩ := zb2_some hf
    have hct := ctX0_answer (l := F.1) hL hc_9
    refine z_invVi suX0_163_0 hct ((hL.b 0 rfl).t 0 rfl) ⟨Nat.le_trans (by decide) hD, by decide⟩ rfl rfl (Nat.le_of_ble_eq_true rfl) dX0_send_310 ?_
    have hL := hL.ext hct.1
    have hK_8 := hK_8.ext hct.1
    cases hf
    exact z_iret dX0_send_313 rfl hM
  have hct := ctX0_tableAt (l := F.1) hL hc_1
  refine z_invVq suX0_180_0 hct ((hL.b 0 rfl).t 0 rfl) ⟨Nat.le_trans (by decide) hD, by decide⟩ rfl rfl (Nat.le_of_ble_eq_true rfl) dX0_send_3 ?_
  have hL := hL.ext hct.1
  obtain ⟨b_12, e9, hf9⟩ := zb1_some hf
  subst e9
  have hf := hf9
  refine z_astore_n dX0_send_6 rfl (by decide) (lc' := [(0, .ref a), (1, .int x1), (2, .ref b_12)]) rfl ?_
  refine z_aload_n 0 dX0_send_7 rfl rfl ?_
  obtain ⟨b_13, hb_13, hf⟩ := zb1_some hf
  refine z_getr fdX0_106_0 (Or.inl ⟨_, rfl⟩) ((hL.b 0 rfl).t 0 rfl) hb_13 dX0_send_8 ?_
  refine z_iconst 0 dX0_send_11 rfl ?_
  obtain ⟨hK_14, hf⟩ := zck_some hf
  obtain ⟨h_17, hc_15, hf⟩ := zb1_some hf
  have hct := ctX7_begin (l := F.1) hK_14 hc_15
  refine z_invVv suX0_299_5 hct ((hK_14.b 0 rfl).t 0 rfl) ⟨Nat.le_trans (by decide) hD, by decide⟩ rfl rfl (Nat.le_of_ble_eq_true rfl) dX0_send_12 ?_
  have hL := hL.ext hct.1
  have hK_14 := hK_14.ext hct.1
  refine z_aload_n 0 dX0_send_15 rfl rfl ?_
  obtain ⟨b_18, hb_18, hf⟩ := zb1_some hf
  refine z_getr fdX0_106_0 (Or.inl ⟨_, rfl⟩) ((hL.b 0 rfl).t 0 rfl) hb_18 dX0_send_16 ?_
  refine z_aload_n 2 dX0_send_19 rfl rfl ?_
  obtain ⟨hK_19, hf⟩ := zck_some hf
  refine z_geti fdX0_203_2 ((hK_19.b 0 rfl).t 0 rfl) dX0_send_20 ?_
  obtain ⟨hK_20, hf⟩ := zck_some hf
  rcases zxv_some hf with ⟨h_23, hc_21, hf⟩ | ⟨e_24, h_25, hc_26, hf⟩
  rotate_left
  · have hct := ctX7_put (l := F.1) hK_20 hc_26
    refine z_invVt suX0_399_5 hct ((hK_20.b 0 rfl).t 0 rfl) ⟨Nat.le_trans (by decide) hD, by decide⟩ rfl rfl (Nat.le_of_ble_eq_true rfl) dX0_send_23 ?_
    have hL := hL.ext hct.1
    have hK_14 := hK_14.ext hct.1
    have hK_19 := hK_19.ext hct.1
    have hK_20 := hK_20.ext hct.1
    obtain ⟨ht_27, hf⟩ := zck_some hf
    refine zt_catch (q := (RX1, TX1, 7)) rfl (by decide) q129 rfl rfl ht_27 ?_
    refine z_astore_n dX0_send_304 rfl (by decide) (lc' := [(0, .ref a), (1, .int x1), (2, .ref e_24)]) rfl ?_
    refine z_aload_n 0 dX0_send_305 rfl rfl ?_
    refine z_aload_n 2 dX0_send_306 rfl rfl ?_
    obtain ⟨hK_28, hf⟩ := zck_some hf
    refine z_geti fdX0_17_1 ((hK_28.b 0 rfl).t 0 rfl) dX0_send_307 ?_
    obtain ⟨v_30, h_31, hc_29, hf⟩ := zb2_some hf
    have hct := ctX0_answer (l := F.1) hL hc_29
    refine z_invVi suX0_163_0 hct ((hL.b 0 rfl).t 0 rfl) ⟨Nat.le_trans (by decide) hD, by decide⟩ rfl rfl (Nat.le_of_ble_eq_true rfl) dX0_send_310 ?_
    have hL := hL.ext hct.1
    have hK_14 := hK_14.ext hct.1
    have hK_19 := hK_19.ext hct.1
    have hK_20 := hK_20.ext hct.1
    have hK_28 := hK_28.ext hct.1
    cases hf
    exact z_iret dX0_send_313 rfl hM
  have hct := ctX7_put (l := F.1) hK_20 hc_21
  refine z_invVv suX0_399_5 hct ((hK_20.b 0 rfl).t 0 rfl) ⟨Nat.le_trans (by decide) hD, by decide⟩ rfl rfl (Nat.le_of_ble_eq_true rfl) dX0_send_23 ?_
  have hL := hL.ext hct.1
  have hK_14 := hK_14.ext hct.1
  have hK_19 := hK_19.ext hct.1
  have hK_20 := hK_20.ext hct.1
  refine z_iconst 0 dX0_send_26 rfl ?_
  refine z_istore_n dX0_send_27 rfl (by decide) (lc' := [(0, .ref a), (1, .int x1), (2, .ref b_12), (3, .int 0)]) rfl ?_
  refine z_sub [0, 2, 3] rfl ?_
  obtain ⟨rr, hl, hf⟩ := zlx_some hf
  refine z_loop (fun (s : zH × Int32) => (zXx s.1 a → Z F 5 cX0_send RX0 "send" (some .int) [(0, 303, 304, 18)] s.1 28 [(0, .ref a), (2, .ref b_12), (3, .int s.2)] [])) (fun (r : (zH) ⊕ (Int32 × zH)) => (match r with | .inl t => (zXx t a → Z F 5 cX0_send RX0 "send" (some .int) [(0, 303, 304, 18)] t 170 [(0, .ref a), (2, .ref b_12)] []) | .inr z => ((.inl (some (.int z.1)), z.2) : zX) = zEnd F)) (fun s y hb hs hr hL => zX0_send_L28 hD hL hb ⟨hs, hr⟩) hl ?_ hL
  rcases hf with ⟨t_121, rfl, hf⟩ | rfl
  · intro hL
    show Z F 5 cX0_send RX0 "send" (some .int) [(0, 303, 304, 18)] t_121 170 [(0, .ref a), (2, .ref b_12)] []
    refine z_aload_n 0 dX0_send_170 rfl rfl ?_
    obtain ⟨b_122, hb_122, hf⟩ := zb1_some hf
    refine z_getr fdX0_106_0 (Or.inl ⟨_, rfl⟩) ((hL.b 0 rfl).t 0 rfl) hb_122 dX0_send_171 ?_
    refine z_aload_n 1 dX0_send_174 rfl rfl ?_
    obtain ⟨hK_123, hf⟩ := zck_some hf
    refine z_geti fdX0_214_2 ((hK_123.b 0 rfl).t 0 rfl) dX0_send_175 ?_
    obtain ⟨hK_124, hf⟩ := zck_some hf
    rcases zxv_some hf with ⟨h_127, hc_125, hf⟩ | ⟨e_128, h_129, hc_130, hf⟩
    rotate_left
    · have hct := ctX7_put (l := F.1) hK_124 hc_130
      refine z_invVt suX0_399_5 hct ((hK_124.b 0 rfl).t 0 rfl) ⟨Nat.le_trans (by decide) hD, by decide⟩ rfl rfl (Nat.le_of_ble_eq_true rfl) dX0_send_178 ?_
      have hL := hL.ext hct.1
      have hK_123 := hK_123.ext hct.1
      have hK_124 := hK_124.ext hct.1
      obtain ⟨ht_131, hf⟩ := zck_some hf
      refine zt_catch (q := (RX1, TX1, 7)) rfl (by decide) q129 rfl rfl ht_131 ?_
      refine z_astore_n dX0_send_304 rfl (by decide) (lc' := [(0, .ref a), (2, .ref e_128)]) rfl ?_
      refine z_aload_n 0 dX0_send_305 rfl rfl ?_
      refine z_aload_n 1 dX0_send_306 rfl rfl ?_
      obtain ⟨hK_132, hf⟩ := zck_some hf
      refine z_geti fdX0_17_1 ((hK_132.b 0 rfl).t 0 rfl) dX0_send_307 ?_
      obtain ⟨v_134, h_135, hc_133, hf⟩ := zb2_some hf
      have hct := ctX0_answer (l := F.1) hL hc_133
      refine z_invVi suX0_163_0 hct ((hL.b 0 rfl).t 0 rfl) ⟨Nat.le_trans (by decide) hD, by decide⟩ rfl rfl (Nat.le_of_ble_eq_true rfl) dX0_send_310 ?_
      have hL := hL.ext hct.1
      have hK_123 := hK_123.ext hct.1
      have hK_124 := hK_124.ext hct.1
      have hK_132 := hK_132.ext hct.1
      cases hf
      exact z_iret dX0_send_313 rfl hM
    have hct := ctX7_put (l := F.1) hK_124 hc_125
    refine z_invVv suX0_399_5 hct ((hK_124.b 0 rfl).t 0 rfl) ⟨Nat.le_trans (by decide) hD, by decide⟩ rfl rfl (Nat.le_of_ble_eq_true rfl) dX0_send_178 ?_
    have hL := hL.ext hct.1
    have hK_123 := hK_123.ext hct.1
    have hK_124 := hK_124.ext hct.1
    refine z_iconst 0 dX0_send_181 rfl ?_
    refine z_istore_n dX0_send_182 rfl (by decide) (lc' := [(0, .ref a), (2, .ref b_12), (3, .int 0)]) rfl ?_
    obtain ⟨rr, hl, hf⟩ := zlx_some hf
    refine z_loop (fun (s : zH × Int32) => (zXx s.1 a → Z F 5 cX0_send RX0 "send" (some .int) [(0, 303, 304, 18)] s.1 183 [(0, .ref a), (2, .ref b_12), (3, .int s.2)] [])) (fun (r : (zH) ⊕ (Int32 × zH)) => (match r with | .inl t => (zXx t a → Z F 5 cX0_send RX0 "send" (some .int) [(0, 303, 304, 18)] t 257 [(0, .ref a)] []) | .inr z => ((.inl (some (.int z.1)), z.2) : zX) = zEnd F)) (fun s y hb hs hr hL => zX0_send_L183 hD hL hb ⟨hs, hr⟩) hl ?_ hL
    rcases hf with ⟨t_205, rfl, hf⟩ | rfl
    · intro hL
      show Z F 5 cX0_send RX0 "send" (some .int) [(0, 303, 304, 18)] t_205 257 [(0, .ref a)] []
      refine z_aload_n 0 dX0_send_257 rfl rfl ?_
      obtain ⟨b_206, hb_206, hf⟩ := zb1_some hf
      refine z_getr fdX0_106_0 (Or.inl ⟨_, rfl⟩) ((hL.b 0 rfl).t 0 rfl) hb_206 dX0_send_258 ?_
      obtain ⟨hK_207, hf⟩ := zck_some hf
      obtain ⟨b_208, hb_208, hf⟩ := zb1_some hf
      refine z_getr fdX0_278_5 (Or.inr ⟨_, rfl⟩) ((hK_207.b 0 rfl).t 0 rfl) hb_208 dX0_send_261 ?_
      refine z_aload_n 0 dX0_send_264 rfl rfl ?_
      obtain ⟨b_209, hb_209, hf⟩ := zb1_some hf
      refine z_getr fdX0_106_0 (Or.inl ⟨_, rfl⟩) ((hL.b 0 rfl).t 0 rfl) hb_209 dX0_send_265 ?_
      obtain ⟨hK_210, hf⟩ := zck_some hf
      refine z_geti fdX0_275_5 ((hK_210.b 0 rfl).t 0 rfl) dX0_send_268 ?_
      obtain ⟨v_212, hc_211, hf⟩ := zb1_some hf
      refine z_invSi suX0_427_s (ctX0_sumOf hc_211) ⟨Nat.le_trans (by decide) hD, by decide⟩ rfl rfl (Nat.le_of_ble_eq_true rfl) dX0_send_271 ?_
      refine z_istore_n dX0_send_274 rfl (by decide) (lc' := [(0, .ref a), (3, .int v_212)]) rfl ?_
      refine z_aload_n 0 dX0_send_275 rfl rfl ?_
      obtain ⟨b_214, hb_214, hf⟩ := zb1_some hf
      refine z_getr fdX0_106_0 (Or.inl ⟨_, rfl⟩) ((hL.b 0 rfl).t 0 rfl) hb_214 dX0_send_276 ?_
      refine z_iload_n 1 dX0_send_279 rfl rfl ?_
      refine z_bipush 8 dX0_send_280 rfl ?_
      refine z_ishr dX0_send_282 ?_
      obtain ⟨hK_215, hf⟩ := zck_some hf
      rcases zxv_some hf with ⟨h_218, hc_216, hf⟩ | ⟨e_219, h_220, hc_221, hf⟩
      rotate_left
      · have hct := ctX7_put (l := F.1) hK_215 hc_221
        refine z_invVt suX0_399_5 hct ((hK_215.b 0 rfl).t 0 rfl) ⟨Nat.le_trans (by decide) hD, by decide⟩ rfl rfl (Nat.le_of_ble_eq_true rfl) dX0_send_283 ?_
        have hL := hL.ext hct.1
        have hK_207 := hK_207.ext hct.1
        have hK_210 := hK_210.ext hct.1
        have hK_215 := hK_215.ext hct.1
        obtain ⟨ht_222, hf⟩ := zck_some hf
        refine zt_catch (q := (RX1, TX1, 7)) rfl (by decide) q129 rfl rfl ht_222 ?_
        refine z_astore_n dX0_send_304 rfl (by decide) (lc' := [(0, .ref a), (2, .ref e_219), (3, .int v_212)]) rfl ?_
        refine z_aload_n 0 dX0_send_305 rfl rfl ?_
        refine z_aload_n 1 dX0_send_306 rfl rfl ?_
        obtain ⟨hK_223, hf⟩ := zck_some hf
        refine z_geti fdX0_17_1 ((hK_223.b 0 rfl).t 0 rfl) dX0_send_307 ?_
        obtain ⟨v_225, h_226, hc_224, hf⟩ := zb2_some hf
        have hct := ctX0_answer (l := F.1) hL hc_224
        refine z_invVi suX0_163_0 hct ((hL.b 0 rfl).t 0 rfl) ⟨Nat.le_trans (by decide) hD, by decide⟩ rfl rfl (Nat.le_of_ble_eq_true rfl) dX0_send_310 ?_
        have hL := hL.ext hct.1
        have hK_207 := hK_207.ext hct.1
        have hK_210 := hK_210.ext hct.1
        have hK_215 := hK_215.ext hct.1
        have hK_223 := hK_223.ext hct.1
        cases hf
        exact z_iret dX0_send_313 rfl hM
      have hct := ctX7_put (l := F.1) hK_215 hc_216
      refine z_invVv suX0_399_5 hct ((hK_215.b 0 rfl).t 0 rfl) ⟨Nat.le_trans (by decide) hD, by decide⟩ rfl rfl (Nat.le_of_ble_eq_true rfl) dX0_send_283 ?_
      have hL := hL.ext hct.1
      have hK_207 := hK_207.ext hct.1
      have hK_210 := hK_210.ext hct.1
      have hK_215 := hK_215.ext hct.1
      refine z_aload_n 0 dX0_send_286 rfl rfl ?_
      obtain ⟨b_227, hb_227, hf⟩ := zb1_some hf
      refine z_getr fdX0_106_0 (Or.inl ⟨_, rfl⟩) ((hL.b 0 rfl).t 0 rfl) hb_227 dX0_send_287 ?_
      refine z_iload_n 1 dX0_send_290 rfl rfl ?_
      refine z_sipush 255 dX0_send_291 rfl ?_
      refine z_iand dX0_send_294 ?_
      obtain ⟨hK_228, hf⟩ := zck_some hf
      rcases zxv_some hf with ⟨h_231, hc_229, hf⟩ | ⟨e_232, h_233, hc_234, hf⟩
      rotate_left
      · have hct := ctX7_put (l := F.1) hK_228 hc_234
        refine z_invVt suX0_399_5 hct ((hK_228.b 0 rfl).t 0 rfl) ⟨Nat.le_trans (by decide) hD, by decide⟩ rfl rfl (Nat.le_of_ble_eq_true rfl) dX0_send_295 ?_
        have hL := hL.ext hct.1
        have hK_207 := hK_207.ext hct.1
        have hK_210 := hK_210.ext hct.1
        have hK_215 := hK_215.ext hct.1
        have hK_228 := hK_228.ext hct.1
        obtain ⟨ht_235, hf⟩ := zck_some hf
        refine zt_catch (q := (RX1, TX1, 7)) rfl (by decide) q129 rfl rfl ht_235 ?_
        refine z_astore_n dX0_send_304 rfl (by decide) (lc' := [(0, .ref a), (2, .ref e_232), (3, .int v_212)]) rfl ?_
        refine z_aload_n 0 dX0_send_305 rfl rfl ?_
        refine z_aload_n 1 dX0_send_306 rfl rfl ?_
        obtain ⟨hK_236, hf⟩ := zck_some hf
        refine z_geti fdX0_17_1 ((hK_236.b 0 rfl).t 0 rfl) dX0_send_307 ?_
        obtain ⟨v_238, h_239, hc_237, hf⟩ := zb2_some hf
        have hct := ctX0_answer (l := F.1) hL hc_237
        refine z_invVi suX0_163_0 hct ((hL.b 0 rfl).t 0 rfl) ⟨Nat.le_trans (by decide) hD, by decide⟩ rfl rfl (Nat.le_of_ble_eq_true rfl) dX0_send_310 ?_
        have hL := hL.ext hct.1
        have hK_207 := hK_207.ext hct.1
        have hK_210 := hK_210.ext hct.1
        have hK_215 := hK_215.ext hct.1
        have hK_228 := hK_228.ext hct.1
        have hK_236 := hK_236.ext hct.1
        cases hf
        exact z_iret dX0_send_313 rfl hM
      have hct := ctX7_put (l := F.1) hK_228 hc_229
      refine z_invVv suX0_399_5 hct ((hK_228.b 0 rfl).t 0 rfl) ⟨Nat.le_trans (by decide) hD, by decide⟩ rfl rfl (Nat.le_of_ble_eq_true rfl) dX0_send_295 ?_
      have hL := hL.ext hct.1
      have hK_207 := hK_207.ext hct.1
      have hK_210 := hK_210.ext hct.1
      have hK_215 := hK_215.ext hct.1
      have hK_228 := hK_228.ext hct.1
      refine z_aload_n 0 dX0_send_298 rfl rfl ?_
      refine z_iconst 2 dX0_send_299 rfl ?_
      obtain ⟨v_241, h_242, hc_240, hf⟩ := zb2_some hf
      have hct := ctX0_becomes (l := F.1) hL hc_240
      refine z_invVi suX0_306_0 hct ((hL.b 0 rfl).t 0 rfl) ⟨Nat.le_trans (by decide) hD, by decide⟩ rfl rfl (Nat.le_of_ble_eq_true rfl) dX0_send_300 ?_
      have hL := hL.ext hct.1
      have hK_207 := hK_207.ext hct.1
      have hK_210 := hK_210.ext hct.1
      have hK_215 := hK_215.ext hct.1
      have hK_228 := hK_228.ext hct.1
      cases hf
      exact z_iret dX0_send_303 rfl hM
    · exact hM
  · exact hM
theorem ctX0_send {l : Launch} {h : zH} {a : Nat} {x1 : Int32} {v : Int32} {h' : zH} (hL : zXx h a) (hf : fX0_send h a x1 = some (v, h')) : zC l yX0_send (wsW_ yX0_send cX0_send 5 (some .int) [(0, 303, 304, 18)]) 122 [.ref a, .int x1] h (.inl (some (.int v)), h') :=
  z_startW (by decide) (Nat.le_of_ble_eq_true rfl) (zX0_send (F := (l, 122, h, (.inl (some (.int v)), h'))) (Nat.le_refl _) hL hf rfl)
theorem fdX0_431_0 : zFd RX0 431 0 32 .int false := ⟨_, _, _, rfl, rfl, by decide, rfl, rfl, Or.inl q518, Or.inl rfl⟩
noncomputable def fX0_next_J36 (h : zH) (a : Nat) (k0 : Int32) : Option (zX) := zxv (fX0_need h a k0 ((-8))) (fun h_3 => zlet (zsI h_3 a 32 ((zI h_3 a 32) + 1)) (fun h_7 => zck (vp_in ((zI h_7 a 32) - 1) 1000) (some ((.inl (some (.int (zI h_7 (a + 25) ((zI h_7 a 32) - 1).toNatClampNeg))), h_7))))) (fun e_4 h_5 => some ((.inr e_4, h_5)))
theorem zX0_next_J36 {F : zF} {h : zH} {a : Nat} {k0 : Int32} {y : zX} (hD : 3 ≤ F.2.1) (hL : zXx h a) (hf : fX0_next_J36 h a k0 = some y) (hM : (y : zX) = zEnd F) : Z F 3 cX0_next RX0 "next" (some .int) [] h 36 [(0, .ref a)] [.int k0, .ref a] := by
  unfold fX0_next_J36 at hf
  refine z_bipush (-8) dX0_next_36 rfl ?_
  rcases zxv_some hf with ⟨h_3, hc_1, hf⟩ | ⟨e_4, h_5, hc_6, hf⟩
  rotate_left
  · have hct := ctX0_need (l := F.1) hL hc_6
    refine z_invVt suX0_184_0 hct ((hL.b 0 rfl).t 0 rfl) ⟨Nat.le_trans (by decide) hD, by decide⟩ rfl rfl (Nat.le_of_ble_eq_true rfl) dX0_next_38 ?_
    have hL := hL.ext hct.1
    cases hf
    exact zt_out rfl hM
  have hct := ctX0_need (l := F.1) hL hc_1
  refine z_invVv suX0_184_0 hct ((hL.b 0 rfl).t 0 rfl) ⟨Nat.le_trans (by decide) hD, by decide⟩ rfl rfl (Nat.le_of_ble_eq_true rfl) dX0_next_38 ?_
  have hL := hL.ext hct.1
  refine z_aload_n 0 dX0_next_41 rfl rfl ?_
  refine z_dup dX0_next_42 rfl ?_
  refine z_geti fdX0_431_0 ((hL.b 0 rfl).t 0 rfl) dX0_next_43 ?_
  refine z_iconst 1 dX0_next_46 rfl ?_
  refine z_iadd dX0_next_47 ?_
  obtain ⟨h_7, he, hf⟩ := zlet_some hf
  refine z_puti fdX0_431_0 ((hL.b 0 rfl).t 0 rfl) ((hL.b 0 rfl).nz 0) he dX0_next_48 ?_
  have hL := hL.I he
  refine z_aload_n 0 dX0_next_51 rfl rfl ?_
  refine z_getr fdX0_49_0 (Or.inr ⟨_, rfl⟩) ((hL.b 0 rfl).t 0 rfl) ((hL.b 0 rfl).p 2 rfl) dX0_next_52 ?_
  refine z_aload_n 0 dX0_next_55 rfl rfl ?_
  refine z_geti fdX0_431_0 ((hL.b 0 rfl).t 0 rfl) dX0_next_56 ?_
  refine z_iconst 1 dX0_next_59 rfl ?_
  refine z_isub dX0_next_60 ?_
  obtain ⟨hi_8, hf⟩ := zck_some hf
  refine z_iald ((hL.b 0 rfl).t 25 rfl) hi_8 dX0_next_61 ?_
  cases hf
  exact z_iret dX0_next_62 rfl hM
noncomputable def fX0_next_J35 (h : zH) (a : Nat) : Option (zX) := fX0_next_J36 h a 0
theorem zX0_next_J35 {F : zF} {h : zH} {a : Nat} {y : zX} (hD : 3 ≤ F.2.1) (hL : zXx h a) (hf : fX0_next_J35 h a = some y) (hM : (y : zX) = zEnd F) : Z F 3 cX0_next RX0 "next" (some .int) [] h 35 [(0, .ref a)] [.ref a] := by
  unfold fX0_next_J35 at hf
  refine z_iconst 0 dX0_next_35 rfl ?_
  exact zX0_next_J36 hD hL hf hM
noncomputable def fX0_next (h : zH) (a : Nat) (x1 : Int32) (x2 : Int32) : Option (zX) := if ((zI h a 5) - 2) ≤ (zI h a 32) then (fX0_next_J35 h a) else (zck (vp_in (zI h a 32) 1000) (zb1 (fX0_in (zI h (a + 25) (zI h a 32).toNatClampNeg) x1 x2) (fun v_11 => if v_11 = 0 then (fX0_next_J35 h a) else (fX0_next_J36 h a 1))))
theorem zX0_next {F : zF} {h : zH} {a : Nat} {x1 : Int32} {x2 : Int32} {y : zX} (hD : 3 ≤ F.2.1) (hL : zXx h a) (hf : fX0_next h a x1 x2 = some y) (hM : (y : zX) = zEnd F) : Z F 3 cX0_next RX0 "next" (some .int) [] h 0 [(0, .ref a), (1, .int x1), (2, .int x2)] [] := by
  unfold fX0_next at hf
  refine z_aload_n 0 dX0_next_0 rfl rfl ?_
  refine z_aload_n 0 dX0_next_1 rfl rfl ?_
  refine z_geti fdX0_431_0 ((hL.b 0 rfl).t 0 rfl) dX0_next_2 ?_
  refine z_aload_n 0 dX0_next_5 rfl rfl ?_
  refine z_geti fdX0_262_0 ((hL.b 0 rfl).t 0 rfl) dX0_next_6 ?_
  refine z_iconst 2 dX0_next_9 rfl ?_
  refine z_isub dX0_next_10 ?_
  refine z_icmp_ge 35 dX0_next_11 rfl hf (fun _ hf => ?_) (fun _ hf => ?_)
  · refine z_sub [0] rfl ?_
    exact zX0_next_J35 hD hL hf hM
  · refine z_aload_n 0 dX0_next_14 rfl rfl ?_
    refine z_getr fdX0_49_0 (Or.inr ⟨_, rfl⟩) ((hL.b 0 rfl).t 0 rfl) ((hL.b 0 rfl).p 2 rfl) dX0_next_15 ?_
    refine z_aload_n 0 dX0_next_18 rfl rfl ?_
    refine z_geti fdX0_431_0 ((hL.b 0 rfl).t 0 rfl) dX0_next_19 ?_
    obtain ⟨hi_9, hf⟩ := zck_some hf
    refine z_iald ((hL.b 0 rfl).t 25 rfl) hi_9 dX0_next_22 ?_
    refine z_iload_n 1 dX0_next_23 rfl rfl ?_
    refine z_iload_n 2 dX0_next_24 rfl rfl ?_
    obtain ⟨v_11, hc_10, hf⟩ := zb1_some hf
    refine z_invSi suX0_4_s (ctX0_in hc_10) ⟨Nat.le_trans (by decide) hD, by decide⟩ rfl rfl (Nat.le_of_ble_eq_true rfl) dX0_next_25 ?_
    refine z_if_eq 35 dX0_next_28 rfl hf (fun _ hf => ?_) (fun _ hf => ?_)
    · refine z_sub [0] rfl ?_
      exact zX0_next_J35 hD hL hf hM
    · refine z_iconst 1 dX0_next_31 rfl ?_
      refine z_goto 36 dX0_next_32 rfl ?_
      refine z_sub [0] rfl ?_
      exact zX0_next_J36 hD hL hf hM
theorem ctX0_next {l : Launch} {h : zH} {a : Nat} {x1 : Int32} {x2 : Int32} {y : zX} (hL : zXx h a) (hf : fX0_next h a x1 x2 = some y) : zC l yX0_next (ws_ yX0_next cX0_next 3 (some .int)) 3 [.ref a, .int x1, .int x2] h y :=
  z_start (by decide) (Nat.le_of_ble_eq_true rfl) (zX0_next (F := (l, 3, h, y)) (Nat.le_refl _) hL hf rfl)
theorem suX0_434_0 : zIv RX0 434 yX0_next (ws_ yX0_next cX0_next 3 (some .int)) 3 0 2 := ⟨(zGood_c q1376 q97), ⟨_, _, rfl, rfl, qs44⟩, (Or.inl q1373), q1375, ⟨by decide, by decide⟩, by decide +kernel⟩
noncomputable def fX0_number_L4 (h : zH) (a : Nat) (x1 : Int32) (x2 : Int32) (x3 : Int32) : Option ((zH × Int32 × Int32) ⊕ (zX)) := if x1 ≤ x3 then (some (.inr ((.inl (some (.int x2)), h)))) else (zxi (fX0_next h a 0 255) (fun v_2 h_3 => some (.inl ((h_3, (x2 <<< (8 &&& 31)) ||| v_2, x3 + 1)))) (fun e_4 h_5 => some (.inr ((.inr e_4, h_5)))))
theorem zX0_number_L4 {F : zF} {h : zH} {a : Nat} {x1 : Int32} {x2 : Int32} {x3 : Int32} {y : (zH × Int32 × Int32) ⊕ (zX)} (hD : 4 ≤ F.2.1) (hL : zXx h a) (hf : fX0_number_L4 h a x1 x2 x3 = some y) (hM : ((∀ s' : zH × Int32 × Int32, y = .inl s' → (zXx s'.1 a → Z F 4 cX0_number RX0 "number" (some .int) [] s'.1 4 [(0, .ref a), (1, .int x1), (2, .int s'.2.1), (3, .int s'.2.2)] [])) ∧ ∀ r : zX, y = .inr r → (r : zX) = zEnd F)) : Z F 4 cX0_number RX0 "number" (some .int) [] h 4 [(0, .ref a), (1, .int x1), (2, .int x2), (3, .int x3)] [] := by
  unfold fX0_number_L4 at hf
  refine z_iload_n 3 dX0_number_4 rfl rfl ?_
  refine z_iload_n 1 dX0_number_5 rfl rfl ?_
  refine z_icmp_ge 29 dX0_number_6 rfl hf (fun _ hf => ?_) (fun _ hf => ?_)
  · refine z_iload_n 2 dX0_number_29 rfl rfl ?_
    cases hf
    exact z_iret dX0_number_30 rfl (hM.2 _ rfl)
  · refine z_iload_n 2 dX0_number_9 rfl rfl ?_
    refine z_bipush 8 dX0_number_10 rfl ?_
    refine z_ishl dX0_number_12 ?_
    refine z_aload_n 0 dX0_number_13 rfl rfl ?_
    refine z_iconst 0 dX0_number_14 rfl ?_
    refine z_sipush 255 dX0_number_15 rfl ?_
    rcases zxi_some hf with ⟨v_2, h_3, hc_1, hf⟩ | ⟨e_4, h_5, hc_6, hf⟩
    rotate_left
    · have hct := ctX0_next (l := F.1) hL hc_6
      refine z_invVt suX0_434_0 hct ((hL.b 0 rfl).t 0 rfl) ⟨Nat.le_trans (by decide) hD, by decide⟩ rfl rfl (Nat.le_of_ble_eq_true rfl) dX0_number_18 ?_
      have hL := hL.ext hct.1
      cases hf
      exact zt_out rfl (hM.2 _ rfl)
    have hct := ctX0_next (l := F.1) hL hc_1
    refine z_invVi suX0_434_0 hct ((hL.b 0 rfl).t 0 rfl) ⟨Nat.le_trans (by decide) hD, by decide⟩ rfl rfl (Nat.le_of_ble_eq_true rfl) dX0_number_18 ?_
    have hL := hL.ext hct.1
    refine z_ior dX0_number_21 ?_
    refine z_istore_n dX0_number_22 rfl (by decide) (lc' := [(0, .ref a), (1, .int x1), (2, .int ((x2 <<< (8 &&& 31)) ||| v_2)), (3, .int x3)]) rfl ?_
    refine z_iinc 3 (x3 + 1) dX0_number_23 rfl rfl (by decide) (lc' := [(0, .ref a), (1, .int x1), (2, .int ((x2 <<< (8 &&& 31)) ||| v_2)), (3, .int (x3 + 1))]) rfl ?_
    refine z_goto 4 dX0_number_26 rfl ?_
    cases hf
    exact (hM.1 _ rfl) hL
noncomputable def fX0_number (h : zH) (a : Nat) (x1 : Int32) : Option (zX) := zlp (fun s => fX0_number_L4 s.1 a x1 s.2.1 s.2.2) (h, 0, 0)
theorem zX0_number {F : zF} {h : zH} {a : Nat} {x1 : Int32} {y : zX} (hD : 4 ≤ F.2.1) (hL : zXx h a) (hf : fX0_number h a x1 = some y) (hM : (y : zX) = zEnd F) : Z F 4 cX0_number RX0 "number" (some .int) [] h 0 [(0, .ref a), (1, .int x1)] [] := by
  unfold fX0_number at hf
  refine z_iconst 0 dX0_number_0 rfl ?_
  refine z_istore_n dX0_number_1 rfl (by decide) (lc' := [(0, .ref a), (1, .int x1), (2, .int 0)]) rfl ?_
  refine z_iconst 0 dX0_number_2 rfl ?_
  refine z_istore_n dX0_number_3 rfl (by decide) (lc' := [(0, .ref a), (1, .int x1), (2, .int 0), (3, .int 0)]) rfl ?_
  exact z_loop (fun (s : zH × Int32 × Int32) => (zXx s.1 a → Z F 4 cX0_number RX0 "number" (some .int) [] s.1 4 [(0, .ref a), (1, .int x1), (2, .int s.2.1), (3, .int s.2.2)] [])) (fun (r : zX) => (r : zX) = zEnd F) (fun s y hb hs hr hL => zX0_number_L4 hD hL hb ⟨hs, hr⟩) hf hM hL
theorem ctX0_number {l : Launch} {h : zH} {a : Nat} {x1 : Int32} {y : zX} (hL : zXx h a) (hf : fX0_number h a x1 = some y) : zC l yX0_number (ws_ yX0_number cX0_number 4 (some .int)) 4 [.ref a, .int x1] h y :=
  z_start (by decide) (Nat.le_of_ble_eq_true rfl) (zX0_number (F := (l, 4, h, y)) (Nat.le_refl _) hL hf rfl)
theorem suX0_437_0 : zIv RX0 437 yX0_number (ws_ yX0_number cX0_number 4 (some .int)) 4 0 1 := ⟨(zGood_c q1380 q97), ⟨_, _, rfl, rfl, qs45⟩, (Or.inl q1377), q1379, ⟨by decide, by decide⟩, by decide +kernel⟩
noncomputable def fX0_takeIn_J88 (h : zH) (a : Nat) (x1 : Nat) (x2 : Int32) (x3 : Int32) (x4 : Int32) (x5 : Int32) (x6 : Int32) (x7 : Int32) (k0 : Int32) : Option ((zH × Int32) ⊕ ((zH) ⊕ zX)) := zxv (fX0_need h a k0 ((-8))) (fun h_40 => zxi (fX0_next h_40 a 0 1) (fun v_45 h_46 => if v_45 = 1 then (zck (zTb h_46 x1) (zb1 (fX3_set h_46 x1 x3 x4 x6 x5 x7 1) (fun h_58 => zlet (zsI h_58 x1 4 ((zI h_58 x1 4) + 1)) (fun h_59 => some (.inl ((h_59, x3 + 1))))))) else (zck (zTb h_46 x1) (zb1 (fX3_set h_46 x1 x3 x4 x6 x5 x7 0) (fun h_53 => zlet (zsI h_53 x1 4 ((zI h_53 x1 4) + 1)) (fun h_54 => some (.inl ((h_54, x3 + 1)))))))) (fun e_47 h_48 => some (.inr (.inr ((.inr e_47, h_48)))))) (fun e_41 h_42 => some (.inr (.inr ((.inr e_41, h_42)))))
theorem zX0_takeIn_J88 {F : zF} {h : zH} {a : Nat} {x1 : Nat} {x2 : Int32} {x3 : Int32} {x4 : Int32} {x5 : Int32} {x6 : Int32} {x7 : Int32} {k0 : Int32} {y : (zH × Int32) ⊕ ((zH) ⊕ zX)} (hD : 5 ≤ F.2.1) (hL : zXx h a) (hf : fX0_takeIn_J88 h a x1 x2 x3 x4 x5 x6 x7 k0 = some y) (hM : ((∀ s' : zH × Int32, y = .inl s' → (zXx s'.1 a → Z F 8 cX0_takeIn RX0 "takeIn" none [] s'.1 25 [(0, .ref a), (1, .ref x1), (2, .int x2), (3, .int s'.2)] [])) ∧ ∀ r : (zH) ⊕ zX, y = .inr r → (match r with | .inl t => (zXx t a → Z F 8 cX0_takeIn RX0 "takeIn" none [] t 137 [(0, .ref a), (1, .ref x1)] []) | .inr z => (z : zX) = zEnd F))) : Z F 8 cX0_takeIn RX0 "takeIn" none [] h 88 [(0, .ref a), (1, .ref x1), (2, .int x2), (3, .int x3), (4, .int x4), (5, .int x5), (6, .int x6), (7, .int x7)] [.int k0, .ref a] := by
  unfold fX0_takeIn_J88 at hf
  refine z_bipush (-8) dX0_takeIn_88 rfl ?_
  rcases zxv_some hf with ⟨h_40, hc_38, hf⟩ | ⟨e_41, h_42, hc_43, hf⟩
  rotate_left
  · have hct := ctX0_need (l := F.1) hL hc_43
    refine z_invVt suX0_184_0 hct ((hL.b 0 rfl).t 0 rfl) ⟨Nat.le_trans (by decide) hD, by decide⟩ rfl rfl (Nat.le_of_ble_eq_true rfl) dX0_takeIn_90 ?_
    have hL := hL.ext hct.1
    cases hf
    exact zt_out rfl (hM.2 _ rfl)
  have hct := ctX0_need (l := F.1) hL hc_38
  refine z_invVv suX0_184_0 hct ((hL.b 0 rfl).t 0 rfl) ⟨Nat.le_trans (by decide) hD, by decide⟩ rfl rfl (Nat.le_of_ble_eq_true rfl) dX0_takeIn_90 ?_
  have hL := hL.ext hct.1
  refine z_aload_n 1 dX0_takeIn_93 rfl rfl ?_
  refine z_iload_n 3 dX0_takeIn_94 rfl rfl ?_
  refine z_iload 4 dX0_takeIn_95 rfl ?_
  refine z_iload 6 dX0_takeIn_97 rfl ?_
  refine z_iload 5 dX0_takeIn_99 rfl ?_
  refine z_iload 7 dX0_takeIn_101 rfl ?_
  refine z_aload_n 0 dX0_takeIn_103 rfl rfl ?_
  refine z_iconst 0 dX0_takeIn_104 rfl ?_
  refine z_iconst 1 dX0_takeIn_105 rfl ?_
  rcases zxi_some hf with ⟨v_45, h_46, hc_44, hf⟩ | ⟨e_47, h_48, hc_49, hf⟩
  rotate_left
  · have hct := ctX0_next (l := F.1) hL hc_49
    refine z_invVt suX0_434_0 hct ((hL.b 0 rfl).t 0 rfl) ⟨Nat.le_trans (by decide) hD, by decide⟩ rfl rfl (Nat.le_of_ble_eq_true rfl) dX0_takeIn_106 ?_
    have hL := hL.ext hct.1
    cases hf
    exact zt_out rfl (hM.2 _ rfl)
  have hct := ctX0_next (l := F.1) hL hc_44
  refine z_invVi suX0_434_0 hct ((hL.b 0 rfl).t 0 rfl) ⟨Nat.le_trans (by decide) hD, by decide⟩ rfl rfl (Nat.le_of_ble_eq_true rfl) dX0_takeIn_106 ?_
  have hL := hL.ext hct.1
  refine z_iconst 1 dX0_takeIn_109 rfl ?_
  refine z_icmp_ne 117 dX0_takeIn_110 rfl hf (fun _ hf => ?_) (fun _ hf => ?_)
  · refine z_iconst 0 dX0_takeIn_117 rfl ?_
    obtain ⟨hK_50, hf⟩ := zck_some hf
    obtain ⟨h_53, hc_51, hf⟩ := zb1_some hf
    have hct := ctX3_set (l := F.1) hK_50 hc_51
    refine z_invVv suX0_206_2 hct ((hK_50.b 0 rfl).t 0 rfl) ⟨Nat.le_trans (by decide) hD, by decide⟩ rfl rfl (Nat.le_of_ble_eq_true rfl) dX0_takeIn_118 ?_
    have hL := hL.ext hct.1
    have hK_50 := hK_50.ext hct.1
    refine z_aload_n 1 dX0_takeIn_121 rfl rfl ?_
    refine z_dup dX0_takeIn_122 rfl ?_
    refine z_geti fdX0_203_2 ((hK_50.b 0 rfl).t 0 rfl) dX0_takeIn_123 ?_
    refine z_iconst 1 dX0_takeIn_126 rfl ?_
    refine z_iadd dX0_takeIn_127 ?_
    obtain ⟨h_54, he, hf⟩ := zlet_some hf
    refine z_puti fdX0_203_2 ((hK_50.b 0 rfl).t 0 rfl) ((hK_50.b 0 rfl).nz 0) he dX0_takeIn_128 ?_
    have hL := hL.I he
    have hK_50 := hK_50.I he
    refine z_iinc 3 (x3 + 1) dX0_takeIn_131 rfl rfl (by decide) (lc' := [(0, .ref a), (1, .ref x1), (2, .int x2), (3, .int (x3 + 1)), (4, .int x4), (5, .int x5), (6, .int x6), (7, .int x7)]) rfl ?_
    refine z_goto 25 dX0_takeIn_134 rfl ?_
    cases hf
    refine z_sub [0, 1, 2, 3] rfl ?_
    exact (hM.1 _ rfl) hL
  · refine z_iconst 1 dX0_takeIn_113 rfl ?_
    refine z_goto 118 dX0_takeIn_114 rfl ?_
    obtain ⟨hK_55, hf⟩ := zck_some hf
    obtain ⟨h_58, hc_56, hf⟩ := zb1_some hf
    have hct := ctX3_set (l := F.1) hK_55 hc_56
    refine z_invVv suX0_206_2 hct ((hK_55.b 0 rfl).t 0 rfl) ⟨Nat.le_trans (by decide) hD, by decide⟩ rfl rfl (Nat.le_of_ble_eq_true rfl) dX0_takeIn_118 ?_
    have hL := hL.ext hct.1
    have hK_55 := hK_55.ext hct.1
    refine z_aload_n 1 dX0_takeIn_121 rfl rfl ?_
    refine z_dup dX0_takeIn_122 rfl ?_
    refine z_geti fdX0_203_2 ((hK_55.b 0 rfl).t 0 rfl) dX0_takeIn_123 ?_
    refine z_iconst 1 dX0_takeIn_126 rfl ?_
    refine z_iadd dX0_takeIn_127 ?_
    obtain ⟨h_59, he, hf⟩ := zlet_some hf
    refine z_puti fdX0_203_2 ((hK_55.b 0 rfl).t 0 rfl) ((hK_55.b 0 rfl).nz 0) he dX0_takeIn_128 ?_
    have hL := hL.I he
    have hK_55 := hK_55.I he
    refine z_iinc 3 (x3 + 1) dX0_takeIn_131 rfl rfl (by decide) (lc' := [(0, .ref a), (1, .ref x1), (2, .int x2), (3, .int (x3 + 1)), (4, .int x4), (5, .int x5), (6, .int x6), (7, .int x7)]) rfl ?_
    refine z_goto 25 dX0_takeIn_134 rfl ?_
    cases hf
    refine z_sub [0, 1, 2, 3] rfl ?_
    exact (hM.1 _ rfl) hL
noncomputable def fX0_takeIn_J87 (h : zH) (a : Nat) (x1 : Nat) (x2 : Int32) (x3 : Int32) (x4 : Int32) (x5 : Int32) (x6 : Int32) (x7 : Int32) : Option ((zH × Int32) ⊕ ((zH) ⊕ zX)) := fX0_takeIn_J88 h a x1 x2 x3 x4 x5 x6 x7 0
theorem zX0_takeIn_J87 {F : zF} {h : zH} {a : Nat} {x1 : Nat} {x2 : Int32} {x3 : Int32} {x4 : Int32} {x5 : Int32} {x6 : Int32} {x7 : Int32} {y : (zH × Int32) ⊕ ((zH) ⊕ zX)} (hD : 5 ≤ F.2.1) (hL : zXx h a) (hf : fX0_takeIn_J87 h a x1 x2 x3 x4 x5 x6 x7 = some y) (hM : ((∀ s' : zH × Int32, y = .inl s' → (zXx s'.1 a → Z F 8 cX0_takeIn RX0 "takeIn" none [] s'.1 25 [(0, .ref a), (1, .ref x1), (2, .int x2), (3, .int s'.2)] [])) ∧ ∀ r : (zH) ⊕ zX, y = .inr r → (match r with | .inl t => (zXx t a → Z F 8 cX0_takeIn RX0 "takeIn" none [] t 137 [(0, .ref a), (1, .ref x1)] []) | .inr z => (z : zX) = zEnd F))) : Z F 8 cX0_takeIn RX0 "takeIn" none [] h 87 [(0, .ref a), (1, .ref x1), (2, .int x2), (3, .int x3), (4, .int x4), (5, .int x5), (6, .int x6), (7, .int x7)] [.ref a] := by
  unfold fX0_takeIn_J87 at hf
  refine z_iconst 0 dX0_takeIn_87 rfl ?_
  exact zX0_takeIn_J88 hD hL hf hM
noncomputable def fX0_takeIn_L25 (h : zH) (a : Nat) (x1 : Nat) (x2 : Int32) (x3 : Int32) : Option ((zH × Int32) ⊕ ((zH) ⊕ zX)) := if x2 ≤ x3 then (some (.inr (.inl h))) else (zxi (fX0_next h a 0 3) (fun v_12 h_13 => zxi (fX0_next h_13 a 1 3) (fun v_18 h_19 => zxi (fX0_number h_19 a v_18) (fun v_24 h_25 => zxi (fX0_number h_25 a 3) (fun v_30 h_31 => zb1 (fX0_isPoint v_30) (fun v_36 => if v_36 = 0 then (fX0_takeIn_J87 h_31 a x1 x2 x3 v_12 v_18 v_24 v_30) else (zck (zTb h_31 x1) (zb1 (fX3_find h_31 x1 v_12 v_24 v_18) (fun v_62 => if 0 ≤ v_62 then (fX0_takeIn_J87 h_31 a x1 x2 x3 v_12 v_18 v_24 v_30) else (fX0_takeIn_J88 h_31 a x1 x2 x3 v_12 v_18 v_24 v_30 1)))))) (fun e_32 h_33 => some (.inr (.inr ((.inr e_32, h_33)))))) (fun e_26 h_27 => some (.inr (.inr ((.inr e_26, h_27)))))) (fun e_20 h_21 => some (.inr (.inr ((.inr e_20, h_21)))))) (fun e_14 h_15 => some (.inr (.inr ((.inr e_14, h_15))))))
theorem zX0_takeIn_L25 {F : zF} {h : zH} {a : Nat} {x1 : Nat} {x2 : Int32} {x3 : Int32} {y : (zH × Int32) ⊕ ((zH) ⊕ zX)} (hD : 5 ≤ F.2.1) (hL : zXx h a) (hf : fX0_takeIn_L25 h a x1 x2 x3 = some y) (hM : ((∀ s' : zH × Int32, y = .inl s' → (zXx s'.1 a → Z F 8 cX0_takeIn RX0 "takeIn" none [] s'.1 25 [(0, .ref a), (1, .ref x1), (2, .int x2), (3, .int s'.2)] [])) ∧ ∀ r : (zH) ⊕ zX, y = .inr r → (match r with | .inl t => (zXx t a → Z F 8 cX0_takeIn RX0 "takeIn" none [] t 137 [(0, .ref a), (1, .ref x1)] []) | .inr z => (z : zX) = zEnd F))) : Z F 8 cX0_takeIn RX0 "takeIn" none [] h 25 [(0, .ref a), (1, .ref x1), (2, .int x2), (3, .int x3)] [] := by
  unfold fX0_takeIn_L25 at hf
  refine z_iload_n 3 dX0_takeIn_25 rfl rfl ?_
  refine z_iload_n 2 dX0_takeIn_26 rfl rfl ?_
  refine z_icmp_ge 137 dX0_takeIn_27 rfl hf (fun _ hf => ?_) (fun _ hf => ?_)
  · cases hf
    refine z_sub [0, 1] rfl ?_
    exact (hM.2 _ rfl) hL
  · refine z_aload_n 0 dX0_takeIn_30 rfl rfl ?_
    refine z_iconst 0 dX0_takeIn_31 rfl ?_
    refine z_iconst 3 dX0_takeIn_32 rfl ?_
    rcases zxi_some hf with ⟨v_12, h_13, hc_11, hf⟩ | ⟨e_14, h_15, hc_16, hf⟩
    rotate_left
    · have hct := ctX0_next (l := F.1) hL hc_16
      refine z_invVt suX0_434_0 hct ((hL.b 0 rfl).t 0 rfl) ⟨Nat.le_trans (by decide) hD, by decide⟩ rfl rfl (Nat.le_of_ble_eq_true rfl) dX0_takeIn_33 ?_
      have hL := hL.ext hct.1
      cases hf
      exact zt_out rfl (hM.2 _ rfl)
    have hct := ctX0_next (l := F.1) hL hc_11
    refine z_invVi suX0_434_0 hct ((hL.b 0 rfl).t 0 rfl) ⟨Nat.le_trans (by decide) hD, by decide⟩ rfl rfl (Nat.le_of_ble_eq_true rfl) dX0_takeIn_33 ?_
    have hL := hL.ext hct.1
    refine z_istore dX0_takeIn_36 (by decide) (lc' := [(0, .ref a), (1, .ref x1), (2, .int x2), (3, .int x3), (4, .int v_12)]) rfl ?_
    refine z_aload_n 0 dX0_takeIn_38 rfl rfl ?_
    refine z_iconst 1 dX0_takeIn_39 rfl ?_
    refine z_iconst 3 dX0_takeIn_40 rfl ?_
    rcases zxi_some hf with ⟨v_18, h_19, hc_17, hf⟩ | ⟨e_20, h_21, hc_22, hf⟩
    rotate_left
    · have hct := ctX0_next (l := F.1) hL hc_22
      refine z_invVt suX0_434_0 hct ((hL.b 0 rfl).t 0 rfl) ⟨Nat.le_trans (by decide) hD, by decide⟩ rfl rfl (Nat.le_of_ble_eq_true rfl) dX0_takeIn_41 ?_
      have hL := hL.ext hct.1
      cases hf
      exact zt_out rfl (hM.2 _ rfl)
    have hct := ctX0_next (l := F.1) hL hc_17
    refine z_invVi suX0_434_0 hct ((hL.b 0 rfl).t 0 rfl) ⟨Nat.le_trans (by decide) hD, by decide⟩ rfl rfl (Nat.le_of_ble_eq_true rfl) dX0_takeIn_41 ?_
    have hL := hL.ext hct.1
    refine z_istore dX0_takeIn_44 (by decide) (lc' := [(0, .ref a), (1, .ref x1), (2, .int x2), (3, .int x3), (4, .int v_12), (5, .int v_18)]) rfl ?_
    refine z_aload_n 0 dX0_takeIn_46 rfl rfl ?_
    refine z_iload 5 dX0_takeIn_47 rfl ?_
    rcases zxi_some hf with ⟨v_24, h_25, hc_23, hf⟩ | ⟨e_26, h_27, hc_28, hf⟩
    rotate_left
    · have hct := ctX0_number (l := F.1) hL hc_28
      refine z_invVt suX0_437_0 hct ((hL.b 0 rfl).t 0 rfl) ⟨Nat.le_trans (by decide) hD, by decide⟩ rfl rfl (Nat.le_of_ble_eq_true rfl) dX0_takeIn_49 ?_
      have hL := hL.ext hct.1
      cases hf
      exact zt_out rfl (hM.2 _ rfl)
    have hct := ctX0_number (l := F.1) hL hc_23
    refine z_invVi suX0_437_0 hct ((hL.b 0 rfl).t 0 rfl) ⟨Nat.le_trans (by decide) hD, by decide⟩ rfl rfl (Nat.le_of_ble_eq_true rfl) dX0_takeIn_49 ?_
    have hL := hL.ext hct.1
    refine z_istore dX0_takeIn_52 (by decide) (lc' := [(0, .ref a), (1, .ref x1), (2, .int x2), (3, .int x3), (4, .int v_12), (5, .int v_18), (6, .int v_24)]) rfl ?_
    refine z_aload_n 0 dX0_takeIn_54 rfl rfl ?_
    refine z_iconst 3 dX0_takeIn_55 rfl ?_
    rcases zxi_some hf with ⟨v_30, h_31, hc_29, hf⟩ | ⟨e_32, h_33, hc_34, hf⟩
    rotate_left
    · have hct := ctX0_number (l := F.1) hL hc_34
      refine z_invVt suX0_437_0 hct ((hL.b 0 rfl).t 0 rfl) ⟨Nat.le_trans (by decide) hD, by decide⟩ rfl rfl (Nat.le_of_ble_eq_true rfl) dX0_takeIn_56 ?_
      have hL := hL.ext hct.1
      cases hf
      exact zt_out rfl (hM.2 _ rfl)
    have hct := ctX0_number (l := F.1) hL hc_29
    refine z_invVi suX0_437_0 hct ((hL.b 0 rfl).t 0 rfl) ⟨Nat.le_trans (by decide) hD, by decide⟩ rfl rfl (Nat.le_of_ble_eq_true rfl) dX0_takeIn_56 ?_
    have hL := hL.ext hct.1
    refine z_istore dX0_takeIn_59 (by decide) (lc' := [(0, .ref a), (1, .ref x1), (2, .int x2), (3, .int x3), (4, .int v_12), (5, .int v_18), (6, .int v_24), (7, .int v_30)]) rfl ?_
    refine z_aload_n 0 dX0_takeIn_61 rfl rfl ?_
    refine z_iload 7 dX0_takeIn_62 rfl ?_
    obtain ⟨v_36, hc_35, hf⟩ := zb1_some hf
    refine z_invSi suX0_195_s (ctX0_isPoint hc_35) ⟨Nat.le_trans (by decide) hD, by decide⟩ rfl rfl (Nat.le_of_ble_eq_true rfl) dX0_takeIn_64 ?_
    refine z_if_eq 87 dX0_takeIn_67 rfl hf (fun _ hf => ?_) (fun _ hf => ?_)
    · exact zX0_takeIn_J87 hD hL hf hM
    · refine z_aload_n 1 dX0_takeIn_70 rfl rfl ?_
      refine z_iload 4 dX0_takeIn_71 rfl ?_
      refine z_iload 6 dX0_takeIn_73 rfl ?_
      refine z_iload 5 dX0_takeIn_75 rfl ?_
      obtain ⟨hK_60, hf⟩ := zck_some hf
      obtain ⟨v_62, hc_61, hf⟩ := zb1_some hf
      refine z_invVi suX0_199_2 (ctX3_find hK_60 hc_61) ((hK_60.b 0 rfl).t 0 rfl) ⟨Nat.le_trans (by decide) hD, by decide⟩ rfl rfl (Nat.le_of_ble_eq_true rfl) dX0_takeIn_77 ?_
      refine z_if_ge 87 dX0_takeIn_80 rfl hf (fun _ hf => ?_) (fun _ hf => ?_)
      · exact zX0_takeIn_J87 hD hL hf hM
      · refine z_iconst 1 dX0_takeIn_83 rfl ?_
        refine z_goto 88 dX0_takeIn_84 rfl ?_
        exact zX0_takeIn_J88 hD hL hf hM
noncomputable def fX0_takeIn_J202 (h : zH) (a : Nat) (x1 : Nat) (x2 : Int32) (x3 : Int32) (x4 : Int32) (x5 : Int32) (x6 : Int32) (k0 : Int32) : Option ((zH × Int32) ⊕ ((zH) ⊕ zX)) := zxv (fX0_need h a k0 ((-8))) (fun h_91 => zxi (fX0_next h_91 a 0 1) (fun v_96 h_97 => if v_96 = 1 then (zck (zTb h_97 x1) (zb1 (fX3_setShift h_97 x1 x3 x4 x5 x6 1) (fun h_109 => zlet (zsI h_109 x1 10 ((zI h_109 x1 10) + 1)) (fun h_110 => some (.inl ((h_110, x3 + 1))))))) else (zck (zTb h_97 x1) (zb1 (fX3_setShift h_97 x1 x3 x4 x5 x6 0) (fun h_104 => zlet (zsI h_104 x1 10 ((zI h_104 x1 10) + 1)) (fun h_105 => some (.inl ((h_105, x3 + 1)))))))) (fun e_98 h_99 => some (.inr (.inr ((.inr e_98, h_99)))))) (fun e_92 h_93 => some (.inr (.inr ((.inr e_92, h_93)))))
theorem zX0_takeIn_J202 {F : zF} {h : zH} {a : Nat} {x1 : Nat} {x2 : Int32} {x3 : Int32} {x4 : Int32} {x5 : Int32} {x6 : Int32} {k0 : Int32} {y : (zH × Int32) ⊕ ((zH) ⊕ zX)} (hD : 5 ≤ F.2.1) (hL : zXx h a) (hf : fX0_takeIn_J202 h a x1 x2 x3 x4 x5 x6 k0 = some y) (hM : ((∀ s' : zH × Int32, y = .inl s' → (zXx s'.1 a → Z F 8 cX0_takeIn RX0 "takeIn" none [] s'.1 147 [(0, .ref a), (1, .ref x1), (2, .int x2), (3, .int s'.2)] [])) ∧ ∀ r : (zH) ⊕ zX, y = .inr r → (match r with | .inl t => (zXx t a → Z F 8 cX0_takeIn RX0 "takeIn" none [] t 249 [(0, .ref a)] []) | .inr z => (z : zX) = zEnd F))) : Z F 8 cX0_takeIn RX0 "takeIn" none [] h 202 [(0, .ref a), (1, .ref x1), (2, .int x2), (3, .int x3), (4, .int x4), (5, .int x5), (6, .int x6)] [.int k0, .ref a] := by
  unfold fX0_takeIn_J202 at hf
  refine z_bipush (-8) dX0_takeIn_202 rfl ?_
  rcases zxv_some hf with ⟨h_91, hc_89, hf⟩ | ⟨e_92, h_93, hc_94, hf⟩
  rotate_left
  · have hct := ctX0_need (l := F.1) hL hc_94
    refine z_invVt suX0_184_0 hct ((hL.b 0 rfl).t 0 rfl) ⟨Nat.le_trans (by decide) hD, by decide⟩ rfl rfl (Nat.le_of_ble_eq_true rfl) dX0_takeIn_204 ?_
    have hL := hL.ext hct.1
    cases hf
    exact zt_out rfl (hM.2 _ rfl)
  have hct := ctX0_need (l := F.1) hL hc_89
  refine z_invVv suX0_184_0 hct ((hL.b 0 rfl).t 0 rfl) ⟨Nat.le_trans (by decide) hD, by decide⟩ rfl rfl (Nat.le_of_ble_eq_true rfl) dX0_takeIn_204 ?_
  have hL := hL.ext hct.1
  refine z_aload_n 1 dX0_takeIn_207 rfl rfl ?_
  refine z_iload_n 3 dX0_takeIn_208 rfl rfl ?_
  refine z_iload 4 dX0_takeIn_209 rfl ?_
  refine z_iload 5 dX0_takeIn_211 rfl ?_
  refine z_iload 6 dX0_takeIn_213 rfl ?_
  refine z_aload_n 0 dX0_takeIn_215 rfl rfl ?_
  refine z_iconst 0 dX0_takeIn_216 rfl ?_
  refine z_iconst 1 dX0_takeIn_217 rfl ?_
  rcases zxi_some hf with ⟨v_96, h_97, hc_95, hf⟩ | ⟨e_98, h_99, hc_100, hf⟩
  rotate_left
  · have hct := ctX0_next (l := F.1) hL hc_100
    refine z_invVt suX0_434_0 hct ((hL.b 0 rfl).t 0 rfl) ⟨Nat.le_trans (by decide) hD, by decide⟩ rfl rfl (Nat.le_of_ble_eq_true rfl) dX0_takeIn_218 ?_
    have hL := hL.ext hct.1
    cases hf
    exact zt_out rfl (hM.2 _ rfl)
  have hct := ctX0_next (l := F.1) hL hc_95
  refine z_invVi suX0_434_0 hct ((hL.b 0 rfl).t 0 rfl) ⟨Nat.le_trans (by decide) hD, by decide⟩ rfl rfl (Nat.le_of_ble_eq_true rfl) dX0_takeIn_218 ?_
  have hL := hL.ext hct.1
  refine z_iconst 1 dX0_takeIn_221 rfl ?_
  refine z_icmp_ne 229 dX0_takeIn_222 rfl hf (fun _ hf => ?_) (fun _ hf => ?_)
  · refine z_iconst 0 dX0_takeIn_229 rfl ?_
    obtain ⟨hK_101, hf⟩ := zck_some hf
    obtain ⟨h_104, hc_102, hf⟩ := zb1_some hf
    have hct := ctX3_setShift (l := F.1) hK_101 hc_102
    refine z_invVv suX0_217_2 hct ((hK_101.b 0 rfl).t 0 rfl) ⟨Nat.le_trans (by decide) hD, by decide⟩ rfl rfl (Nat.le_of_ble_eq_true rfl) dX0_takeIn_230 ?_
    have hL := hL.ext hct.1
    have hK_101 := hK_101.ext hct.1
    refine z_aload_n 1 dX0_takeIn_233 rfl rfl ?_
    refine z_dup dX0_takeIn_234 rfl ?_
    refine z_geti fdX0_214_2 ((hK_101.b 0 rfl).t 0 rfl) dX0_takeIn_235 ?_
    refine z_iconst 1 dX0_takeIn_238 rfl ?_
    refine z_iadd dX0_takeIn_239 ?_
    obtain ⟨h_105, he, hf⟩ := zlet_some hf
    refine z_puti fdX0_214_2 ((hK_101.b 0 rfl).t 0 rfl) ((hK_101.b 0 rfl).nz 0) he dX0_takeIn_240 ?_
    have hL := hL.I he
    have hK_101 := hK_101.I he
    refine z_iinc 3 (x3 + 1) dX0_takeIn_243 rfl rfl (by decide) (lc' := [(0, .ref a), (1, .ref x1), (2, .int x2), (3, .int (x3 + 1)), (4, .int x4), (5, .int x5), (6, .int x6)]) rfl ?_
    refine z_goto 147 dX0_takeIn_246 rfl ?_
    cases hf
    refine z_sub [0, 1, 2, 3] rfl ?_
    exact (hM.1 _ rfl) hL
  · refine z_iconst 1 dX0_takeIn_225 rfl ?_
    refine z_goto 230 dX0_takeIn_226 rfl ?_
    obtain ⟨hK_106, hf⟩ := zck_some hf
    obtain ⟨h_109, hc_107, hf⟩ := zb1_some hf
    have hct := ctX3_setShift (l := F.1) hK_106 hc_107
    refine z_invVv suX0_217_2 hct ((hK_106.b 0 rfl).t 0 rfl) ⟨Nat.le_trans (by decide) hD, by decide⟩ rfl rfl (Nat.le_of_ble_eq_true rfl) dX0_takeIn_230 ?_
    have hL := hL.ext hct.1
    have hK_106 := hK_106.ext hct.1
    refine z_aload_n 1 dX0_takeIn_233 rfl rfl ?_
    refine z_dup dX0_takeIn_234 rfl ?_
    refine z_geti fdX0_214_2 ((hK_106.b 0 rfl).t 0 rfl) dX0_takeIn_235 ?_
    refine z_iconst 1 dX0_takeIn_238 rfl ?_
    refine z_iadd dX0_takeIn_239 ?_
    obtain ⟨h_110, he, hf⟩ := zlet_some hf
    refine z_puti fdX0_214_2 ((hK_106.b 0 rfl).t 0 rfl) ((hK_106.b 0 rfl).nz 0) he dX0_takeIn_240 ?_
    have hL := hL.I he
    have hK_106 := hK_106.I he
    refine z_iinc 3 (x3 + 1) dX0_takeIn_243 rfl rfl (by decide) (lc' := [(0, .ref a), (1, .ref x1), (2, .int x2), (3, .int (x3 + 1)), (4, .int x4), (5, .int x5), (6, .int x6)]) rfl ?_
    refine z_goto 147 dX0_takeIn_246 rfl ?_
    cases hf
    refine z_sub [0, 1, 2, 3] rfl ?_
    exact (hM.1 _ rfl) hL
noncomputable def fX0_takeIn_J201 (h : zH) (a : Nat) (x1 : Nat) (x2 : Int32) (x3 : Int32) (x4 : Int32) (x5 : Int32) (x6 : Int32) : Option ((zH × Int32) ⊕ ((zH) ⊕ zX)) := fX0_takeIn_J202 h a x1 x2 x3 x4 x5 x6 0
theorem zX0_takeIn_J201 {F : zF} {h : zH} {a : Nat} {x1 : Nat} {x2 : Int32} {x3 : Int32} {x4 : Int32} {x5 : Int32} {x6 : Int32} {y : (zH × Int32) ⊕ ((zH) ⊕ zX)} (hD : 5 ≤ F.2.1) (hL : zXx h a) (hf : fX0_takeIn_J201 h a x1 x2 x3 x4 x5 x6 = some y) (hM : ((∀ s' : zH × Int32, y = .inl s' → (zXx s'.1 a → Z F 8 cX0_takeIn RX0 "takeIn" none [] s'.1 147 [(0, .ref a), (1, .ref x1), (2, .int x2), (3, .int s'.2)] [])) ∧ ∀ r : (zH) ⊕ zX, y = .inr r → (match r with | .inl t => (zXx t a → Z F 8 cX0_takeIn RX0 "takeIn" none [] t 249 [(0, .ref a)] []) | .inr z => (z : zX) = zEnd F))) : Z F 8 cX0_takeIn RX0 "takeIn" none [] h 201 [(0, .ref a), (1, .ref x1), (2, .int x2), (3, .int x3), (4, .int x4), (5, .int x5), (6, .int x6)] [.ref a] := by
  unfold fX0_takeIn_J201 at hf
  refine z_iconst 0 dX0_takeIn_201 rfl ?_
  exact zX0_takeIn_J202 hD hL hf hM
noncomputable def fX0_takeIn_L147 (h : zH) (a : Nat) (x1 : Nat) (x2 : Int32) (x3 : Int32) : Option ((zH × Int32) ⊕ ((zH) ⊕ zX)) := if x2 ≤ x3 then (some (.inr (.inl h))) else (zxi (fX0_next h a 0 3) (fun v_72 h_73 => zxi (fX0_next h_73 a 0 255) (fun v_78 h_79 => zxi (fX0_next h_79 a 0 3) (fun v_84 h_85 => if v_72 = v_84 then (fX0_takeIn_J201 h_85 a x1 x2 x3 v_72 v_78 v_84) else (zck (zTb h_85 x1) (zb1 (fX3_findShift h_85 x1 v_72 v_78) (fun v_113 => if 0 ≤ v_113 then (fX0_takeIn_J201 h_85 a x1 x2 x3 v_72 v_78 v_84) else (fX0_takeIn_J202 h_85 a x1 x2 x3 v_72 v_78 v_84 1))))) (fun e_86 h_87 => some (.inr (.inr ((.inr e_86, h_87)))))) (fun e_80 h_81 => some (.inr (.inr ((.inr e_80, h_81)))))) (fun e_74 h_75 => some (.inr (.inr ((.inr e_74, h_75))))))
theorem zX0_takeIn_L147 {F : zF} {h : zH} {a : Nat} {x1 : Nat} {x2 : Int32} {x3 : Int32} {y : (zH × Int32) ⊕ ((zH) ⊕ zX)} (hD : 5 ≤ F.2.1) (hL : zXx h a) (hf : fX0_takeIn_L147 h a x1 x2 x3 = some y) (hM : ((∀ s' : zH × Int32, y = .inl s' → (zXx s'.1 a → Z F 8 cX0_takeIn RX0 "takeIn" none [] s'.1 147 [(0, .ref a), (1, .ref x1), (2, .int x2), (3, .int s'.2)] [])) ∧ ∀ r : (zH) ⊕ zX, y = .inr r → (match r with | .inl t => (zXx t a → Z F 8 cX0_takeIn RX0 "takeIn" none [] t 249 [(0, .ref a)] []) | .inr z => (z : zX) = zEnd F))) : Z F 8 cX0_takeIn RX0 "takeIn" none [] h 147 [(0, .ref a), (1, .ref x1), (2, .int x2), (3, .int x3)] [] := by
  unfold fX0_takeIn_L147 at hf
  refine z_iload_n 3 dX0_takeIn_147 rfl rfl ?_
  refine z_iload_n 2 dX0_takeIn_148 rfl rfl ?_
  refine z_icmp_ge 249 dX0_takeIn_149 rfl hf (fun _ hf => ?_) (fun _ hf => ?_)
  · cases hf
    refine z_sub [0] rfl ?_
    exact (hM.2 _ rfl) hL
  · refine z_aload_n 0 dX0_takeIn_152 rfl rfl ?_
    refine z_iconst 0 dX0_takeIn_153 rfl ?_
    refine z_iconst 3 dX0_takeIn_154 rfl ?_
    rcases zxi_some hf with ⟨v_72, h_73, hc_71, hf⟩ | ⟨e_74, h_75, hc_76, hf⟩
    rotate_left
    · have hct := ctX0_next (l := F.1) hL hc_76
      refine z_invVt suX0_434_0 hct ((hL.b 0 rfl).t 0 rfl) ⟨Nat.le_trans (by decide) hD, by decide⟩ rfl rfl (Nat.le_of_ble_eq_true rfl) dX0_takeIn_155 ?_
      have hL := hL.ext hct.1
      cases hf
      exact zt_out rfl (hM.2 _ rfl)
    have hct := ctX0_next (l := F.1) hL hc_71
    refine z_invVi suX0_434_0 hct ((hL.b 0 rfl).t 0 rfl) ⟨Nat.le_trans (by decide) hD, by decide⟩ rfl rfl (Nat.le_of_ble_eq_true rfl) dX0_takeIn_155 ?_
    have hL := hL.ext hct.1
    refine z_istore dX0_takeIn_158 (by decide) (lc' := [(0, .ref a), (1, .ref x1), (2, .int x2), (3, .int x3), (4, .int v_72)]) rfl ?_
    refine z_aload_n 0 dX0_takeIn_160 rfl rfl ?_
    refine z_iconst 0 dX0_takeIn_161 rfl ?_
    refine z_sipush 255 dX0_takeIn_162 rfl ?_
    rcases zxi_some hf with ⟨v_78, h_79, hc_77, hf⟩ | ⟨e_80, h_81, hc_82, hf⟩
    rotate_left
    · have hct := ctX0_next (l := F.1) hL hc_82
      refine z_invVt suX0_434_0 hct ((hL.b 0 rfl).t 0 rfl) ⟨Nat.le_trans (by decide) hD, by decide⟩ rfl rfl (Nat.le_of_ble_eq_true rfl) dX0_takeIn_165 ?_
      have hL := hL.ext hct.1
      cases hf
      exact zt_out rfl (hM.2 _ rfl)
    have hct := ctX0_next (l := F.1) hL hc_77
    refine z_invVi suX0_434_0 hct ((hL.b 0 rfl).t 0 rfl) ⟨Nat.le_trans (by decide) hD, by decide⟩ rfl rfl (Nat.le_of_ble_eq_true rfl) dX0_takeIn_165 ?_
    have hL := hL.ext hct.1
    refine z_istore dX0_takeIn_168 (by decide) (lc' := [(0, .ref a), (1, .ref x1), (2, .int x2), (3, .int x3), (4, .int v_72), (5, .int v_78)]) rfl ?_
    refine z_aload_n 0 dX0_takeIn_170 rfl rfl ?_
    refine z_iconst 0 dX0_takeIn_171 rfl ?_
    refine z_iconst 3 dX0_takeIn_172 rfl ?_
    rcases zxi_some hf with ⟨v_84, h_85, hc_83, hf⟩ | ⟨e_86, h_87, hc_88, hf⟩
    rotate_left
    · have hct := ctX0_next (l := F.1) hL hc_88
      refine z_invVt suX0_434_0 hct ((hL.b 0 rfl).t 0 rfl) ⟨Nat.le_trans (by decide) hD, by decide⟩ rfl rfl (Nat.le_of_ble_eq_true rfl) dX0_takeIn_173 ?_
      have hL := hL.ext hct.1
      cases hf
      exact zt_out rfl (hM.2 _ rfl)
    have hct := ctX0_next (l := F.1) hL hc_83
    refine z_invVi suX0_434_0 hct ((hL.b 0 rfl).t 0 rfl) ⟨Nat.le_trans (by decide) hD, by decide⟩ rfl rfl (Nat.le_of_ble_eq_true rfl) dX0_takeIn_173 ?_
    have hL := hL.ext hct.1
    refine z_istore dX0_takeIn_176 (by decide) (lc' := [(0, .ref a), (1, .ref x1), (2, .int x2), (3, .int x3), (4, .int v_72), (5, .int v_78), (6, .int v_84)]) rfl ?_
    refine z_aload_n 0 dX0_takeIn_178 rfl rfl ?_
    refine z_iload 4 dX0_takeIn_179 rfl ?_
    refine z_iload 6 dX0_takeIn_181 rfl ?_
    refine z_icmp_eq 201 dX0_takeIn_183 rfl hf (fun _ hf => ?_) (fun _ hf => ?_)
    · exact zX0_takeIn_J201 hD hL hf hM
    · refine z_aload_n 1 dX0_takeIn_186 rfl rfl ?_
      refine z_iload 4 dX0_takeIn_187 rfl ?_
      refine z_iload 5 dX0_takeIn_189 rfl ?_
      obtain ⟨hK_111, hf⟩ := zck_some hf
      obtain ⟨v_113, hc_112, hf⟩ := zb1_some hf
      refine z_invVi suX0_210_2 (ctX3_findShift hK_111 hc_112) ((hK_111.b 0 rfl).t 0 rfl) ⟨Nat.le_trans (by decide) hD, by decide⟩ rfl rfl (Nat.le_of_ble_eq_true rfl) dX0_takeIn_191 ?_
      refine z_if_ge 201 dX0_takeIn_194 rfl hf (fun _ hf => ?_) (fun _ hf => ?_)
      · exact zX0_takeIn_J201 hD hL hf hM
      · refine z_iconst 1 dX0_takeIn_197 rfl ?_
        refine z_goto 202 dX0_takeIn_198 rfl ?_
        exact zX0_takeIn_J202 hD hL hf hM
noncomputable def fX0_takeIn (h : zH) (a : Nat) (x1 : Nat) : Option (zX) := zck (zTb h x1) (zlet (zsI h x1 4 0) (fun h_2 => zlet (zsI h_2 x1 10 0) (fun h_3 => zlet (zsI h_3 a 32 0) (fun h_4 => zxi (fX0_next h_4 a 0 100) (fun v_6 h_7 => zlx (zlp (fun s => fX0_takeIn_L25 s.1 a x1 v_6 s.2) (h_7, 0)) (fun t_64 => zxi (fX0_next t_64 a 0 10) (fun v_66 h_67 => zlx (zlp (fun s => fX0_takeIn_L147 s.1 a x1 v_66 s.2) (h_67, 0)) (fun t_115 => if (zI t_115 a 32) = ((zI t_115 a 5) - 2) then (zxv (fX0_need t_115 a 1 ((-8))) (fun h_124 => some ((.inl none, h_124))) (fun e_125 h_126 => some ((.inr e_125, h_126)))) else (zxv (fX0_need t_115 a 0 ((-8))) (fun h_118 => some ((.inl none, h_118))) (fun e_119 h_120 => some ((.inr e_119, h_120)))))) (fun e_68 h_69 => some ((.inr e_68, h_69))))) (fun e_8 h_9 => some ((.inr e_8, h_9)))))))
theorem zX0_takeIn {F : zF} {h : zH} {a : Nat} {x1 : Nat} {y : zX} (hD : 5 ≤ F.2.1) (hL : zXx h a) (hf : fX0_takeIn h a x1 = some y) (hM : (y : zX) = zEnd F) : Z F 8 cX0_takeIn RX0 "takeIn" none [] h 0 [(0, .ref a), (1, .ref x1)] [] := by
  unfold fX0_takeIn at hf
  refine z_aload_n 1 dX0_takeIn_0 rfl rfl ?_
  refine z_iconst 0 dX0_takeIn_1 rfl ?_
  obtain ⟨hK_1, hf⟩ := zck_some hf
  obtain ⟨h_2, he, hf⟩ := zlet_some hf
  refine z_puti fdX0_203_2 ((hK_1.b 0 rfl).t 0 rfl) ((hK_1.b 0 rfl).nz 0) he dX0_takeIn_2 ?_
  have hL := hL.I he
  have hK_1 := hK_1.I he
  refine z_aload_n 1 dX0_takeIn_5 rfl rfl ?_
  refine z_iconst 0 dX0_takeIn_6 rfl ?_
  obtain ⟨h_3, he, hf⟩ := zlet_some hf
  refine z_puti fdX0_214_2 ((hK_1.b 0 rfl).t 0 rfl) ((hK_1.b 0 rfl).nz 0) he dX0_takeIn_7 ?_
  have hL := hL.I he
  have hK_1 := hK_1.I he
  refine z_aload_n 0 dX0_takeIn_10 rfl rfl ?_
  refine z_iconst 0 dX0_takeIn_11 rfl ?_
  obtain ⟨h_4, he, hf⟩ := zlet_some hf
  refine z_puti fdX0_431_0 ((hL.b 0 rfl).t 0 rfl) ((hL.b 0 rfl).nz 0) he dX0_takeIn_12 ?_
  have hL := hL.I he
  have hK_1 := hK_1.I he
  refine z_aload_n 0 dX0_takeIn_15 rfl rfl ?_
  refine z_iconst 0 dX0_takeIn_16 rfl ?_
  refine z_bipush 100 dX0_takeIn_17 rfl ?_
  rcases zxi_some hf with ⟨v_6, h_7, hc_5, hf⟩ | ⟨e_8, h_9, hc_10, hf⟩
  rotate_left
  · have hct := ctX0_next (l := F.1) hL hc_10
    refine z_invVt suX0_434_0 hct ((hL.b 0 rfl).t 0 rfl) ⟨Nat.le_trans (by decide) hD, by decide⟩ rfl rfl (Nat.le_of_ble_eq_true rfl) dX0_takeIn_19 ?_
    have hL := hL.ext hct.1
    have hK_1 := hK_1.ext hct.1
    cases hf
    exact zt_out rfl hM
  have hct := ctX0_next (l := F.1) hL hc_5
  refine z_invVi suX0_434_0 hct ((hL.b 0 rfl).t 0 rfl) ⟨Nat.le_trans (by decide) hD, by decide⟩ rfl rfl (Nat.le_of_ble_eq_true rfl) dX0_takeIn_19 ?_
  have hL := hL.ext hct.1
  have hK_1 := hK_1.ext hct.1
  refine z_istore_n dX0_takeIn_22 rfl (by decide) (lc' := [(0, .ref a), (1, .ref x1), (2, .int v_6)]) rfl ?_
  refine z_iconst 0 dX0_takeIn_23 rfl ?_
  refine z_istore_n dX0_takeIn_24 rfl (by decide) (lc' := [(0, .ref a), (1, .ref x1), (2, .int v_6), (3, .int 0)]) rfl ?_
  obtain ⟨rr, hl, hf⟩ := zlx_some hf
  refine z_loop (fun (s : zH × Int32) => (zXx s.1 a → Z F 8 cX0_takeIn RX0 "takeIn" none [] s.1 25 [(0, .ref a), (1, .ref x1), (2, .int v_6), (3, .int s.2)] [])) (fun (r : (zH) ⊕ zX) => (match r with | .inl t => (zXx t a → Z F 8 cX0_takeIn RX0 "takeIn" none [] t 137 [(0, .ref a), (1, .ref x1)] []) | .inr z => (z : zX) = zEnd F)) (fun s y hb hs hr hL => zX0_takeIn_L25 hD hL hb ⟨hs, hr⟩) hl ?_ hL
  rcases hf with ⟨t_64, rfl, hf⟩ | rfl
  · intro hL
    show Z F 8 cX0_takeIn RX0 "takeIn" none [] t_64 137 [(0, .ref a), (1, .ref x1)] []
    refine z_aload_n 0 dX0_takeIn_137 rfl rfl ?_
    refine z_iconst 0 dX0_takeIn_138 rfl ?_
    refine z_bipush 10 dX0_takeIn_139 rfl ?_
    rcases zxi_some hf with ⟨v_66, h_67, hc_65, hf⟩ | ⟨e_68, h_69, hc_70, hf⟩
    rotate_left
    · have hct := ctX0_next (l := F.1) hL hc_70
      refine z_invVt suX0_434_0 hct ((hL.b 0 rfl).t 0 rfl) ⟨Nat.le_trans (by decide) hD, by decide⟩ rfl rfl (Nat.le_of_ble_eq_true rfl) dX0_takeIn_141 ?_
      have hL := hL.ext hct.1
      cases hf
      exact zt_out rfl hM
    have hct := ctX0_next (l := F.1) hL hc_65
    refine z_invVi suX0_434_0 hct ((hL.b 0 rfl).t 0 rfl) ⟨Nat.le_trans (by decide) hD, by decide⟩ rfl rfl (Nat.le_of_ble_eq_true rfl) dX0_takeIn_141 ?_
    have hL := hL.ext hct.1
    refine z_istore_n dX0_takeIn_144 rfl (by decide) (lc' := [(0, .ref a), (1, .ref x1), (2, .int v_66)]) rfl ?_
    refine z_iconst 0 dX0_takeIn_145 rfl ?_
    refine z_istore_n dX0_takeIn_146 rfl (by decide) (lc' := [(0, .ref a), (1, .ref x1), (2, .int v_66), (3, .int 0)]) rfl ?_
    obtain ⟨rr, hl, hf⟩ := zlx_some hf
    refine z_loop (fun (s : zH × Int32) => (zXx s.1 a → Z F 8 cX0_takeIn RX0 "takeIn" none [] s.1 147 [(0, .ref a), (1, .ref x1), (2, .int v_66), (3, .int s.2)] [])) (fun (r : (zH) ⊕ zX) => (match r with | .inl t => (zXx t a → Z F 8 cX0_takeIn RX0 "takeIn" none [] t 249 [(0, .ref a)] []) | .inr z => (z : zX) = zEnd F)) (fun s y hb hs hr hL => zX0_takeIn_L147 hD hL hb ⟨hs, hr⟩) hl ?_ hL
    rcases hf with ⟨t_115, rfl, hf⟩ | rfl
    · intro hL
      show Z F 8 cX0_takeIn RX0 "takeIn" none [] t_115 249 [(0, .ref a)] []
      refine z_aload_n 0 dX0_takeIn_249 rfl rfl ?_
      refine z_aload_n 0 dX0_takeIn_250 rfl rfl ?_
      refine z_geti fdX0_431_0 ((hL.b 0 rfl).t 0 rfl) dX0_takeIn_251 ?_
      refine z_aload_n 0 dX0_takeIn_254 rfl rfl ?_
      refine z_geti fdX0_262_0 ((hL.b 0 rfl).t 0 rfl) dX0_takeIn_255 ?_
      refine z_iconst 2 dX0_takeIn_258 rfl ?_
      refine z_isub dX0_takeIn_259 ?_
      refine z_icmp_ne 267 dX0_takeIn_260 rfl hf (fun _ hf => ?_) (fun _ hf => ?_)
      · refine z_iconst 0 dX0_takeIn_267 rfl ?_
        refine z_bipush (-8) dX0_takeIn_268 rfl ?_
        rcases zxv_some hf with ⟨h_118, hc_116, hf⟩ | ⟨e_119, h_120, hc_121, hf⟩
        rotate_left
        · have hct := ctX0_need (l := F.1) hL hc_121
          refine z_invVt suX0_184_0 hct ((hL.b 0 rfl).t 0 rfl) ⟨Nat.le_trans (by decide) hD, by decide⟩ rfl rfl (Nat.le_of_ble_eq_true rfl) dX0_takeIn_270 ?_
          have hL := hL.ext hct.1
          cases hf
          exact zt_out rfl hM
        have hct := ctX0_need (l := F.1) hL hc_116
        refine z_invVv suX0_184_0 hct ((hL.b 0 rfl).t 0 rfl) ⟨Nat.le_trans (by decide) hD, by decide⟩ rfl rfl (Nat.le_of_ble_eq_true rfl) dX0_takeIn_270 ?_
        have hL := hL.ext hct.1
        cases hf
        exact z_vret dX0_takeIn_273 rfl hM
      · refine z_iconst 1 dX0_takeIn_263 rfl ?_
        refine z_goto 268 dX0_takeIn_264 rfl ?_
        refine z_bipush (-8) dX0_takeIn_268 rfl ?_
        rcases zxv_some hf with ⟨h_124, hc_122, hf⟩ | ⟨e_125, h_126, hc_127, hf⟩
        rotate_left
        · have hct := ctX0_need (l := F.1) hL hc_127
          refine z_invVt suX0_184_0 hct ((hL.b 0 rfl).t 0 rfl) ⟨Nat.le_trans (by decide) hD, by decide⟩ rfl rfl (Nat.le_of_ble_eq_true rfl) dX0_takeIn_270 ?_
          have hL := hL.ext hct.1
          cases hf
          exact zt_out rfl hM
        have hct := ctX0_need (l := F.1) hL hc_122
        refine z_invVv suX0_184_0 hct ((hL.b 0 rfl).t 0 rfl) ⟨Nat.le_trans (by decide) hD, by decide⟩ rfl rfl (Nat.le_of_ble_eq_true rfl) dX0_takeIn_270 ?_
        have hL := hL.ext hct.1
        cases hf
        exact z_vret dX0_takeIn_273 rfl hM
    · exact hM
  · exact hM
theorem ctX0_takeIn {l : Launch} {h : zH} {a : Nat} {x1 : Nat} {y : zX} (hL : zXx h a) (hf : fX0_takeIn h a x1 = some y) : zC l yX0_takeIn (ws_ yX0_takeIn cX0_takeIn 8 none) 5 [.ref a, .ref x1] h y :=
  z_start (by decide) (Nat.le_of_ble_eq_true rfl) (zX0_takeIn (F := (l, 5, h, y)) (Nat.le_refl _) hL hf rfl)
theorem suX0_440_0 : zIv RX0 440 yX0_takeIn (ws_ yX0_takeIn cX0_takeIn 8 none) 8 0 1 := ⟨(zGood_c q1372 q97), ⟨_, _, rfl, rfl, qs43⟩, (Or.inl q1369), q1371, ⟨by decide, by decide⟩, by decide +kernel⟩
noncomputable def fX0_receive_J106 (h : zH) (a : Nat) (k0 : Int32) : Option (Int32 × zH) := zxv (fX0_need h a k0 ((-8))) (fun h_42 => zb1 (zP h_42 a 3) (fun b_51 => zlet (zmk h_42 (3, 0) 27) (fun h_52 => zck (zOb 2 h_52 (zn h_42)) (zb1 (fX3_init h_52 (zn h_42)) (fun h_56 => zlet (zsP h_56 a 3 (some (zn h_42))) (fun h_57 => zck (zTb h_57 b_51) (zb1 (fX3_close h_57 b_51) (fun h_61 => zb2 (fX0_comes h_61 a b_51) (fun v_63 h_64 => some ((v_63, h_64))))))))))) (fun e_43 h_44 => zck (zT h_44 e_43 = (2, 0)) (zck (zOb 1 h_44 e_43) (zb2 (fX0_answer h_44 a (zI h_44 e_43 6)) (fun v_49 h_50 => some ((v_49, h_50))))))
theorem zX0_receive_J106 {F : zF} {h : zH} {a : Nat} {k0 : Int32} {y : Int32 × zH} (hD : 6 ≤ F.2.1) (hL : zXx h a) (hf : fX0_receive_J106 h a k0 = some y) (hM : ((.inl (some (.int y.1)), y.2) : zX) = zEnd F) : Z F 2 cX0_receive RX0 "receive" (some .int) [(0, 136, 137, 18)] h 106 [(0, .ref a)] [.int k0, .ref a] := by
  unfold fX0_receive_J106 at hf
  refine z_bipush (-8) dX0_receive_106 rfl ?_
  rcases zxv_some hf with ⟨h_42, hc_40, hf⟩ | ⟨e_43, h_44, hc_45, hf⟩
  rotate_left
  · have hct := ctX0_need (l := F.1) hL hc_45
    refine z_invVt suX0_184_0 hct ((hL.b 0 rfl).t 0 rfl) ⟨Nat.le_trans (by decide) hD, by decide⟩ rfl rfl (Nat.le_of_ble_eq_true rfl) dX0_receive_108 ?_
    have hL := hL.ext hct.1
    obtain ⟨ht_46, hf⟩ := zck_some hf
    refine zt_catch (q := (RX1, TX1, 7)) rfl (by decide) q129 rfl rfl ht_46 ?_
    refine z_astore_n dX0_receive_137 rfl (by decide) (lc' := [(0, .ref a), (1, .ref e_43)]) rfl ?_
    refine z_aload_n 0 dX0_receive_138 rfl rfl ?_
    refine z_aload_n 1 dX0_receive_139 rfl rfl ?_
    obtain ⟨hK_47, hf⟩ := zck_some hf
    refine z_geti fdX0_17_1 ((hK_47.b 0 rfl).t 0 rfl) dX0_receive_140 ?_
    obtain ⟨v_49, h_50, hc_48, hf⟩ := zb2_some hf
    have hct := ctX0_answer (l := F.1) hL hc_48
    refine z_invVi suX0_163_0 hct ((hL.b 0 rfl).t 0 rfl) ⟨Nat.le_trans (by decide) hD, by decide⟩ rfl rfl (Nat.le_of_ble_eq_true rfl) dX0_receive_143 ?_
    have hL := hL.ext hct.1
    have hK_47 := hK_47.ext hct.1
    cases hf
    exact z_iret dX0_receive_146 rfl hM
  have hct := ctX0_need (l := F.1) hL hc_40
  refine z_invVv suX0_184_0 hct ((hL.b 0 rfl).t 0 rfl) ⟨Nat.le_trans (by decide) hD, by decide⟩ rfl rfl (Nat.le_of_ble_eq_true rfl) dX0_receive_108 ?_
  have hL := hL.ext hct.1
  refine z_aload_n 0 dX0_receive_111 rfl rfl ?_
  obtain ⟨b_51, hb_51, hf⟩ := zb1_some hf
  refine z_getr fdX0_45_0 (Or.inl ⟨_, rfl⟩) ((hL.b 0 rfl).t 0 rfl) hb_51 dX0_receive_112 ?_
  refine z_astore_n dX0_receive_115 rfl (by decide) (lc' := [(0, .ref a), (1, .ref b_51)]) rfl ?_
  refine z_aload_n 0 dX0_receive_116 rfl rfl ?_
  obtain ⟨h_52, he, hf⟩ := zlet_some hf
  refine z_new (q := (RX3, TX3, 27)) q214 q215 q103 rfl rfl he dX0_receive_117 ?_
  have hL := hL.mk he
  refine z_dup dX0_receive_120 rfl ?_
  obtain ⟨hK_53, hf⟩ := zck_some hf
  obtain ⟨h_56, hc_54, hf⟩ := zb1_some hf
  have hct := ctX3_init (l := F.1) hK_53 hc_54
  refine z_invIv siX0_44_2 hct ⟨Nat.le_trans (by decide) hD, by decide⟩ rfl rfl (Nat.le_of_ble_eq_true rfl) dX0_receive_121 ?_
  have hL := hL.ext hct.1
  have hK_53 := hK_53.ext hct.1
  obtain ⟨h_57, he, hf⟩ := zlet_some hf
  have hfn := zFd_fn fdX0_45_0 ((hL.b 0 rfl).t 0 rfl)
  refine z_putr fdX0_45_0 (Or.inl ⟨_, rfl⟩) ((hL.b 0 rfl).t 0 rfl) ((hL.b 0 rfl).nz 0) he dX0_receive_124 ?_
  have hL := hL.P hfn he
  have hK_53 := hK_53.P hfn he
  refine z_aload_n 1 dX0_receive_127 rfl rfl ?_
  obtain ⟨hK_58, hf⟩ := zck_some hf
  obtain ⟨h_61, hc_59, hf⟩ := zb1_some hf
  have hct := ctX3_close (l := F.1) hK_58 hc_59
  refine z_invVv suX0_248_2 hct ((hK_58.b 0 rfl).t 0 rfl) ⟨Nat.le_trans (by decide) hD, by decide⟩ rfl rfl (Nat.le_of_ble_eq_true rfl) dX0_receive_128 ?_
  have hL := hL.ext hct.1
  have hK_53 := hK_53.ext hct.1
  have hK_58 := hK_58.ext hct.1
  refine z_aload_n 0 dX0_receive_131 rfl rfl ?_
  refine z_aload_n 1 dX0_receive_132 rfl rfl ?_
  obtain ⟨v_63, h_64, hc_62, hf⟩ := zb2_some hf
  have hct := ctX0_comes (l := F.1) hL hc_62
  refine z_invVi suX0_176_0 hct ((hL.b 0 rfl).t 0 rfl) ⟨Nat.le_trans (by decide) hD, by decide⟩ rfl rfl (Nat.le_of_ble_eq_true rfl) dX0_receive_133 ?_
  have hL := hL.ext hct.1
  have hK_53 := hK_53.ext hct.1
  have hK_58 := hK_58.ext hct.1
  cases hf
  exact z_iret dX0_receive_136 rfl hM
noncomputable def fX0_receive_J77 (h : zH) (a : Nat) (k0 : Int32) : Option (Int32 × zH) := zxv (fX0_need h a k0 ((-13))) (fun h_14 => zb1 (zP h_14 a 3) (fun b_23 => zxv (fX0_takeIn h_14 a b_23) (fun h_26 => zb1 (zP h_26 a 3) (fun b_35 => zck (zTb h_26 b_35) (zb2 (fX3_isBad h_26 b_35) (fun v_38 h_39 => if v_38 = 0 then (fX0_receive_J106 h_39 a 1) else (fX0_receive_J106 h_39 a 0))))) (fun e_27 h_28 => zck (zT h_28 e_27 = (2, 0)) (zck (zOb 1 h_28 e_27) (zb2 (fX0_answer h_28 a (zI h_28 e_27 6)) (fun v_33 h_34 => some ((v_33, h_34)))))))) (fun e_15 h_16 => zck (zT h_16 e_15 = (2, 0)) (zck (zOb 1 h_16 e_15) (zb2 (fX0_answer h_16 a (zI h_16 e_15 6)) (fun v_21 h_22 => some ((v_21, h_22))))))
theorem zX0_receive_J77 {F : zF} {h : zH} {a : Nat} {k0 : Int32} {y : Int32 × zH} (hD : 6 ≤ F.2.1) (hL : zXx h a) (hf : fX0_receive_J77 h a k0 = some y) (hM : ((.inl (some (.int y.1)), y.2) : zX) = zEnd F) : Z F 2 cX0_receive RX0 "receive" (some .int) [(0, 136, 137, 18)] h 77 [(0, .ref a)] [.int k0, .ref a] := by
  unfold fX0_receive_J77 at hf
  refine z_bipush (-13) dX0_receive_77 rfl ?_
  rcases zxv_some hf with ⟨h_14, hc_12, hf⟩ | ⟨e_15, h_16, hc_17, hf⟩
  rotate_left
  · have hct := ctX0_need (l := F.1) hL hc_17
    refine z_invVt suX0_184_0 hct ((hL.b 0 rfl).t 0 rfl) ⟨Nat.le_trans (by decide) hD, by decide⟩ rfl rfl (Nat.le_of_ble_eq_true rfl) dX0_receive_79 ?_
    have hL := hL.ext hct.1
    obtain ⟨ht_18, hf⟩ := zck_some hf
    refine zt_catch (q := (RX1, TX1, 7)) rfl (by decide) q129 rfl rfl ht_18 ?_
    refine z_astore_n dX0_receive_137 rfl (by decide) (lc' := [(0, .ref a), (1, .ref e_15)]) rfl ?_
    refine z_aload_n 0 dX0_receive_138 rfl rfl ?_
    refine z_aload_n 1 dX0_receive_139 rfl rfl ?_
    obtain ⟨hK_19, hf⟩ := zck_some hf
    refine z_geti fdX0_17_1 ((hK_19.b 0 rfl).t 0 rfl) dX0_receive_140 ?_
    obtain ⟨v_21, h_22, hc_20, hf⟩ := zb2_some hf
    have hct := ctX0_answer (l := F.1) hL hc_20
    refine z_invVi suX0_163_0 hct ((hL.b 0 rfl).t 0 rfl) ⟨Nat.le_trans (by decide) hD, by decide⟩ rfl rfl (Nat.le_of_ble_eq_true rfl) dX0_receive_143 ?_
    have hL := hL.ext hct.1
    have hK_19 := hK_19.ext hct.1
    cases hf
    exact z_iret dX0_receive_146 rfl hM
  have hct := ctX0_need (l := F.1) hL hc_12
  refine z_invVv suX0_184_0 hct ((hL.b 0 rfl).t 0 rfl) ⟨Nat.le_trans (by decide) hD, by decide⟩ rfl rfl (Nat.le_of_ble_eq_true rfl) dX0_receive_79 ?_
  have hL := hL.ext hct.1
  refine z_aload_n 0 dX0_receive_82 rfl rfl ?_
  refine z_aload_n 0 dX0_receive_83 rfl rfl ?_
  obtain ⟨b_23, hb_23, hf⟩ := zb1_some hf
  refine z_getr fdX0_45_0 (Or.inl ⟨_, rfl⟩) ((hL.b 0 rfl).t 0 rfl) hb_23 dX0_receive_84 ?_
  rcases zxv_some hf with ⟨h_26, hc_24, hf⟩ | ⟨e_27, h_28, hc_29, hf⟩
  rotate_left
  · have hct := ctX0_takeIn (l := F.1) hL hc_29
    refine z_invVt suX0_440_0 hct ((hL.b 0 rfl).t 0 rfl) ⟨Nat.le_trans (by decide) hD, by decide⟩ rfl rfl (Nat.le_of_ble_eq_true rfl) dX0_receive_87 ?_
    have hL := hL.ext hct.1
    obtain ⟨ht_30, hf⟩ := zck_some hf
    refine zt_catch (q := (RX1, TX1, 7)) rfl (by decide) q129 rfl rfl ht_30 ?_
    refine z_astore_n dX0_receive_137 rfl (by decide) (lc' := [(0, .ref a), (1, .ref e_27)]) rfl ?_
    refine z_aload_n 0 dX0_receive_138 rfl rfl ?_
    refine z_aload_n 1 dX0_receive_139 rfl rfl ?_
    obtain ⟨hK_31, hf⟩ := zck_some hf
    refine z_geti fdX0_17_1 ((hK_31.b 0 rfl).t 0 rfl) dX0_receive_140 ?_
    obtain ⟨v_33, h_34, hc_32, hf⟩ := zb2_some hf
    have hct := ctX0_answer (l := F.1) hL hc_32
    refine z_invVi suX0_163_0 hct ((hL.b 0 rfl).t 0 rfl) ⟨Nat.le_trans (by decide) hD, by decide⟩ rfl rfl (Nat.le_of_ble_eq_true rfl) dX0_receive_143 ?_
    have hL := hL.ext hct.1
    have hK_31 := hK_31.ext hct.1
    cases hf
    exact z_iret dX0_receive_146 rfl hM
  have hct := ctX0_takeIn (l := F.1) hL hc_24
  refine z_invVv suX0_440_0 hct ((hL.b 0 rfl).t 0 rfl) ⟨Nat.le_trans (by decide) hD, by decide⟩ rfl rfl (Nat.le_of_ble_eq_true rfl) dX0_receive_87 ?_
  have hL := hL.ext hct.1
  refine z_aload_n 0 dX0_receive_90 rfl rfl ?_
  refine z_aload_n 0 dX0_receive_91 rfl rfl ?_
  obtain ⟨b_35, hb_35, hf⟩ := zb1_some hf
  refine z_getr fdX0_45_0 (Or.inl ⟨_, rfl⟩) ((hL.b 0 rfl).t 0 rfl) hb_35 dX0_receive_92 ?_
  obtain ⟨hK_36, hf⟩ := zck_some hf
  obtain ⟨v_38, h_39, hc_37, hf⟩ := zb2_some hf
  have hct := ctX3_isBad (l := F.1) hK_36 hc_37
  refine z_invVi suX0_227_2 hct ((hK_36.b 0 rfl).t 0 rfl) ⟨Nat.le_trans (by decide) hD, by decide⟩ rfl rfl (Nat.le_of_ble_eq_true rfl) dX0_receive_95 ?_
  have hL := hL.ext hct.1
  have hK_36 := hK_36.ext hct.1
  refine z_if_ne 105 dX0_receive_98 rfl hf (fun _ hf => ?_) (fun _ hf => ?_)
  · refine z_iconst 0 dX0_receive_105 rfl ?_
    exact zX0_receive_J106 hD hL hf hM
  · refine z_iconst 1 dX0_receive_101 rfl ?_
    refine z_goto 106 dX0_receive_102 rfl ?_
    exact zX0_receive_J106 hD hL hf hM
noncomputable def fX0_receive_J76 (h : zH) (a : Nat) : Option (Int32 × zH) := fX0_receive_J77 h a 0
theorem zX0_receive_J76 {F : zF} {h : zH} {a : Nat} {y : Int32 × zH} (hD : 6 ≤ F.2.1) (hL : zXx h a) (hf : fX0_receive_J76 h a = some y) (hM : ((.inl (some (.int y.1)), y.2) : zX) = zEnd F) : Z F 2 cX0_receive RX0 "receive" (some .int) [(0, 136, 137, 18)] h 76 [(0, .ref a)] [.ref a] := by
  unfold fX0_receive_J76 at hf
  refine z_iconst 0 dX0_receive_76 rfl ?_
  exact zX0_receive_J77 hD hL hf hM
noncomputable def fX0_receive_J15 (h : zH) (a : Nat) (k0 : Int32) : Option (Int32 × zH) := zxv (fX0_need h a k0 ((-6))) (fun h_3 => if (zI h_3 a 5) < 4 then (fX0_receive_J76 h_3 a) else (zb1 (fX0_sumOf h_3 (a + 25) ((zI h_3 a 5) - 2)) (fun v_66 => zck (vp_in ((zI h_3 a 5) - 2) 1000) (zck (vp_in ((zI h_3 a 5) - 1) 1000) (if v_66 = (((zI h_3 (a + 25) ((zI h_3 a 5) - 2).toNatClampNeg) * 256) + (zI h_3 (a + 25) ((zI h_3 a 5) - 1).toNatClampNeg)) then (fX0_receive_J77 h_3 a 1) else (fX0_receive_J76 h_3 a)))))) (fun e_4 h_5 => zck (zT h_5 e_4 = (2, 0)) (zck (zOb 1 h_5 e_4) (zb2 (fX0_answer h_5 a (zI h_5 e_4 6)) (fun v_10 h_11 => some ((v_10, h_11))))))
theorem zX0_receive_J15 {F : zF} {h : zH} {a : Nat} {k0 : Int32} {y : Int32 × zH} (hD : 6 ≤ F.2.1) (hL : zXx h a) (hf : fX0_receive_J15 h a k0 = some y) (hM : ((.inl (some (.int y.1)), y.2) : zX) = zEnd F) : Z F 2 cX0_receive RX0 "receive" (some .int) [(0, 136, 137, 18)] h 15 [(0, .ref a)] [.int k0, .ref a] := by
  unfold fX0_receive_J15 at hf
  refine z_bipush (-6) dX0_receive_15 rfl ?_
  rcases zxv_some hf with ⟨h_3, hc_1, hf⟩ | ⟨e_4, h_5, hc_6, hf⟩
  rotate_left
  · have hct := ctX0_need (l := F.1) hL hc_6
    refine z_invVt suX0_184_0 hct ((hL.b 0 rfl).t 0 rfl) ⟨Nat.le_trans (by decide) hD, by decide⟩ rfl rfl (Nat.le_of_ble_eq_true rfl) dX0_receive_17 ?_
    have hL := hL.ext hct.1
    obtain ⟨ht_7, hf⟩ := zck_some hf
    refine zt_catch (q := (RX1, TX1, 7)) rfl (by decide) q129 rfl rfl ht_7 ?_
    refine z_astore_n dX0_receive_137 rfl (by decide) (lc' := [(0, .ref a), (1, .ref e_4)]) rfl ?_
    refine z_aload_n 0 dX0_receive_138 rfl rfl ?_
    refine z_aload_n 1 dX0_receive_139 rfl rfl ?_
    obtain ⟨hK_8, hf⟩ := zck_some hf
    refine z_geti fdX0_17_1 ((hK_8.b 0 rfl).t 0 rfl) dX0_receive_140 ?_
    obtain ⟨v_10, h_11, hc_9, hf⟩ := zb2_some hf
    have hct := ctX0_answer (l := F.1) hL hc_9
    refine z_invVi suX0_163_0 hct ((hL.b 0 rfl).t 0 rfl) ⟨Nat.le_trans (by decide) hD, by decide⟩ rfl rfl (Nat.le_of_ble_eq_true rfl) dX0_receive_143 ?_
    have hL := hL.ext hct.1
    have hK_8 := hK_8.ext hct.1
    cases hf
    exact z_iret dX0_receive_146 rfl hM
  have hct := ctX0_need (l := F.1) hL hc_1
  refine z_invVv suX0_184_0 hct ((hL.b 0 rfl).t 0 rfl) ⟨Nat.le_trans (by decide) hD, by decide⟩ rfl rfl (Nat.le_of_ble_eq_true rfl) dX0_receive_17 ?_
  have hL := hL.ext hct.1
  refine z_aload_n 0 dX0_receive_20 rfl rfl ?_
  refine z_aload_n 0 dX0_receive_21 rfl rfl ?_
  refine z_geti fdX0_262_0 ((hL.b 0 rfl).t 0 rfl) dX0_receive_22 ?_
  refine z_iconst 4 dX0_receive_25 rfl ?_
  refine z_icmp_lt 76 dX0_receive_26 rfl hf (fun _ hf => ?_) (fun _ hf => ?_)
  · exact zX0_receive_J76 hD hL hf hM
  · refine z_aload_n 0 dX0_receive_29 rfl rfl ?_
    refine z_getr fdX0_49_0 (Or.inr ⟨_, rfl⟩) ((hL.b 0 rfl).t 0 rfl) ((hL.b 0 rfl).p 2 rfl) dX0_receive_30 ?_
    refine z_aload_n 0 dX0_receive_33 rfl rfl ?_
    refine z_geti fdX0_262_0 ((hL.b 0 rfl).t 0 rfl) dX0_receive_34 ?_
    refine z_iconst 2 dX0_receive_37 rfl ?_
    refine z_isub dX0_receive_38 ?_
    obtain ⟨v_66, hc_65, hf⟩ := zb1_some hf
    refine z_invSi suX0_427_s (ctX0_sumOf hc_65) ⟨Nat.le_trans (by decide) hD, by decide⟩ rfl rfl (Nat.le_of_ble_eq_true rfl) dX0_receive_39 ?_
    refine z_aload_n 0 dX0_receive_42 rfl rfl ?_
    refine z_getr fdX0_49_0 (Or.inr ⟨_, rfl⟩) ((hL.b 0 rfl).t 0 rfl) ((hL.b 0 rfl).p 2 rfl) dX0_receive_43 ?_
    refine z_aload_n 0 dX0_receive_46 rfl rfl ?_
    refine z_geti fdX0_262_0 ((hL.b 0 rfl).t 0 rfl) dX0_receive_47 ?_
    refine z_iconst 2 dX0_receive_50 rfl ?_
    refine z_isub dX0_receive_51 ?_
    obtain ⟨hi_68, hf⟩ := zck_some hf
    refine z_iald ((hL.b 0 rfl).t 25 rfl) hi_68 dX0_receive_52 ?_
    refine z_sipush 256 dX0_receive_53 rfl ?_
    refine z_imul dX0_receive_56 ?_
    refine z_aload_n 0 dX0_receive_57 rfl rfl ?_
    refine z_getr fdX0_49_0 (Or.inr ⟨_, rfl⟩) ((hL.b 0 rfl).t 0 rfl) ((hL.b 0 rfl).p 2 rfl) dX0_receive_58 ?_
    refine z_aload_n 0 dX0_receive_61 rfl rfl ?_
    refine z_geti fdX0_262_0 ((hL.b 0 rfl).t 0 rfl) dX0_receive_62 ?_
    refine z_iconst 1 dX0_receive_65 rfl ?_
    refine z_isub dX0_receive_66 ?_
    obtain ⟨hi_69, hf⟩ := zck_some hf
    refine z_iald ((hL.b 0 rfl).t 25 rfl) hi_69 dX0_receive_67 ?_
    refine z_iadd dX0_receive_68 ?_
    refine z_icmp_ne 76 dX0_receive_69 rfl hf (fun _ hf => ?_) (fun _ hf => ?_)
    · exact zX0_receive_J76 hD hL hf hM
    · refine z_iconst 1 dX0_receive_72 rfl ?_
      refine z_goto 77 dX0_receive_73 rfl ?_
      exact zX0_receive_J77 hD hL hf hM
noncomputable def fX0_receive (h : zH) (a : Nat) : Option (Int32 × zH) := if 10 ≤ (zI h a 2) then (fX0_receive_J15 h a 0) else (fX0_receive_J15 h a 1)
theorem zX0_receive {F : zF} {h : zH} {a : Nat} {y : Int32 × zH} (hD : 6 ≤ F.2.1) (hL : zXx h a) (hf : fX0_receive h a = some y) (hM : ((.inl (some (.int y.1)), y.2) : zX) = zEnd F) : Z F 2 cX0_receive RX0 "receive" (some .int) [(0, 136, 137, 18)] h 0 [(0, .ref a)] [] := by
  unfold fX0_receive at hf
  refine z_aload_n 0 dX0_receive_0 rfl rfl ?_
  refine z_aload_n 0 dX0_receive_1 rfl rfl ?_
  refine z_geti fdX0_160_0 ((hL.b 0 rfl).t 0 rfl) dX0_receive_2 ?_
  refine z_bipush 10 dX0_receive_5 rfl ?_
  refine z_icmp_ge 14 dX0_receive_7 rfl hf (fun _ hf => ?_) (fun _ hf => ?_)
  · refine z_iconst 0 dX0_receive_14 rfl ?_
    exact zX0_receive_J15 hD hL hf hM
  · refine z_iconst 1 dX0_receive_10 rfl ?_
    refine z_goto 15 dX0_receive_11 rfl ?_
    exact zX0_receive_J15 hD hL hf hM
theorem ctX0_receive {l : Launch} {h : zH} {a : Nat} {v : Int32} {h' : zH} (hL : zXx h a) (hf : fX0_receive h a = some (v, h')) : zC l yX0_receive (wsW_ yX0_receive cX0_receive 2 (some .int) [(0, 136, 137, 18)]) 6 [.ref a] h (.inl (some (.int v)), h') :=
  z_startW (by decide) (Nat.le_of_ble_eq_true rfl) (zX0_receive (F := (l, 6, h, (.inl (some (.int v)), h'))) (Nat.le_refl _) hL hf rfl)
theorem fdX0_443_0 : zFd RX0 443 0 19 .int false := ⟨_, _, _, rfl, rfl, by decide, rfl, rfl, Or.inl q505, Or.inl rfl⟩
noncomputable def fX0_told (h : zH) (a : Nat) (x1 : Int32) : Option (Int32 × zH) := if x1 = 0 then (some ((zI h a 19, h))) else (if x1 = 1 then (some ((zI h a 20, h))) else (if x1 = 2 then (some ((zI h a 21, h))) else (if x1 = 3 then (some ((zI h a 22, h))) else (if x1 = 4 then (some ((zI h a 2, h))) else (if x1 = 5 then (some ((zI h a 5, h))) else (if x1 = 6 then (some ((zI h a 7, h))) else (if x1 = 7 then (if (zI h a 27) = 0 then (some ((0, h))) else (zb1 (zP h a 24) (fun b_4 => zck (zOb 5 h b_4) (some ((zI h b_4 1, h)))))) else (if x1 = 8 then (some ((zI h a 27, h))) else (if x1 = 9 then (some ((zI h a 9, h))) else (if x1 = 10 then (some ((zI h a 23, h))) else (zb2 (fX0_answer h a ((-1))) (fun v_2 h_3 => some ((v_2, h_3))))))))))))))
theorem zX0_told {F : zF} {h : zH} {a : Nat} {x1 : Int32} {y : Int32 × zH} (hD : 2 ≤ F.2.1) (hL : zXx h a) (hf : fX0_told h a x1 = some y) (hM : ((.inl (some (.int y.1)), y.2) : zX) = zEnd F) : Z F 2 cX0_told RX0 "told" (some .int) [] h 0 [(0, .ref a), (1, .int x1)] [] := by
  unfold fX0_told at hf
  refine z_iload_n 1 dX0_told_0 rfl rfl ?_
  refine z_swI hf (fun hx hf => ?_) (fun hx0 hf => ?_)
  · refine z_swT 60 dX0_told_1 hx rfl (by decide) (by decide) rfl ?_
    refine z_aload_n 0 dX0_told_60 rfl rfl ?_
    refine z_geti fdX0_443_0 ((hL.b 0 rfl).t 0 rfl) dX0_told_61 ?_
    cases hf
    exact z_iret dX0_told_64 rfl hM
  · refine z_swI hf (fun hx hf => ?_) (fun hx1 hf => ?_)
    · refine z_swT 65 dX0_told_1 hx rfl (by decide) (by decide) rfl ?_
      refine z_aload_n 0 dX0_told_65 rfl rfl ?_
      refine z_geti fdX0_233_0 ((hL.b 0 rfl).t 0 rfl) dX0_told_66 ?_
      cases hf
      exact z_iret dX0_told_69 rfl hM
    · refine z_swI hf (fun hx hf => ?_) (fun hx2 hf => ?_)
      · refine z_swT 70 dX0_told_1 hx rfl (by decide) (by decide) rfl ?_
        refine z_aload_n 0 dX0_told_70 rfl rfl ?_
        refine z_geti fdX0_239_0 ((hL.b 0 rfl).t 0 rfl) dX0_told_71 ?_
        cases hf
        exact z_iret dX0_told_74 rfl hM
      · refine z_swI hf (fun hx hf => ?_) (fun hx3 hf => ?_)
        · refine z_swT 75 dX0_told_1 hx rfl (by decide) (by decide) rfl ?_
          refine z_aload_n 0 dX0_told_75 rfl rfl ?_
          refine z_geti fdX0_245_0 ((hL.b 0 rfl).t 0 rfl) dX0_told_76 ?_
          cases hf
          exact z_iret dX0_told_79 rfl hM
        · refine z_swI hf (fun hx hf => ?_) (fun hx4 hf => ?_)
          · refine z_swT 80 dX0_told_1 hx rfl (by decide) (by decide) rfl ?_
            refine z_aload_n 0 dX0_told_80 rfl rfl ?_
            refine z_geti fdX0_160_0 ((hL.b 0 rfl).t 0 rfl) dX0_told_81 ?_
            cases hf
            exact z_iret dX0_told_84 rfl hM
          · refine z_swI hf (fun hx hf => ?_) (fun hx5 hf => ?_)
            · refine z_swT 85 dX0_told_1 hx rfl (by decide) (by decide) rfl ?_
              refine z_aload_n 0 dX0_told_85 rfl rfl ?_
              refine z_geti fdX0_262_0 ((hL.b 0 rfl).t 0 rfl) dX0_told_86 ?_
              cases hf
              exact z_iret dX0_told_89 rfl hM
            · refine z_swI hf (fun hx hf => ?_) (fun hx6 hf => ?_)
              · refine z_swT 90 dX0_told_1 hx rfl (by decide) (by decide) rfl ?_
                refine z_aload_n 0 dX0_told_90 rfl rfl ?_
                refine z_geti fdX0_267_0 ((hL.b 0 rfl).t 0 rfl) dX0_told_91 ?_
                cases hf
                exact z_iret dX0_told_94 rfl hM
              · refine z_swI hf (fun hx hf => ?_) (fun hx7 hf => ?_)
                · refine z_swT 95 dX0_told_1 hx rfl (by decide) (by decide) rfl ?_
                  refine z_aload_n 0 dX0_told_95 rfl rfl ?_
                  refine z_geti fdX0_272_0 ((hL.b 0 rfl).t 0 rfl) dX0_told_96 ?_
                  refine z_if_ne 106 dX0_told_99 rfl hf (fun _ hf => ?_) (fun _ hf => ?_)
                  · refine z_aload_n 0 dX0_told_106 rfl rfl ?_
                    obtain ⟨b_4, hb_4, hf⟩ := zb1_some hf
                    refine z_getr fdX0_102_0 (Or.inl ⟨_, rfl⟩) ((hL.b 0 rfl).t 0 rfl) hb_4 dX0_told_107 ?_
                    obtain ⟨hK_5, hf⟩ := zck_some hf
                    refine z_geti fdX0_275_5 ((hK_5.b 0 rfl).t 0 rfl) dX0_told_110 ?_
                    cases hf
                    exact z_iret dX0_told_113 rfl hM
                  · refine z_iconst 0 dX0_told_102 rfl ?_
                    refine z_goto 113 dX0_told_103 rfl ?_
                    cases hf
                    exact z_iret dX0_told_113 rfl hM
                · refine z_swI hf (fun hx hf => ?_) (fun hx8 hf => ?_)
                  · refine z_swT 114 dX0_told_1 hx rfl (by decide) (by decide) rfl ?_
                    refine z_aload_n 0 dX0_told_114 rfl rfl ?_
                    refine z_geti fdX0_272_0 ((hL.b 0 rfl).t 0 rfl) dX0_told_115 ?_
                    cases hf
                    exact z_iret dX0_told_118 rfl hM
                  · refine z_swI hf (fun hx hf => ?_) (fun hx9 hf => ?_)
                    · refine z_swT 119 dX0_told_1 hx rfl (by decide) (by decide) rfl ?_
                      refine z_aload_n 0 dX0_told_119 rfl rfl ?_
                      refine z_geti fdX0_309_0 ((hL.b 0 rfl).t 0 rfl) dX0_told_120 ?_
                      cases hf
                      exact z_iret dX0_told_123 rfl hM
                    · refine z_swI hf (fun hx hf => ?_) (fun hx10 hf => ?_)
                      · refine z_swT 124 dX0_told_1 hx rfl (by decide) (by decide) rfl ?_
                        refine z_aload_n 0 dX0_told_124 rfl rfl ?_
                        refine z_geti fdX0_125_0 ((hL.b 0 rfl).t 0 rfl) dX0_told_125 ?_
                        cases hf
                        exact z_iret dX0_told_128 rfl hM
                      · refine z_swO 129 dX0_told_1 rfl (z_out_0_10 hx0 hx1 hx2 hx3 hx4 hx5 hx6 hx7 hx8 hx9 hx10) ?_
                        refine z_aload_n 0 dX0_told_129 rfl rfl ?_
                        refine z_iconst (-1) dX0_told_130 rfl ?_
                        obtain ⟨v_2, h_3, hc_1, hf⟩ := zb2_some hf
                        have hct := ctX0_answer (l := F.1) hL hc_1
                        refine z_invVi suX0_163_0 hct ((hL.b 0 rfl).t 0 rfl) ⟨Nat.le_trans (by decide) hD, by decide⟩ rfl rfl (Nat.le_of_ble_eq_true rfl) dX0_told_131 ?_
                        have hL := hL.ext hct.1
                        cases hf
                        exact z_iret dX0_told_134 rfl hM
theorem ctX0_told {l : Launch} {h : zH} {a : Nat} {x1 : Int32} {v : Int32} {h' : zH} (hL : zXx h a) (hf : fX0_told h a x1 = some (v, h')) : zC l yX0_told (ws_ yX0_told cX0_told 2 (some .int)) 2 [.ref a, .int x1] h (.inl (some (.int v)), h') :=
  z_start (by decide) (Nat.le_of_ble_eq_true rfl) (zX0_told (F := (l, 2, h, (.inl (some (.int v)), h'))) (Nat.le_refl _) hL hf rfl)
