/-! the script's length and its places -/
section ZAL
variable {F : zF} {nL : Nat} {cc : ByteArray} {own nm : String} {ret : Option FieldType} {hh : List (Nat × Nat × Nat × Nat)} {h : zH} {pc : Nat} {lc : List (Nat × Value)} {st : List Value}
theorem z_slen (hd : decode cc pc = .ok (.arraylength, 1)) (kk : Z F nL cc own nm ret hh h (pc + 1) lc (.int (Int32.ofNat (zT h 0).2) :: st)) : Z F nL cc own nm ret hh h pc lc (.ref 0 :: st) := by
  refine ⟨kk.1, fun K hC r H locs ls hz => ?_⟩
  have hw := kk.2 K hC r H locs ls
  obtain ⟨l, d, h0, x0⟩ := F
  obtain ⟨p, e, s, m, args, below, meth, c, D, bs, r0⟩ := K
  obtain ⟨z1, z2, z3, z4, z5, z6, z7⟩ := hz
  obtain ⟨hx1, hb, hml, hown, hts, hKn, -, -, -, -, hHa, -⟩ := hC
  have hw := hw ⟨z1, z2, z3, z4, z5, zok_1 (zok_int _ _) z6 (fun v hv => List.mem_cons_of_mem _ hv), z7⟩
  obtain ⟨e1, cell, e2, e3, e4, e5, e6, e7⟩ := z3.2.2.2.2.2.2.2.2.1
  obtain ⟨k, comp, hk, hkk⟩ := (hKn.2.2.2.2.2 s (Vm.Alike.refl _) hHa).2.2.2
  refine W.alen hx1 hb e2 ⟨e4, k, by rw [e3]; exact hk, comp, hkk⟩ ?_ rfl rfl hd hw
  rw [e6]
theorem z_sld {i : Int32} (hi : vp_in i (zT h 0).2) (hd : decode cc pc = .ok (.iaload, 1)) (kk : Z F nL cc own nm ret hh h (pc + 1) lc (.int (zI h 0 i.toNatClampNeg) :: st)) : Z F nL cc own nm ret hh h pc lc (.int i :: .ref 0 :: st) := by
  refine ⟨kk.1, fun K hC r H locs ls hz => ?_⟩
  have hw := kk.2 K hC r H locs ls
  obtain ⟨l, d, h0, x0⟩ := F
  obtain ⟨p, e, s, m, args, below, meth, c, D, bs, r0⟩ := K
  obtain ⟨z1, z2, z3, z4, z5, z6, z7⟩ := hz
  obtain ⟨hx1, hb, hml, hown, hts, hKn, -, -, -, -, hHa, -⟩ := hC
  have hw := hw ⟨z1, z2, z3, z4, z5, zok_1 (zok_int _ _) z6 (fun v hv => List.mem_cons_of_mem _ (List.mem_cons_of_mem _ hv)), z7⟩
  obtain ⟨e1, cell, e2, e3, e4, e5, e6, e7⟩ := z3.2.2.2.2.2.2.2.2.1
  obtain ⟨k, comp, hk, hkk⟩ := (hKn.2.2.2.2.2 s (Vm.Alike.refl _) hHa).2.2.2
  have hlt : i.toNatClampNeg < (zT h 0).2 := Nat.lt_of_not_le (fun h9 => hi (Or.inr h9))
  exact W.iald hx1 hb e2 ⟨e4, k, by rw [e3]; exact hk, comp, hkk⟩ e5 (by rw [e6]; exact hi) (e7 _ hlt) rfl rfl hd hw
end ZAL
/-! the law itself (written by genL.py) -/
set_option maxRecDepth 100000
def RL : String := "CodeExchangeLaw"
theorem ffX9_9_7 : zFdF RX9 9 7 1 (.array .int) := ⟨_, _, rfl, rfl, by decide, rfl, rfl, rfl, q1393⟩
theorem ffX9_13_7 : zFdF RX9 13 7 2 (.array .boolean) := ⟨_, _, rfl, rfl, by decide, rfl, rfl, rfl, q1394⟩
theorem ffX9_17_7 : zFdF RX9 17 7 3 (.array .int) := ⟨_, _, rfl, rfl, by decide, rfl, rfl, rfl, q1395⟩
theorem ffX9_20_7 : zFdF RX9 20 7 4 (.array .int) := ⟨_, _, rfl, rfl, by decide, rfl, rfl, rfl, q1396⟩
theorem ffX9_23_7 : zFdF RX9 23 7 5 (.array .int) := ⟨_, _, rfl, rfl, by decide, rfl, rfl, rfl, q1397⟩
theorem ffX9_26_7 : zFdF RX9 26 7 6 (.array .int) := ⟨_, _, rfl, rfl, by decide, rfl, rfl, rfl, q1398⟩
theorem ffX9_29_7 : zFdF RX9 29 7 7 (.array .int) := ⟨_, _, rfl, rfl, by decide, rfl, rfl, rfl, q1399⟩
theorem ffX9_32_7 : zFdF RX9 32 7 8 (.array .int) := ⟨_, _, rfl, rfl, by decide, rfl, rfl, rfl, q1400⟩
theorem ffX9_35_7 : zFdF RX9 35 7 9 (.array .boolean) := ⟨_, _, rfl, rfl, by decide, rfl, rfl, rfl, q1401⟩
theorem ffX9_38_7 : zFdF RX9 38 7 10 (.array .int) := ⟨_, _, rfl, rfl, by decide, rfl, rfl, rfl, q1402⟩
theorem ffX9_41_7 : zFdF RX9 41 7 11 (.array .int) := ⟨_, _, rfl, rfl, by decide, rfl, rfl, rfl, q1403⟩
theorem ffX9_44_7 : zFdF RX9 44 7 12 (.array .int) := ⟨_, _, rfl, rfl, by decide, rfl, rfl, rfl, q1404⟩
theorem ffX9_47_7 : zFdF RX9 47 7 13 (.array .boolean) := ⟨_, _, rfl, rfl, by decide, rfl, rfl, rfl, q1405⟩
theorem ffX9_50_7 : zFdF RX9 50 7 15 (.array .int) := ⟨_, _, rfl, rfl, by decide, rfl, rfl, rfl, q1407⟩
theorem ffX9_53_7 : zFdF RX9 53 7 17 (.array .int) := ⟨_, _, rfl, rfl, by decide, rfl, rfl, rfl, q1409⟩
theorem ffX9_56_7 : zFdF RX9 56 7 20 (.array .int) := ⟨_, _, rfl, rfl, by decide, rfl, rfl, rfl, q1412⟩
theorem ffX9_60_7 : zFdF RX9 60 7 21 (.array .int) := ⟨_, _, rfl, rfl, by decide, rfl, rfl, rfl, q1413⟩
theorem ffX9_63_7 : zFdF RX9 63 7 23 (.array .int) := ⟨_, _, rfl, rfl, by decide, rfl, rfl, rfl, q1415⟩
theorem ffX9_66_7 : zFdF RX9 66 7 26 (.array .int) := ⟨_, _, rfl, rfl, by decide, rfl, rfl, rfl, q1418⟩
theorem ffX9_69_7 : zFdF RX9 69 7 27 (.array .int) := ⟨_, _, rfl, rfl, by decide, rfl, rfl, rfl, q1419⟩
theorem ffX9_72_7 : zFdF RX9 72 7 28 (.array .int) := ⟨_, _, rfl, rfl, by decide, rfl, rfl, rfl, q1420⟩
theorem ffX9_75_7 : zFdF RX9 75 7 29 (.array .boolean) := ⟨_, _, rfl, rfl, by decide, rfl, rfl, rfl, q1421⟩
theorem ffX9_78_7 : zFdF RX9 78 7 30 (.array .int) := ⟨_, _, rfl, rfl, by decide, rfl, rfl, rfl, q1422⟩
theorem ffX9_81_7 : zFdF RX9 81 7 33 (.array .int) := ⟨_, _, rfl, rfl, by decide, rfl, rfl, rfl, q1425⟩
theorem ffX9_84_7 : zFdF RX9 84 7 43 (.array .int) := ⟨_, _, rfl, rfl, by decide, rfl, rfl, rfl, q1435⟩
theorem ffX9_87_7 : zFdF RX9 87 7 44 (.array .int) := ⟨_, _, rfl, rfl, by decide, rfl, rfl, rfl, q1436⟩
theorem ffX9_90_7 : zFdF RX9 90 7 45 (.array .int) := ⟨_, _, rfl, rfl, by decide, rfl, rfl, rfl, q1437⟩
theorem ffX9_93_7 : zFdF RX9 93 7 46 (.array .int) := ⟨_, _, rfl, rfl, by decide, rfl, rfl, rfl, q1438⟩
theorem ffX9_96_7 : zFdF RX9 96 7 49 (.array .int) := ⟨_, _, rfl, rfl, by decide, rfl, rfl, rfl, q1441⟩
theorem ffX9_99_7 : zFdF RX9 99 7 50 (.array .int) := ⟨_, _, rfl, rfl, by decide, rfl, rfl, rfl, q1442⟩
theorem ffX9_102_7 : zFdF RX9 102 7 51 (.array .int) := ⟨_, _, rfl, rfl, by decide, rfl, rfl, rfl, q1443⟩
theorem ffX9_105_7 : zFdF RX9 105 7 52 (.array .boolean) := ⟨_, _, rfl, rfl, by decide, rfl, rfl, rfl, q1444⟩
theorem ffX9_108_7 : zFdF RX9 108 7 53 (.array .int) := ⟨_, _, rfl, rfl, by decide, rfl, rfl, rfl, q1445⟩
theorem ffX9_111_7 : zFdF RX9 111 7 54 (.array .boolean) := ⟨_, _, rfl, rfl, by decide, rfl, rfl, rfl, q1446⟩
theorem ffX9_114_7 : zFdF RX9 114 7 55 (.array .int) := ⟨_, _, rfl, rfl, by decide, rfl, rfl, rfl, q1447⟩
theorem ffX9_117_7 : zFdF RX9 117 7 56 (.array .int) := ⟨_, _, rfl, rfl, by decide, rfl, rfl, rfl, q1448⟩
theorem ffX9_120_7 : zFdF RX9 120 7 57 (.array .int) := ⟨_, _, rfl, rfl, by decide, rfl, rfl, rfl, q1449⟩
theorem ffX9_123_7 : zFdF RX9 123 7 58 (.array .int) := ⟨_, _, rfl, rfl, by decide, rfl, rfl, rfl, q1450⟩
theorem ffX9_126_7 : zFdF RX9 126 7 59 (.array .int) := ⟨_, _, rfl, rfl, by decide, rfl, rfl, rfl, q1451⟩
theorem ffX9_129_7 : zFdF RX9 129 7 60 (.array .int) := ⟨_, _, rfl, rfl, by decide, rfl, rfl, rfl, q1452⟩
theorem ffX9_132_7 : zFdF RX9 132 7 61 (.array .int) := ⟨_, _, rfl, rfl, by decide, rfl, rfl, rfl, q1453⟩
theorem ffX9_135_7 : zFdF RX9 135 7 62 (.array .int) := ⟨_, _, rfl, rfl, by decide, rfl, rfl, rfl, q1454⟩
theorem ffX9_138_7 : zFdF RX9 138 7 63 (.array .int) := ⟨_, _, rfl, rfl, by decide, rfl, rfl, rfl, q1455⟩
theorem ffX9_141_7 : zFdF RX9 141 7 64 (.array .int) := ⟨_, _, rfl, rfl, by decide, rfl, rfl, rfl, q1456⟩
theorem ffX9_144_7 : zFdF RX9 144 7 65 (.array .int) := ⟨_, _, rfl, rfl, by decide, rfl, rfl, rfl, q1457⟩
theorem ffX9_147_7 : zFdF RX9 147 7 66 (.array .int) := ⟨_, _, rfl, rfl, by decide, rfl, rfl, rfl, q1458⟩
noncomputable def fX9_init (h : zH) (a : Nat) : Option (zH) := zlet (zmk h (100, 11) 11) (fun h_1 => zck (zP h_1 a 1 = none) (zlet (zsP h_1 a 1 (some (zn h))) (fun h_2 => zlet (zmk h_2 (101, 11) 11) (fun h_4 => zck (zP h_4 a 2 = none) (zlet (zsP h_4 a 2 (some (zn h_2))) (fun h_5 => zlet (zmk h_5 (100, 11) 11) (fun h_7 => zck (zP h_7 a 3 = none) (zlet (zsP h_7 a 3 (some (zn h_5))) (fun h_8 => zlet (zmk h_8 (100, 11) 11) (fun h_10 => zck (zP h_10 a 4 = none) (zlet (zsP h_10 a 4 (some (zn h_8))) (fun h_11 => zlet (zmk h_11 (100, 1100) 1100) (fun h_13 => zck (zP h_13 a 5 = none) (zlet (zsP h_13 a 5 (some (zn h_11))) (fun h_14 => zlet (zmk h_14 (100, 1100) 1100) (fun h_16 => zck (zP h_16 a 6 = none) (zlet (zsP h_16 a 6 (some (zn h_14))) (fun h_17 => zlet (zmk h_17 (100, 1100) 1100) (fun h_19 => zck (zP h_19 a 7 = none) (zlet (zsP h_19 a 7 (some (zn h_17))) (fun h_20 => zlet (zmk h_20 (100, 1100) 1100) (fun h_22 => zck (zP h_22 a 8 = none) (zlet (zsP h_22 a 8 (some (zn h_20))) (fun h_23 => zlet (zmk h_23 (101, 1100) 1100) (fun h_25 => zck (zP h_25 a 9 = none) (zlet (zsP h_25 a 9 (some (zn h_23))) (fun h_26 => zlet (zmk h_26 (100, 110) 110) (fun h_28 => zck (zP h_28 a 10 = none) (zlet (zsP h_28 a 10 (some (zn h_26))) (fun h_29 => zlet (zmk h_29 (100, 110) 110) (fun h_31 => zck (zP h_31 a 11 = none) (zlet (zsP h_31 a 11 (some (zn h_29))) (fun h_32 => zlet (zmk h_32 (100, 110) 110) (fun h_34 => zck (zP h_34 a 12 = none) (zlet (zsP h_34 a 12 (some (zn h_32))) (fun h_35 => zlet (zmk h_35 (101, 110) 110) (fun h_37 => zck (zP h_37 a 13 = none) (zlet (zsP h_37 a 13 (some (zn h_35))) (fun h_38 => zlet (zmk h_38 (100, 1000) 1000) (fun h_40 => zck (zP h_40 a 15 = none) (zlet (zsP h_40 a 15 (some (zn h_38))) (fun h_41 => zlet (zmk h_41 (100, 1000) 1000) (fun h_43 => zck (zP h_43 a 17 = none) (zlet (zsP h_43 a 17 (some (zn h_41))) (fun h_44 => zlet (zmk h_44 (100, 6000) 6000) (fun h_46 => zck (zP h_46 a 20 = none) (zlet (zsP h_46 a 20 (some (zn h_44))) (fun h_47 => zlet (zmk h_47 (100, 2) 2) (fun h_49 => zck ((zn h_47) ≠ 0 ∧ zAr h_49 (zn h_47) 0) (zlet (zsI h_49 (zn h_47) (0 : Int32).toNatClampNeg 65533) (fun h_51 => zck ((zn h_47) ≠ 0 ∧ zAr h_51 (zn h_47) 1) (zlet (zsI h_51 (zn h_47) (1 : Int32).toNatClampNeg 63) (fun h_53 => zck (zP h_53 a 21 = none) (zlet (zsP h_53 a 21 (some (zn h_47))) (fun h_54 => zlet (zmk h_54 (100, 3) 3) (fun h_56 => zck (zP h_56 a 23 = none) (zlet (zsP h_56 a 23 (some (zn h_54))) (fun h_57 => zlet (zmk h_57 (100, 40) 40) (fun h_59 => zck (zP h_59 a 26 = none) (zlet (zsP h_59 a 26 (some (zn h_57))) (fun h_60 => zlet (zmk h_60 (100, 40) 40) (fun h_62 => zck (zP h_62 a 27 = none) (zlet (zsP h_62 a 27 (some (zn h_60))) (fun h_63 => zlet (zmk h_63 (100, 160) 160) (fun h_65 => zck (zP h_65 a 28 = none) (zlet (zsP h_65 a 28 (some (zn h_63))) (fun h_66 => zlet (zmk h_66 (101, 4) 4) (fun h_68 => zck (zP h_68 a 29 = none) (zlet (zsP h_68 a 29 (some (zn h_66))) (fun h_69 => zlet (zmk h_69 (100, 3) 3) (fun h_71 => zck (zP h_71 a 30 = none) (zlet (zsP h_71 a 30 (some (zn h_69))) (fun h_72 => zlet (zmk h_72 (100, 4) 4) (fun h_74 => zck (zP h_74 a 33 = none) (zlet (zsP h_74 a 33 (some (zn h_72))) (fun h_75 => zlet (zmk h_75 (100, 4000) 4000) (fun h_77 => zck (zP h_77 a 43 = none) (zlet (zsP h_77 a 43 (some (zn h_75))) (fun h_78 => zlet (zmk h_78 (100, 4000) 4000) (fun h_80 => zck (zP h_80 a 44 = none) (zlet (zsP h_80 a 44 (some (zn h_78))) (fun h_81 => zlet (zmk h_81 (100, 6400) 6400) (fun h_83 => zck (zP h_83 a 45 = none) (zlet (zsP h_83 a 45 (some (zn h_81))) (fun h_84 => zlet (zmk h_84 (100, 8) 8) (fun h_86 => zck (zP h_86 a 46 = none) (zlet (zsP h_86 a 46 (some (zn h_84))) (fun h_87 => zlet (zmk h_87 (100, 1000) 1000) (fun h_89 => zck (zP h_89 a 49 = none) (zlet (zsP h_89 a 49 (some (zn h_87))) (fun h_90 => zlet (zmk h_90 (100, 40) 40) (fun h_92 => zck (zP h_92 a 50 = none) (zlet (zsP h_92 a 50 (some (zn h_90))) (fun h_93 => zlet (zmk h_93 (100, 40) 40) (fun h_95 => zck (zP h_95 a 51 = none) (zlet (zsP h_95 a 51 (some (zn h_93))) (fun h_96 => zlet (zmk h_96 (101, 4) 4) (fun h_98 => zck (zP h_98 a 52 = none) (zlet (zsP h_98 a 52 (some (zn h_96))) (fun h_99 => zlet (zmk h_99 (100, 4) 4) (fun h_101 => zck (zP h_101 a 53 = none) (zlet (zsP h_101 a 53 (some (zn h_99))) (fun h_102 => zlet (zmk h_102 (101, 4) 4) (fun h_104 => zck (zP h_104 a 54 = none) (zlet (zsP h_104 a 54 (some (zn h_102))) (fun h_105 => zlet (zmk h_105 (100, 4) 4) (fun h_107 => zck (zP h_107 a 55 = none) (zlet (zsP h_107 a 55 (some (zn h_105))) (fun h_108 => zlet (zmk h_108 (100, 4) 4) (fun h_110 => zck (zP h_110 a 56 = none) (zlet (zsP h_110 a 56 (some (zn h_108))) (fun h_111 => zlet (zmk h_111 (100, 4) 4) (fun h_113 => zck (zP h_113 a 57 = none) (zlet (zsP h_113 a 57 (some (zn h_111))) (fun h_114 => zlet (zmk h_114 (100, 4) 4) (fun h_116 => zck (zP h_116 a 58 = none) (zlet (zsP h_116 a 58 (some (zn h_114))) (fun h_117 => zlet (zmk h_117 (100, 32) 32) (fun h_119 => zck (zP h_119 a 59 = none) (zlet (zsP h_119 a 59 (some (zn h_117))) (fun h_120 => zlet (zmk h_120 (100, 4) 4) (fun h_122 => zck (zP h_122 a 60 = none) (zlet (zsP h_122 a 60 (some (zn h_120))) (fun h_123 => zlet (zmk h_123 (100, 4) 4) (fun h_125 => zck (zP h_125 a 61 = none) (zlet (zsP h_125 a 61 (some (zn h_123))) (fun h_126 => zlet (zmk h_126 (100, 4) 4) (fun h_128 => zck (zP h_128 a 62 = none) (zlet (zsP h_128 a 62 (some (zn h_126))) (fun h_129 => zlet (zmk h_129 (100, 4800) 4800) (fun h_131 => zck (zP h_131 a 63 = none) (zlet (zsP h_131 a 63 (some (zn h_129))) (fun h_132 => zlet (zmk h_132 (100, 8) 8) (fun h_134 => zck (zP h_134 a 64 = none) (zlet (zsP h_134 a 64 (some (zn h_132))) (fun h_135 => zlet (zmk h_135 (100, 1200) 1200) (fun h_137 => zck (zP h_137 a 65 = none) (zlet (zsP h_137 a 65 (some (zn h_135))) (fun h_138 => zlet (zmk h_138 (100, 64) 64) (fun h_140 => zck (zP h_140 a 66 = none) (zlet (zsP h_140 a 66 (some (zn h_138))) (fun h_141 => some h_141))))))))))))))))))))))))))))))))))))))))))))))))))))))))))))))))))))))))))))))))))))))))))))))))))))))))))))))))))))))))))))))))))))))))))))))
theorem zX9_init {F : zF} {h : zH} {a : Nat} {y : zH} (hD : 2 ≤ F.2.1) (hL : zOb 7 h a) (hf : fX9_init h a = some y) (hM : ((.inl none, y) : zX) = zEnd F) : Z F 1 cX9_init RX9 "<init>" none [] h 0 [(0, .ref a)] [] := by
  unfold fX9_init at hf
  refine z_aload_n 0 dX9_init_0 rfl rfl ?_
  refine z_obj q1390 q127 q128 (Nat.le_trans (by decide) hD) (Nat.le_of_ble_eq_true rfl) dX9_init_1 ?_
  refine z_aload_n 0 dX9_init_4 rfl rfl ?_
  refine z_bipush 11 dX9_init_5 rfl ?_
  obtain ⟨h_1, he, hf⟩ := zlet_some hf
  refine z_newa (atype := .int) 11 q330 rfl rfl (by decide) (by decide) rfl (by decide) he dX9_init_7 ?_
  have hL := hL.mk he
  obtain ⟨hn_3, hf⟩ := zck_some hf
  obtain ⟨h_2, he, hf⟩ := zlet_some hf
  refine z_putFr ffX9_9_7 rfl (Or.inr ⟨_, rfl⟩) ((hL.b 0 rfl).t 0 rfl) ((hL.b 0 rfl).nz 0) hn_3 he dX9_init_9 ?_
  have hfx := zLx_F hn_3 he
  have hL := hL.ext hfx
  refine z_aload_n 0 dX9_init_12 rfl rfl ?_
  refine z_bipush 11 dX9_init_13 rfl ?_
  obtain ⟨h_4, he, hf⟩ := zlet_some hf
  refine z_newa (atype := .boolean) 11 q331 rfl rfl (by decide) (by decide) rfl (by decide) he dX9_init_15 ?_
  have hL := hL.mk he
  obtain ⟨hn_6, hf⟩ := zck_some hf
  obtain ⟨h_5, he, hf⟩ := zlet_some hf
  refine z_putFr ffX9_13_7 rfl (Or.inr ⟨_, rfl⟩) ((hL.b 0 rfl).t 0 rfl) ((hL.b 0 rfl).nz 0) hn_6 he dX9_init_17 ?_
  have hfx := zLx_F hn_6 he
  have hL := hL.ext hfx
  refine z_aload_n 0 dX9_init_20 rfl rfl ?_
  refine z_bipush 11 dX9_init_21 rfl ?_
  obtain ⟨h_7, he, hf⟩ := zlet_some hf
  refine z_newa (atype := .int) 11 q330 rfl rfl (by decide) (by decide) rfl (by decide) he dX9_init_23 ?_
  have hL := hL.mk he
  obtain ⟨hn_9, hf⟩ := zck_some hf
  obtain ⟨h_8, he, hf⟩ := zlet_some hf
  refine z_putFr ffX9_17_7 rfl (Or.inr ⟨_, rfl⟩) ((hL.b 0 rfl).t 0 rfl) ((hL.b 0 rfl).nz 0) hn_9 he dX9_init_25 ?_
  have hfx := zLx_F hn_9 he
  have hL := hL.ext hfx
  refine z_aload_n 0 dX9_init_28 rfl rfl ?_
  refine z_bipush 11 dX9_init_29 rfl ?_
  obtain ⟨h_10, he, hf⟩ := zlet_some hf
  refine z_newa (atype := .int) 11 q330 rfl rfl (by decide) (by decide) rfl (by decide) he dX9_init_31 ?_
  have hL := hL.mk he
  obtain ⟨hn_12, hf⟩ := zck_some hf
  obtain ⟨h_11, he, hf⟩ := zlet_some hf
  refine z_putFr ffX9_20_7 rfl (Or.inr ⟨_, rfl⟩) ((hL.b 0 rfl).t 0 rfl) ((hL.b 0 rfl).nz 0) hn_12 he dX9_init_33 ?_
  have hfx := zLx_F hn_12 he
  have hL := hL.ext hfx
  refine z_aload_n 0 dX9_init_36 rfl rfl ?_
  refine z_sipush 1100 dX9_init_37 rfl ?_
  obtain ⟨h_13, he, hf⟩ := zlet_some hf
  refine z_newa (atype := .int) 1100 q330 rfl rfl (by decide) (by decide) rfl (by decide) he dX9_init_40 ?_
  have hL := hL.mk he
  obtain ⟨hn_15, hf⟩ := zck_some hf
  obtain ⟨h_14, he, hf⟩ := zlet_some hf
  refine z_putFr ffX9_23_7 rfl (Or.inr ⟨_, rfl⟩) ((hL.b 0 rfl).t 0 rfl) ((hL.b 0 rfl).nz 0) hn_15 he dX9_init_42 ?_
  have hfx := zLx_F hn_15 he
  have hL := hL.ext hfx
  refine z_aload_n 0 dX9_init_45 rfl rfl ?_
  refine z_sipush 1100 dX9_init_46 rfl ?_
  obtain ⟨h_16, he, hf⟩ := zlet_some hf
  refine z_newa (atype := .int) 1100 q330 rfl rfl (by decide) (by decide) rfl (by decide) he dX9_init_49 ?_
  have hL := hL.mk he
  obtain ⟨hn_18, hf⟩ := zck_some hf
  obtain ⟨h_17, he, hf⟩ := zlet_some hf
  refine z_putFr ffX9_26_7 rfl (Or.inr ⟨_, rfl⟩) ((hL.b 0 rfl).t 0 rfl) ((hL.b 0 rfl).nz 0) hn_18 he dX9_init_51 ?_
  have hfx := zLx_F hn_18 he
  have hL := hL.ext hfx
  refine z_aload_n 0 dX9_init_54 rfl rfl ?_
  refine z_sipush 1100 dX9_init_55 rfl ?_
  obtain ⟨h_19, he, hf⟩ := zlet_some hf
  refine z_newa (atype := .int) 1100 q330 rfl rfl (by decide) (by decide) rfl (by decide) he dX9_init_58 ?_
  have hL := hL.mk he
  obtain ⟨hn_21, hf⟩ := zck_some hf
  obtain ⟨h_20, he, hf⟩ := zlet_some hf
  refine z_putFr ffX9_29_7 rfl (Or.inr ⟨_, rfl⟩) ((hL.b 0 rfl).t 0 rfl) ((hL.b 0 rfl).nz 0) hn_21 he dX9_init_60 ?_
  have hfx := zLx_F hn_21 he
  have hL := hL.ext hfx
  refine z_aload_n 0 dX9_init_63 rfl rfl ?_
  refine z_sipush 1100 dX9_init_64 rfl ?_
  obtain ⟨h_22, he, hf⟩ := zlet_some hf
  refine z_newa (atype := .int) 1100 q330 rfl rfl (by decide) (by decide) rfl (by decide) he dX9_init_67 ?_
  have hL := hL.mk he
  obtain ⟨hn_24, hf⟩ := zck_some hf
  obtain ⟨h_23, he, hf⟩ := zlet_some hf
  refine z_putFr ffX9_32_7 rfl (Or.inr ⟨_, rfl⟩) ((hL.b 0 rfl).t 0 rfl) ((hL.b 0 rfl).nz 0) hn_24 he dX9_init_69 ?_
  have hfx := zLx_F hn_24 he
  have hL := hL.ext hfx
  refine z_aload_n 0 dX9_init_72 rfl rfl ?_
  refine z_sipush 1100 dX9_init_73 rfl ?_
  obtain ⟨h_25, he, hf⟩ := zlet_some hf
  refine z_newa (atype := .boolean) 1100 q331 rfl rfl (by decide) (by decide) rfl (by decide) he dX9_init_76 ?_
  have hL := hL.mk he
  obtain ⟨hn_27, hf⟩ := zck_some hf
  obtain ⟨h_26, he, hf⟩ := zlet_some hf
  refine z_putFr ffX9_35_7 rfl (Or.inr ⟨_, rfl⟩) ((hL.b 0 rfl).t 0 rfl) ((hL.b 0 rfl).nz 0) hn_27 he dX9_init_78 ?_
  have hfx := zLx_F hn_27 he
  have hL := hL.ext hfx
  refine z_aload_n 0 dX9_init_81 rfl rfl ?_
  refine z_bipush 110 dX9_init_82 rfl ?_
  obtain ⟨h_28, he, hf⟩ := zlet_some hf
  refine z_newa (atype := .int) 110 q330 rfl rfl (by decide) (by decide) rfl (by decide) he dX9_init_84 ?_
  have hL := hL.mk he
  obtain ⟨hn_30, hf⟩ := zck_some hf
  obtain ⟨h_29, he, hf⟩ := zlet_some hf
  refine z_putFr ffX9_38_7 rfl (Or.inr ⟨_, rfl⟩) ((hL.b 0 rfl).t 0 rfl) ((hL.b 0 rfl).nz 0) hn_30 he dX9_init_86 ?_
  have hfx := zLx_F hn_30 he
  have hL := hL.ext hfx
  refine z_aload_n 0 dX9_init_89 rfl rfl ?_
  refine z_bipush 110 dX9_init_90 rfl ?_
  obtain ⟨h_31, he, hf⟩ := zlet_some hf
  refine z_newa (atype := .int) 110 q330 rfl rfl (by decide) (by decide) rfl (by decide) he dX9_init_92 ?_
  have hL := hL.mk he
  obtain ⟨hn_33, hf⟩ := zck_some hf
  obtain ⟨h_32, he, hf⟩ := zlet_some hf
  refine z_putFr ffX9_41_7 rfl (Or.inr ⟨_, rfl⟩) ((hL.b 0 rfl).t 0 rfl) ((hL.b 0 rfl).nz 0) hn_33 he dX9_init_94 ?_
  have hfx := zLx_F hn_33 he
  have hL := hL.ext hfx
  refine z_aload_n 0 dX9_init_97 rfl rfl ?_
  refine z_bipush 110 dX9_init_98 rfl ?_
  obtain ⟨h_34, he, hf⟩ := zlet_some hf
  refine z_newa (atype := .int) 110 q330 rfl rfl (by decide) (by decide) rfl (by decide) he dX9_init_100 ?_
  have hL := hL.mk he
  obtain ⟨hn_36, hf⟩ := zck_some hf
  obtain ⟨h_35, he, hf⟩ := zlet_some hf
  refine z_putFr ffX9_44_7 rfl (Or.inr ⟨_, rfl⟩) ((hL.b 0 rfl).t 0 rfl) ((hL.b 0 rfl).nz 0) hn_36 he dX9_init_102 ?_
  have hfx := zLx_F hn_36 he
  have hL := hL.ext hfx
  refine z_aload_n 0 dX9_init_105 rfl rfl ?_
  refine z_bipush 110 dX9_init_106 rfl ?_
  obtain ⟨h_37, he, hf⟩ := zlet_some hf
  refine z_newa (atype := .boolean) 110 q331 rfl rfl (by decide) (by decide) rfl (by decide) he dX9_init_108 ?_
  have hL := hL.mk he
  obtain ⟨hn_39, hf⟩ := zck_some hf
  obtain ⟨h_38, he, hf⟩ := zlet_some hf
  refine z_putFr ffX9_47_7 rfl (Or.inr ⟨_, rfl⟩) ((hL.b 0 rfl).t 0 rfl) ((hL.b 0 rfl).nz 0) hn_39 he dX9_init_110 ?_
  have hfx := zLx_F hn_39 he
  have hL := hL.ext hfx
  refine z_aload_n 0 dX9_init_113 rfl rfl ?_
  refine z_sipush 1000 dX9_init_114 rfl ?_
  obtain ⟨h_40, he, hf⟩ := zlet_some hf
  refine z_newa (atype := .int) 1000 q330 rfl rfl (by decide) (by decide) rfl (by decide) he dX9_init_117 ?_
  have hL := hL.mk he
  obtain ⟨hn_42, hf⟩ := zck_some hf
  obtain ⟨h_41, he, hf⟩ := zlet_some hf
  refine z_putFr ffX9_50_7 rfl (Or.inr ⟨_, rfl⟩) ((hL.b 0 rfl).t 0 rfl) ((hL.b 0 rfl).nz 0) hn_42 he dX9_init_119 ?_
  have hfx := zLx_F hn_42 he
  have hL := hL.ext hfx
  refine z_aload_n 0 dX9_init_122 rfl rfl ?_
  refine z_sipush 1000 dX9_init_123 rfl ?_
  obtain ⟨h_43, he, hf⟩ := zlet_some hf
  refine z_newa (atype := .int) 1000 q330 rfl rfl (by decide) (by decide) rfl (by decide) he dX9_init_126 ?_
  have hL := hL.mk he
  obtain ⟨hn_45, hf⟩ := zck_some hf
  obtain ⟨h_44, he, hf⟩ := zlet_some hf
  refine z_putFr ffX9_53_7 rfl (Or.inr ⟨_, rfl⟩) ((hL.b 0 rfl).t 0 rfl) ((hL.b 0 rfl).nz 0) hn_45 he dX9_init_128 ?_
  have hfx := zLx_F hn_45 he
  have hL := hL.ext hfx
  refine z_aload_n 0 dX9_init_131 rfl rfl ?_
  refine z_sipush 6000 dX9_init_132 rfl ?_
  obtain ⟨h_46, he, hf⟩ := zlet_some hf
  refine z_newa (atype := .int) 6000 q330 rfl rfl (by decide) (by decide) rfl (by decide) he dX9_init_135 ?_
  have hL := hL.mk he
  obtain ⟨hn_48, hf⟩ := zck_some hf
  obtain ⟨h_47, he, hf⟩ := zlet_some hf
  refine z_putFr ffX9_56_7 rfl (Or.inr ⟨_, rfl⟩) ((hL.b 0 rfl).t 0 rfl) ((hL.b 0 rfl).nz 0) hn_48 he dX9_init_137 ?_
  have hfx := zLx_F hn_48 he
  have hL := hL.ext hfx
  refine z_aload_n 0 dX9_init_140 rfl rfl ?_
  refine z_iconst 2 dX9_init_141 rfl ?_
  obtain ⟨h_49, he, hf⟩ := zlet_some hf
  refine z_newa (atype := .int) 2 q330 rfl rfl (by decide) (by decide) rfl (by decide) he dX9_init_142 ?_
  have hL := hL.mk he
  refine z_dup dX9_init_144 rfl ?_
  refine z_iconst 0 dX9_init_145 rfl ?_
  refine z_ldc q1391 dX9_init_146 ?_
  obtain ⟨hi_50, hf⟩ := zck_some hf
  obtain ⟨h_51, he, hf⟩ := zlet_some hf
  refine z_iast (zAr_t hi_50.2) hi_50.1 hi_50.2.2 he dX9_init_148 ?_
  have hL := hL.I he
  refine z_dup dX9_init_149 rfl ?_
  refine z_iconst 1 dX9_init_150 rfl ?_
  refine z_bipush 63 dX9_init_151 rfl ?_
  obtain ⟨hi_52, hf⟩ := zck_some hf
  obtain ⟨h_53, he, hf⟩ := zlet_some hf
  refine z_iast (zAr_t hi_52.2) hi_52.1 hi_52.2.2 he dX9_init_153 ?_
  have hL := hL.I he
  obtain ⟨hn_55, hf⟩ := zck_some hf
  obtain ⟨h_54, he, hf⟩ := zlet_some hf
  refine z_putFr ffX9_60_7 rfl (Or.inr ⟨_, rfl⟩) ((hL.b 0 rfl).t 0 rfl) ((hL.b 0 rfl).nz 0) hn_55 he dX9_init_154 ?_
  have hfx := zLx_F hn_55 he
  have hL := hL.ext hfx
  refine z_aload_n 0 dX9_init_157 rfl rfl ?_
  refine z_iconst 3 dX9_init_158 rfl ?_
  obtain ⟨h_56, he, hf⟩ := zlet_some hf
  refine z_newa (atype := .int) 3 q330 rfl rfl (by decide) (by decide) rfl (by decide) he dX9_init_159 ?_
  have hL := hL.mk he
  obtain ⟨hn_58, hf⟩ := zck_some hf
  obtain ⟨h_57, he, hf⟩ := zlet_some hf
  refine z_putFr ffX9_63_7 rfl (Or.inr ⟨_, rfl⟩) ((hL.b 0 rfl).t 0 rfl) ((hL.b 0 rfl).nz 0) hn_58 he dX9_init_161 ?_
  have hfx := zLx_F hn_58 he
  have hL := hL.ext hfx
  refine z_aload_n 0 dX9_init_164 rfl rfl ?_
  refine z_bipush 40 dX9_init_165 rfl ?_
  obtain ⟨h_59, he, hf⟩ := zlet_some hf
  refine z_newa (atype := .int) 40 q330 rfl rfl (by decide) (by decide) rfl (by decide) he dX9_init_167 ?_
  have hL := hL.mk he
  obtain ⟨hn_61, hf⟩ := zck_some hf
  obtain ⟨h_60, he, hf⟩ := zlet_some hf
  refine z_putFr ffX9_66_7 rfl (Or.inr ⟨_, rfl⟩) ((hL.b 0 rfl).t 0 rfl) ((hL.b 0 rfl).nz 0) hn_61 he dX9_init_169 ?_
  have hfx := zLx_F hn_61 he
  have hL := hL.ext hfx
  refine z_aload_n 0 dX9_init_172 rfl rfl ?_
  refine z_bipush 40 dX9_init_173 rfl ?_
  obtain ⟨h_62, he, hf⟩ := zlet_some hf
  refine z_newa (atype := .int) 40 q330 rfl rfl (by decide) (by decide) rfl (by decide) he dX9_init_175 ?_
  have hL := hL.mk he
  obtain ⟨hn_64, hf⟩ := zck_some hf
  obtain ⟨h_63, he, hf⟩ := zlet_some hf
  refine z_putFr ffX9_69_7 rfl (Or.inr ⟨_, rfl⟩) ((hL.b 0 rfl).t 0 rfl) ((hL.b 0 rfl).nz 0) hn_64 he dX9_init_177 ?_
  have hfx := zLx_F hn_64 he
  have hL := hL.ext hfx
  refine z_aload_n 0 dX9_init_180 rfl rfl ?_
  refine z_sipush 160 dX9_init_181 rfl ?_
  obtain ⟨h_65, he, hf⟩ := zlet_some hf
  refine z_newa (atype := .int) 160 q330 rfl rfl (by decide) (by decide) rfl (by decide) he dX9_init_184 ?_
  have hL := hL.mk he
  obtain ⟨hn_67, hf⟩ := zck_some hf
  obtain ⟨h_66, he, hf⟩ := zlet_some hf
  refine z_putFr ffX9_72_7 rfl (Or.inr ⟨_, rfl⟩) ((hL.b 0 rfl).t 0 rfl) ((hL.b 0 rfl).nz 0) hn_67 he dX9_init_186 ?_
  have hfx := zLx_F hn_67 he
  have hL := hL.ext hfx
  refine z_aload_n 0 dX9_init_189 rfl rfl ?_
  refine z_iconst 4 dX9_init_190 rfl ?_
  obtain ⟨h_68, he, hf⟩ := zlet_some hf
  refine z_newa (atype := .boolean) 4 q331 rfl rfl (by decide) (by decide) rfl (by decide) he dX9_init_191 ?_
  have hL := hL.mk he
  obtain ⟨hn_70, hf⟩ := zck_some hf
  obtain ⟨h_69, he, hf⟩ := zlet_some hf
  refine z_putFr ffX9_75_7 rfl (Or.inr ⟨_, rfl⟩) ((hL.b 0 rfl).t 0 rfl) ((hL.b 0 rfl).nz 0) hn_70 he dX9_init_193 ?_
  have hfx := zLx_F hn_70 he
  have hL := hL.ext hfx
  refine z_aload_n 0 dX9_init_196 rfl rfl ?_
  refine z_iconst 3 dX9_init_197 rfl ?_
  obtain ⟨h_71, he, hf⟩ := zlet_some hf
  refine z_newa (atype := .int) 3 q330 rfl rfl (by decide) (by decide) rfl (by decide) he dX9_init_198 ?_
  have hL := hL.mk he
  obtain ⟨hn_73, hf⟩ := zck_some hf
  obtain ⟨h_72, he, hf⟩ := zlet_some hf
  refine z_putFr ffX9_78_7 rfl (Or.inr ⟨_, rfl⟩) ((hL.b 0 rfl).t 0 rfl) ((hL.b 0 rfl).nz 0) hn_73 he dX9_init_200 ?_
  have hfx := zLx_F hn_73 he
  have hL := hL.ext hfx
  refine z_aload_n 0 dX9_init_203 rfl rfl ?_
  refine z_iconst 4 dX9_init_204 rfl ?_
  obtain ⟨h_74, he, hf⟩ := zlet_some hf
  refine z_newa (atype := .int) 4 q330 rfl rfl (by decide) (by decide) rfl (by decide) he dX9_init_205 ?_
  have hL := hL.mk he
  obtain ⟨hn_76, hf⟩ := zck_some hf
  obtain ⟨h_75, he, hf⟩ := zlet_some hf
  refine z_putFr ffX9_81_7 rfl (Or.inr ⟨_, rfl⟩) ((hL.b 0 rfl).t 0 rfl) ((hL.b 0 rfl).nz 0) hn_76 he dX9_init_207 ?_
  have hfx := zLx_F hn_76 he
  have hL := hL.ext hfx
  refine z_aload_n 0 dX9_init_210 rfl rfl ?_
  refine z_sipush 4000 dX9_init_211 rfl ?_
  obtain ⟨h_77, he, hf⟩ := zlet_some hf
  refine z_newa (atype := .int) 4000 q330 rfl rfl (by decide) (by decide) rfl (by decide) he dX9_init_214 ?_
  have hL := hL.mk he
  obtain ⟨hn_79, hf⟩ := zck_some hf
  obtain ⟨h_78, he, hf⟩ := zlet_some hf
  refine z_putFr ffX9_84_7 rfl (Or.inr ⟨_, rfl⟩) ((hL.b 0 rfl).t 0 rfl) ((hL.b 0 rfl).nz 0) hn_79 he dX9_init_216 ?_
  have hfx := zLx_F hn_79 he
  have hL := hL.ext hfx
  refine z_aload_n 0 dX9_init_219 rfl rfl ?_
  refine z_sipush 4000 dX9_init_220 rfl ?_
  obtain ⟨h_80, he, hf⟩ := zlet_some hf
  refine z_newa (atype := .int) 4000 q330 rfl rfl (by decide) (by decide) rfl (by decide) he dX9_init_223 ?_
  have hL := hL.mk he
  obtain ⟨hn_82, hf⟩ := zck_some hf
  obtain ⟨h_81, he, hf⟩ := zlet_some hf
  refine z_putFr ffX9_87_7 rfl (Or.inr ⟨_, rfl⟩) ((hL.b 0 rfl).t 0 rfl) ((hL.b 0 rfl).nz 0) hn_82 he dX9_init_225 ?_
  have hfx := zLx_F hn_82 he
  have hL := hL.ext hfx
  refine z_aload_n 0 dX9_init_228 rfl rfl ?_
  refine z_sipush 6400 dX9_init_229 rfl ?_
  obtain ⟨h_83, he, hf⟩ := zlet_some hf
  refine z_newa (atype := .int) 6400 q330 rfl rfl (by decide) (by decide) rfl (by decide) he dX9_init_232 ?_
  have hL := hL.mk he
  obtain ⟨hn_85, hf⟩ := zck_some hf
  obtain ⟨h_84, he, hf⟩ := zlet_some hf
  refine z_putFr ffX9_90_7 rfl (Or.inr ⟨_, rfl⟩) ((hL.b 0 rfl).t 0 rfl) ((hL.b 0 rfl).nz 0) hn_85 he dX9_init_234 ?_
  have hfx := zLx_F hn_85 he
  have hL := hL.ext hfx
  refine z_aload_n 0 dX9_init_237 rfl rfl ?_
  refine z_bipush 8 dX9_init_238 rfl ?_
  obtain ⟨h_86, he, hf⟩ := zlet_some hf
  refine z_newa (atype := .int) 8 q330 rfl rfl (by decide) (by decide) rfl (by decide) he dX9_init_240 ?_
  have hL := hL.mk he
  obtain ⟨hn_88, hf⟩ := zck_some hf
  obtain ⟨h_87, he, hf⟩ := zlet_some hf
  refine z_putFr ffX9_93_7 rfl (Or.inr ⟨_, rfl⟩) ((hL.b 0 rfl).t 0 rfl) ((hL.b 0 rfl).nz 0) hn_88 he dX9_init_242 ?_
  have hfx := zLx_F hn_88 he
  have hL := hL.ext hfx
  refine z_aload_n 0 dX9_init_245 rfl rfl ?_
  refine z_sipush 1000 dX9_init_246 rfl ?_
  obtain ⟨h_89, he, hf⟩ := zlet_some hf
  refine z_newa (atype := .int) 1000 q330 rfl rfl (by decide) (by decide) rfl (by decide) he dX9_init_249 ?_
  have hL := hL.mk he
  obtain ⟨hn_91, hf⟩ := zck_some hf
  obtain ⟨h_90, he, hf⟩ := zlet_some hf
  refine z_putFr ffX9_96_7 rfl (Or.inr ⟨_, rfl⟩) ((hL.b 0 rfl).t 0 rfl) ((hL.b 0 rfl).nz 0) hn_91 he dX9_init_251 ?_
  have hfx := zLx_F hn_91 he
  have hL := hL.ext hfx
  refine z_aload_n 0 dX9_init_254 rfl rfl ?_
  refine z_bipush 40 dX9_init_255 rfl ?_
  obtain ⟨h_92, he, hf⟩ := zlet_some hf
  refine z_newa (atype := .int) 40 q330 rfl rfl (by decide) (by decide) rfl (by decide) he dX9_init_257 ?_
  have hL := hL.mk he
  obtain ⟨hn_94, hf⟩ := zck_some hf
  obtain ⟨h_93, he, hf⟩ := zlet_some hf
  refine z_putFr ffX9_99_7 rfl (Or.inr ⟨_, rfl⟩) ((hL.b 0 rfl).t 0 rfl) ((hL.b 0 rfl).nz 0) hn_94 he dX9_init_259 ?_
  have hfx := zLx_F hn_94 he
  have hL := hL.ext hfx
  refine z_aload_n 0 dX9_init_262 rfl rfl ?_
  refine z_bipush 40 dX9_init_263 rfl ?_
  obtain ⟨h_95, he, hf⟩ := zlet_some hf
  refine z_newa (atype := .int) 40 q330 rfl rfl (by decide) (by decide) rfl (by decide) he dX9_init_265 ?_
  have hL := hL.mk he
  obtain ⟨hn_97, hf⟩ := zck_some hf
  obtain ⟨h_96, he, hf⟩ := zlet_some hf
  refine z_putFr ffX9_102_7 rfl (Or.inr ⟨_, rfl⟩) ((hL.b 0 rfl).t 0 rfl) ((hL.b 0 rfl).nz 0) hn_97 he dX9_init_267 ?_
  have hfx := zLx_F hn_97 he
  have hL := hL.ext hfx
  refine z_aload_n 0 dX9_init_270 rfl rfl ?_
  refine z_iconst 4 dX9_init_271 rfl ?_
  obtain ⟨h_98, he, hf⟩ := zlet_some hf
  refine z_newa (atype := .boolean) 4 q331 rfl rfl (by decide) (by decide) rfl (by decide) he dX9_init_272 ?_
  have hL := hL.mk he
  obtain ⟨hn_100, hf⟩ := zck_some hf
  obtain ⟨h_99, he, hf⟩ := zlet_some hf
  refine z_putFr ffX9_105_7 rfl (Or.inr ⟨_, rfl⟩) ((hL.b 0 rfl).t 0 rfl) ((hL.b 0 rfl).nz 0) hn_100 he dX9_init_274 ?_
  have hfx := zLx_F hn_100 he
  have hL := hL.ext hfx
  refine z_aload_n 0 dX9_init_277 rfl rfl ?_
  refine z_iconst 4 dX9_init_278 rfl ?_
  obtain ⟨h_101, he, hf⟩ := zlet_some hf
  refine z_newa (atype := .int) 4 q330 rfl rfl (by decide) (by decide) rfl (by decide) he dX9_init_279 ?_
  have hL := hL.mk he
  obtain ⟨hn_103, hf⟩ := zck_some hf
  obtain ⟨h_102, he, hf⟩ := zlet_some hf
  refine z_putFr ffX9_108_7 rfl (Or.inr ⟨_, rfl⟩) ((hL.b 0 rfl).t 0 rfl) ((hL.b 0 rfl).nz 0) hn_103 he dX9_init_281 ?_
  have hfx := zLx_F hn_103 he
  have hL := hL.ext hfx
  refine z_aload_n 0 dX9_init_284 rfl rfl ?_
  refine z_iconst 4 dX9_init_285 rfl ?_
  obtain ⟨h_104, he, hf⟩ := zlet_some hf
  refine z_newa (atype := .boolean) 4 q331 rfl rfl (by decide) (by decide) rfl (by decide) he dX9_init_286 ?_
  have hL := hL.mk he
  obtain ⟨hn_106, hf⟩ := zck_some hf
  obtain ⟨h_105, he, hf⟩ := zlet_some hf
  refine z_putFr ffX9_111_7 rfl (Or.inr ⟨_, rfl⟩) ((hL.b 0 rfl).t 0 rfl) ((hL.b 0 rfl).nz 0) hn_106 he dX9_init_288 ?_
  have hfx := zLx_F hn_106 he
  have hL := hL.ext hfx
  refine z_aload_n 0 dX9_init_291 rfl rfl ?_
  refine z_iconst 4 dX9_init_292 rfl ?_
  obtain ⟨h_107, he, hf⟩ := zlet_some hf
  refine z_newa (atype := .int) 4 q330 rfl rfl (by decide) (by decide) rfl (by decide) he dX9_init_293 ?_
  have hL := hL.mk he
  obtain ⟨hn_109, hf⟩ := zck_some hf
  obtain ⟨h_108, he, hf⟩ := zlet_some hf
  refine z_putFr ffX9_114_7 rfl (Or.inr ⟨_, rfl⟩) ((hL.b 0 rfl).t 0 rfl) ((hL.b 0 rfl).nz 0) hn_109 he dX9_init_295 ?_
  have hfx := zLx_F hn_109 he
  have hL := hL.ext hfx
  refine z_aload_n 0 dX9_init_298 rfl rfl ?_
  refine z_iconst 4 dX9_init_299 rfl ?_
  obtain ⟨h_110, he, hf⟩ := zlet_some hf
  refine z_newa (atype := .int) 4 q330 rfl rfl (by decide) (by decide) rfl (by decide) he dX9_init_300 ?_
  have hL := hL.mk he
  obtain ⟨hn_112, hf⟩ := zck_some hf
  obtain ⟨h_111, he, hf⟩ := zlet_some hf
  refine z_putFr ffX9_117_7 rfl (Or.inr ⟨_, rfl⟩) ((hL.b 0 rfl).t 0 rfl) ((hL.b 0 rfl).nz 0) hn_112 he dX9_init_302 ?_
  have hfx := zLx_F hn_112 he
  have hL := hL.ext hfx
  refine z_aload_n 0 dX9_init_305 rfl rfl ?_
  refine z_iconst 4 dX9_init_306 rfl ?_
  obtain ⟨h_113, he, hf⟩ := zlet_some hf
  refine z_newa (atype := .int) 4 q330 rfl rfl (by decide) (by decide) rfl (by decide) he dX9_init_307 ?_
  have hL := hL.mk he
  obtain ⟨hn_115, hf⟩ := zck_some hf
  obtain ⟨h_114, he, hf⟩ := zlet_some hf
  refine z_putFr ffX9_120_7 rfl (Or.inr ⟨_, rfl⟩) ((hL.b 0 rfl).t 0 rfl) ((hL.b 0 rfl).nz 0) hn_115 he dX9_init_309 ?_
  have hfx := zLx_F hn_115 he
  have hL := hL.ext hfx
  refine z_aload_n 0 dX9_init_312 rfl rfl ?_
  refine z_iconst 4 dX9_init_313 rfl ?_
  obtain ⟨h_116, he, hf⟩ := zlet_some hf
  refine z_newa (atype := .int) 4 q330 rfl rfl (by decide) (by decide) rfl (by decide) he dX9_init_314 ?_
  have hL := hL.mk he
  obtain ⟨hn_118, hf⟩ := zck_some hf
  obtain ⟨h_117, he, hf⟩ := zlet_some hf
  refine z_putFr ffX9_123_7 rfl (Or.inr ⟨_, rfl⟩) ((hL.b 0 rfl).t 0 rfl) ((hL.b 0 rfl).nz 0) hn_118 he dX9_init_316 ?_
  have hfx := zLx_F hn_118 he
  have hL := hL.ext hfx
  refine z_aload_n 0 dX9_init_319 rfl rfl ?_
  refine z_bipush 32 dX9_init_320 rfl ?_
  obtain ⟨h_119, he, hf⟩ := zlet_some hf
  refine z_newa (atype := .int) 32 q330 rfl rfl (by decide) (by decide) rfl (by decide) he dX9_init_322 ?_
  have hL := hL.mk he
  obtain ⟨hn_121, hf⟩ := zck_some hf
  obtain ⟨h_120, he, hf⟩ := zlet_some hf
  refine z_putFr ffX9_126_7 rfl (Or.inr ⟨_, rfl⟩) ((hL.b 0 rfl).t 0 rfl) ((hL.b 0 rfl).nz 0) hn_121 he dX9_init_324 ?_
  have hfx := zLx_F hn_121 he
  have hL := hL.ext hfx
  refine z_aload_n 0 dX9_init_327 rfl rfl ?_
  refine z_iconst 4 dX9_init_328 rfl ?_
  obtain ⟨h_122, he, hf⟩ := zlet_some hf
  refine z_newa (atype := .int) 4 q330 rfl rfl (by decide) (by decide) rfl (by decide) he dX9_init_329 ?_
  have hL := hL.mk he
  obtain ⟨hn_124, hf⟩ := zck_some hf
  obtain ⟨h_123, he, hf⟩ := zlet_some hf
  refine z_putFr ffX9_129_7 rfl (Or.inr ⟨_, rfl⟩) ((hL.b 0 rfl).t 0 rfl) ((hL.b 0 rfl).nz 0) hn_124 he dX9_init_331 ?_
  have hfx := zLx_F hn_124 he
  have hL := hL.ext hfx
  refine z_aload_n 0 dX9_init_334 rfl rfl ?_
  refine z_iconst 4 dX9_init_335 rfl ?_
  obtain ⟨h_125, he, hf⟩ := zlet_some hf
  refine z_newa (atype := .int) 4 q330 rfl rfl (by decide) (by decide) rfl (by decide) he dX9_init_336 ?_
  have hL := hL.mk he
  obtain ⟨hn_127, hf⟩ := zck_some hf
  obtain ⟨h_126, he, hf⟩ := zlet_some hf
  refine z_putFr ffX9_132_7 rfl (Or.inr ⟨_, rfl⟩) ((hL.b 0 rfl).t 0 rfl) ((hL.b 0 rfl).nz 0) hn_127 he dX9_init_338 ?_
  have hfx := zLx_F hn_127 he
  have hL := hL.ext hfx
  refine z_aload_n 0 dX9_init_341 rfl rfl ?_
  refine z_iconst 4 dX9_init_342 rfl ?_
  obtain ⟨h_128, he, hf⟩ := zlet_some hf
  refine z_newa (atype := .int) 4 q330 rfl rfl (by decide) (by decide) rfl (by decide) he dX9_init_343 ?_
  have hL := hL.mk he
  obtain ⟨hn_130, hf⟩ := zck_some hf
  obtain ⟨h_129, he, hf⟩ := zlet_some hf
  refine z_putFr ffX9_135_7 rfl (Or.inr ⟨_, rfl⟩) ((hL.b 0 rfl).t 0 rfl) ((hL.b 0 rfl).nz 0) hn_130 he dX9_init_345 ?_
  have hfx := zLx_F hn_130 he
  have hL := hL.ext hfx
  refine z_aload_n 0 dX9_init_348 rfl rfl ?_
  refine z_sipush 4800 dX9_init_349 rfl ?_
  obtain ⟨h_131, he, hf⟩ := zlet_some hf
  refine z_newa (atype := .int) 4800 q330 rfl rfl (by decide) (by decide) rfl (by decide) he dX9_init_352 ?_
  have hL := hL.mk he
  obtain ⟨hn_133, hf⟩ := zck_some hf
  obtain ⟨h_132, he, hf⟩ := zlet_some hf
  refine z_putFr ffX9_138_7 rfl (Or.inr ⟨_, rfl⟩) ((hL.b 0 rfl).t 0 rfl) ((hL.b 0 rfl).nz 0) hn_133 he dX9_init_354 ?_
  have hfx := zLx_F hn_133 he
  have hL := hL.ext hfx
  refine z_aload_n 0 dX9_init_357 rfl rfl ?_
  refine z_bipush 8 dX9_init_358 rfl ?_
  obtain ⟨h_134, he, hf⟩ := zlet_some hf
  refine z_newa (atype := .int) 8 q330 rfl rfl (by decide) (by decide) rfl (by decide) he dX9_init_360 ?_
  have hL := hL.mk he
  obtain ⟨hn_136, hf⟩ := zck_some hf
  obtain ⟨h_135, he, hf⟩ := zlet_some hf
  refine z_putFr ffX9_141_7 rfl (Or.inr ⟨_, rfl⟩) ((hL.b 0 rfl).t 0 rfl) ((hL.b 0 rfl).nz 0) hn_136 he dX9_init_362 ?_
  have hfx := zLx_F hn_136 he
  have hL := hL.ext hfx
  refine z_aload_n 0 dX9_init_365 rfl rfl ?_
  refine z_sipush 1200 dX9_init_366 rfl ?_
  obtain ⟨h_137, he, hf⟩ := zlet_some hf
  refine z_newa (atype := .int) 1200 q330 rfl rfl (by decide) (by decide) rfl (by decide) he dX9_init_369 ?_
  have hL := hL.mk he
  obtain ⟨hn_139, hf⟩ := zck_some hf
  obtain ⟨h_138, he, hf⟩ := zlet_some hf
  refine z_putFr ffX9_144_7 rfl (Or.inr ⟨_, rfl⟩) ((hL.b 0 rfl).t 0 rfl) ((hL.b 0 rfl).nz 0) hn_139 he dX9_init_371 ?_
  have hfx := zLx_F hn_139 he
  have hL := hL.ext hfx
  refine z_aload_n 0 dX9_init_374 rfl rfl ?_
  refine z_bipush 64 dX9_init_375 rfl ?_
  obtain ⟨h_140, he, hf⟩ := zlet_some hf
  refine z_newa (atype := .int) 64 q330 rfl rfl (by decide) (by decide) rfl (by decide) he dX9_init_377 ?_
  have hL := hL.mk he
  obtain ⟨hn_142, hf⟩ := zck_some hf
  obtain ⟨h_141, he, hf⟩ := zlet_some hf
  refine z_putFr ffX9_147_7 rfl (Or.inr ⟨_, rfl⟩) ((hL.b 0 rfl).t 0 rfl) ((hL.b 0 rfl).nz 0) hn_142 he dX9_init_379 ?_
  have hfx := zLx_F hn_142 he
  have hL := hL.ext hfx
  cases hf
  exact z_vret dX9_init_382 rfl hM
theorem ctX9_init {l : Launch} {h : zH} {a : Nat} {h' : zH} (hL : zOb 7 h a) (hf : fX9_init h a = some h') : zC l yX9_init (ws_ yX9_init cX9_init 1 none) 2 [.ref a] h (.inl none, h') :=
  z_start (by decide) (Nat.le_of_ble_eq_true rfl) (zX9_init (F := (l, 2, h, (.inl none, h'))) (Nat.le_refl _) hL hf rfl)
theorem siL_9_0 : zIi RL 9 yX0_init cX0_init 2 0 := ⟨(zGood_c q125 q97), rfl, (Or.inl q123), q124, q125, ⟨by decide, by decide⟩, by decide +kernel⟩
theorem siL_12_7 : zIi RL 12 yX9_init cX9_init 1 0 := ⟨(zGood_c q1389 q109), rfl, (Or.inl q1387), q1388, q1389, ⟨by decide, by decide⟩, by decide +kernel⟩
theorem suL_145_0 : zIv RL 145 yX0_told (ws_ yX0_told cX0_told 2 (some .int)) 2 0 1 := ⟨(zGood_c q1384 q97), ⟨_, _, rfl, rfl, q1383⟩, (Or.inl q1381), q1382, ⟨by decide, by decide⟩, by decide +kernel⟩
theorem suL_148_7 : zIv RL 148 yX9_told (ws_ yX9_told cX9_told 2 (some .int)) 2 7 1 := ⟨(zGood_c q1959 q109), ⟨_, _, rfl, rfl, q1958⟩, (Or.inl q1956), q1957, ⟨by decide, by decide⟩, by decide +kernel⟩
theorem suL_141_0 : zIv RL 141 yX0_receive (wsW_ yX0_receive cX0_receive 2 (some .int) [(0, 136, 137, 18)]) 2 0 0 := ⟨(zGood_w q1368 q97), ⟨_, _, rfl, rfl, q1367⟩, (Or.inl q1365), q1366, ⟨by decide, by decide⟩, by decide +kernel⟩
theorem suL_144_7 : zIv RL 144 yX9_receive (ws_ yX9_receive cX9_receive 1 (some .int)) 1 7 0 := ⟨(zGood_c q1939 q109), ⟨_, _, rfl, rfl, q1938⟩, (Or.inl q1936), q1937, ⟨by decide, by decide⟩, by decide +kernel⟩
theorem suL_137_0 : zIv RL 137 yX0_send (wsW_ yX0_send cX0_send 5 (some .int) [(0, 303, 304, 18)]) 5 0 1 := ⟨(zGood_w q1359 q97), ⟨_, _, rfl, rfl, q1358⟩, (Or.inl q1356), q1357, ⟨by decide, by decide⟩, by decide +kernel⟩
theorem suL_140_7 : zIv RL 140 yX9_send (ws_ yX9_send cX9_send 4 (some .int)) 4 7 1 := ⟨(zGood_c q1930 q109), ⟨_, _, rfl, rfl, q1929⟩, (Or.inl q1927), q1928, ⟨by decide, by decide⟩, by decide +kernel⟩
theorem suL_133_0 : zIv RL 133 yX0_lengths (wsW_ yX0_lengths cX0_lengths 7 (some .int) [(0, 168, 169, 18)]) 7 0 2 := ⟨(zGood_w q1335 q97), ⟨_, _, rfl, rfl, q1334⟩, (Or.inl q1332), q1333, ⟨by decide, by decide⟩, by decide +kernel⟩
theorem suL_136_7 : zIv RL 136 yX9_lengths (ws_ yX9_lengths cX9_lengths 6 (some .int)) 6 7 2 := ⟨(zGood_c q1925 q109), ⟨_, _, rfl, rfl, q1924⟩, (Or.inl q1922), q1923, ⟨by decide, by decide⟩, by decide +kernel⟩
theorem suL_128_0 : zIv RL 128 yX0_detect (ws_ yX0_detect cX0_detect 6 (some .int)) 6 0 0 := ⟨(zGood_c q1331 q97), ⟨_, _, rfl, rfl, q1330⟩, (Or.inl q1328), q1329, ⟨by decide, by decide⟩, by decide +kernel⟩
theorem suL_132_7 : zIv RL 132 yX9_detect (ws_ yX9_detect cX9_detect 5 (some .int)) 5 7 0 := ⟨(zGood_c q1921 q109), ⟨_, _, rfl, rfl, q1920⟩, (Or.inl q1918), q1919, ⟨by decide, by decide⟩, by decide +kernel⟩
theorem suL_124_0 : zIv RL 124 yX0_faults (wsW_ yX0_faults cX0_faults 3 (some .int) [(0, 9, 10, 18)]) 3 0 1 := ⟨(zGood_w q1323 q97), ⟨_, _, rfl, rfl, q1322⟩, (Or.inl q1320), q1321, ⟨by decide, by decide⟩, by decide +kernel⟩
theorem suL_127_7 : zIv RL 127 yX9_faults (ws_ yX9_faults cX9_faults 3 (some .int)) 3 7 1 := ⟨(zGood_c q1917 q109), ⟨_, _, rfl, rfl, q1916⟩, (Or.inl q1914), q1915, ⟨by decide, by decide⟩, by decide +kernel⟩
theorem suL_120_0 : zIv RL 120 yX0_misread (wsW_ yX0_misread cX0_misread 8 (some .int) [(0, 183, 184, 18)]) 8 0 2 := ⟨(zGood_w q1318 q97), ⟨_, _, rfl, rfl, q1317⟩, (Or.inl q1315), q1316, ⟨by decide, by decide⟩, by decide +kernel⟩
theorem suL_123_7 : zIv RL 123 yX9_misread (ws_ yX9_misread cX9_misread 7 (some .int)) 7 7 2 := ⟨(zGood_c q1913 q109), ⟨_, _, rfl, rfl, q1912⟩, (Or.inl q1910), q1911, ⟨by decide, by decide⟩, by decide +kernel⟩
theorem suL_116_0 : zIv RL 116 yX0_differ (wsW_ yX0_differ cX0_differ 7 (some .int) [(0, 109, 123, 18), (110, 123, 123, 18)]) 7 0 3 := ⟨(zGood_w q1307 q97), ⟨_, _, rfl, rfl, q1306⟩, (Or.inl q1304), q1305, ⟨by decide, by decide⟩, by decide +kernel⟩
theorem suL_119_7 : zIv RL 119 yX9_differ (ws_ yX9_differ cX9_differ 8 (some .int)) 8 7 3 := ⟨(zGood_c q1905 q109), ⟨_, _, rfl, rfl, q1904⟩, (Or.inl q1902), q1903, ⟨by decide, by decide⟩, by decide +kernel⟩
theorem suL_111_0 : zIv RL 111 yX0_coverage (wsW_ yX0_coverage cX0_coverage 5 (some .int) [(0, 52, 53, 18)]) 5 0 3 := ⟨(zGood_w q1287 q97), ⟨_, _, rfl, rfl, q1286⟩, (Or.inl q1284), q1285, ⟨by decide, by decide⟩, by decide +kernel⟩
theorem suL_115_7 : zIv RL 115 yX9_coverage (ws_ yX9_coverage cX9_coverage 6 (some .int)) 6 7 3 := ⟨(zGood_c q1901 q109), ⟨_, _, rfl, rfl, q1900⟩, (Or.inl q1898), q1899, ⟨by decide, by decide⟩, by decide +kernel⟩
theorem suL_107_0 : zIv RL 107 yX0_machine (ws_ yX0_machine cX0_machine 4 (some .int)) 4 0 2 := ⟨(zGood_c q1283 q97), ⟨_, _, rfl, rfl, q1282⟩, (Or.inl q1280), q1281, ⟨by decide, by decide⟩, by decide +kernel⟩
theorem suL_110_7 : zIv RL 110 yX9_machine (ws_ yX9_machine cX9_machine 3 (some .int)) 3 7 2 := ⟨(zGood_c q1897 q109), ⟨_, _, rfl, rfl, q1896⟩, (Or.inl q1894), q1895, ⟨by decide, by decide⟩, by decide +kernel⟩
theorem suL_103_0 : zIv RL 103 yX0_take (ws_ yX0_take cX0_take 3 (some .int)) 3 0 1 := ⟨(zGood_c q1250 q97), ⟨_, _, rfl, rfl, q1249⟩, (Or.inl q1247), q1248, ⟨by decide, by decide⟩, by decide +kernel⟩
theorem suL_106_7 : zIv RL 106 yX9_take (ws_ yX9_take cX9_take 4 (some .int)) 4 7 1 := ⟨(zGood_c q1893 q109), ⟨_, _, rfl, rfl, q1892⟩, (Or.inl q1890), q1891, ⟨by decide, by decide⟩, by decide +kernel⟩
theorem suL_99_0 : zIv RL 99 yX0_end (wsW_ yX0_end cX0_end 3 (some .int) [(0, 35, 36, 18)]) 3 0 1 := ⟨(zGood_w q1246 q97), ⟨_, _, rfl, rfl, q1245⟩, (Or.inl q1243), q1244, ⟨by decide, by decide⟩, by decide +kernel⟩
theorem suL_102_7 : zIv RL 102 yX9_end (ws_ yX9_end cX9_end 3 (some .int)) 3 7 1 := ⟨(zGood_c q1889 q109), ⟨_, _, rfl, rfl, q1888⟩, (Or.inl q1886), q1887, ⟨by decide, by decide⟩, by decide +kernel⟩
theorem suL_95_0 : zIv RL 95 yX0_feed (wsW_ yX0_feed cX0_feed 4 (some .int) [(0, 62, 63, 18)]) 4 0 2 := ⟨(zGood_w q1236 q97), ⟨_, _, rfl, rfl, q1235⟩, (Or.inl q1233), q1234, ⟨by decide, by decide⟩, by decide +kernel⟩
theorem suL_98_7 : zIv RL 98 yX9_feed (ws_ yX9_feed cX9_feed 3 (some .int)) 3 7 2 := ⟨(zGood_c q1868 q109), ⟨_, _, rfl, rfl, q1867⟩, (Or.inl q1865), q1866, ⟨by decide, by decide⟩, by decide +kernel⟩
theorem suL_90_0 : zIv RL 90 yX0_begin (wsW_ yX0_begin cX0_begin 7 (some .int) [(0, 82, 83, 18)]) 7 0 4 := ⟨(zGood_w q1232 q97), ⟨_, _, rfl, rfl, q1231⟩, (Or.inl q1229), q1230, ⟨by decide, by decide⟩, by decide +kernel⟩
theorem suL_94_7 : zIv RL 94 yX9_begin (ws_ yX9_begin cX9_begin 5 (some .int)) 5 7 4 := ⟨(zGood_c q1864 q109), ⟨_, _, rfl, rfl, q1863⟩, (Or.inl q1861), q1862, ⟨by decide, by decide⟩, by decide +kernel⟩
noncomputable def fL_law_J906 (h : zH) (x1 : Nat) (x2 : Nat) (x3 : Int32) (k0 : Int32) (k1 : Int32) (k2 : Int32) (k3 : Nat) (k4 : Int32) : Option ((zH × Int32) ⊕ (zX)) := zck (vp_in (x3 + 4) (zT h 0).2) (zck (zCt [(mB, mP, k3)] [] h) (zb2 (fX9_begin h k3 k2 k1 k0 (zI h 0 (x3 + 4).toNatClampNeg)) (fun v_171 h_172 => if k4 = v_171 then (some (.inl ((h_172, x3 + 6)))) else (some (.inr ((.inl (some (.int 0)), h_172)))))))
theorem zL_law_J906 {F : zF} {h : zH} {x1 : Nat} {x2 : Nat} {x3 : Int32} {k0 : Int32} {k1 : Int32} {k2 : Int32} {k3 : Nat} {k4 : Int32} {y : (zH × Int32) ⊕ (zX)} (hD : 124 ≤ F.2.1) (hf : fL_law_J906 h x1 x2 x3 k0 k1 k2 k3 k4 = some y) (hM : ((∀ s' : zH × Int32, y = .inl s' → Z F 4 cL_law RL "law" (some .boolean) [] s'.1 18 [(0, .ref 0), (1, .ref x1), (2, .ref x2), (3, .int s'.2)] []) ∧ ∀ r : zX, y = .inr r → (r : zX) = zEnd F)) : Z F 4 cL_law RL "law" (some .boolean) [] h 906 [(0, .ref 0), (1, .ref x1), (2, .ref x2), (3, .int x3)] [.int k0, .int k1, .int k2, .ref k3, .int k4] := by
  unfold fL_law_J906 at hf
  refine z_aload_n 0 dL_law_906 rfl rfl ?_
  refine z_iload_n 3 dL_law_907 rfl rfl ?_
  refine z_iconst 4 dL_law_908 rfl ?_
  refine z_iadd dL_law_909 ?_
  obtain ⟨hi_168, hf⟩ := zck_some hf
  refine z_sld hi_168 dL_law_910 ?_
  obtain ⟨hK_169, hf⟩ := zck_some hf
  obtain ⟨v_171, h_172, hc_170, hf⟩ := zb2_some hf
  have hct := ctX9_begin (l := F.1) (hK_169.b 0 rfl) hc_170
  refine z_invVi suL_94_7 hct ((hK_169.b 0 rfl).t 0 rfl) ⟨Nat.le_trans (by decide) hD, by decide⟩ rfl rfl (Nat.le_of_ble_eq_true rfl) dL_law_911 ?_
  have hK_169 := hK_169.ext hct.1
  refine z_icmp_eq 1278 dL_law_914 rfl hf (fun _ hf => ?_) (fun _ hf => ?_)
  · refine z_iinc 3 (x3 + 6) dL_law_1278 rfl rfl (by decide) (lc' := [(0, .ref 0), (1, .ref x1), (2, .ref x2), (3, .int (x3 + 6))]) rfl ?_
    refine z_goto 18 dL_law_1281 rfl ?_
    cases hf
    exact (hM.1 _ rfl)
  · refine z_iconst 0 dL_law_917 rfl ?_
    cases hf
    exact z_zret dL_law_918 rfl (Or.inl rfl) (hM.2 _ rfl)
noncomputable def fL_law_J874 (h : zH) (x1 : Nat) (x2 : Nat) (x3 : Int32) (k0 : Int32) (k1 : Int32) (k2 : Int32) (k3 : Nat) : Option ((zH × Int32) ⊕ (zX)) := zck (vp_in (x3 + 4) (zT h 0).2) (zck (zXx h k3) (zb2 (fX0_begin h k3 k2 k1 k0 (zI h 0 (x3 + 4).toNatClampNeg)) (fun v_163 h_164 => zck (vp_in (x3 + 1) (zT h_164 0).2) (zck (vp_in (x3 + 2) (zT h_164 0).2) (zck (vp_in (x3 + 3) (zT h_164 0).2) (if (zI h_164 0 (x3 + 3).toNatClampNeg) = 0 then (fL_law_J906 h_164 x1 x2 x3 0 (zI h_164 0 (x3 + 2).toNatClampNeg) (zI h_164 0 (x3 + 1).toNatClampNeg) x2 v_163) else (fL_law_J906 h_164 x1 x2 x3 1 (zI h_164 0 (x3 + 2).toNatClampNeg) (zI h_164 0 (x3 + 1).toNatClampNeg) x2 v_163)))))))
theorem zL_law_J874 {F : zF} {h : zH} {x1 : Nat} {x2 : Nat} {x3 : Int32} {k0 : Int32} {k1 : Int32} {k2 : Int32} {k3 : Nat} {y : (zH × Int32) ⊕ (zX)} (hD : 124 ≤ F.2.1) (hf : fL_law_J874 h x1 x2 x3 k0 k1 k2 k3 = some y) (hM : ((∀ s' : zH × Int32, y = .inl s' → Z F 4 cL_law RL "law" (some .boolean) [] s'.1 18 [(0, .ref 0), (1, .ref x1), (2, .ref x2), (3, .int s'.2)] []) ∧ ∀ r : zX, y = .inr r → (r : zX) = zEnd F)) : Z F 4 cL_law RL "law" (some .boolean) [] h 874 [(0, .ref 0), (1, .ref x1), (2, .ref x2), (3, .int x3)] [.int k0, .int k1, .int k2, .ref k3] := by
  unfold fL_law_J874 at hf
  refine z_aload_n 0 dL_law_874 rfl rfl ?_
  refine z_iload_n 3 dL_law_875 rfl rfl ?_
  refine z_iconst 4 dL_law_876 rfl ?_
  refine z_iadd dL_law_877 ?_
  obtain ⟨hi_160, hf⟩ := zck_some hf
  refine z_sld hi_160 dL_law_878 ?_
  obtain ⟨hK_161, hf⟩ := zck_some hf
  obtain ⟨v_163, h_164, hc_162, hf⟩ := zb2_some hf
  have hct := ctX0_begin (l := F.1) hK_161 hc_162
  refine z_invVi suL_90_0 hct ((hK_161.b 0 rfl).t 0 rfl) ⟨Nat.le_trans (by decide) hD, by decide⟩ rfl rfl (Nat.le_of_ble_eq_true rfl) dL_law_879 ?_
  have hK_161 := hK_161.ext hct.1
  refine z_aload_n 2 dL_law_882 rfl rfl ?_
  refine z_aload_n 0 dL_law_883 rfl rfl ?_
  refine z_iload_n 3 dL_law_884 rfl rfl ?_
  refine z_iconst 1 dL_law_885 rfl ?_
  refine z_iadd dL_law_886 ?_
  obtain ⟨hi_165, hf⟩ := zck_some hf
  refine z_sld hi_165 dL_law_887 ?_
  refine z_aload_n 0 dL_law_888 rfl rfl ?_
  refine z_iload_n 3 dL_law_889 rfl rfl ?_
  refine z_iconst 2 dL_law_890 rfl ?_
  refine z_iadd dL_law_891 ?_
  obtain ⟨hi_166, hf⟩ := zck_some hf
  refine z_sld hi_166 dL_law_892 ?_
  refine z_aload_n 0 dL_law_893 rfl rfl ?_
  refine z_iload_n 3 dL_law_894 rfl rfl ?_
  refine z_iconst 3 dL_law_895 rfl ?_
  refine z_iadd dL_law_896 ?_
  obtain ⟨hi_167, hf⟩ := zck_some hf
  refine z_sld hi_167 dL_law_897 ?_
  refine z_if_eq 905 dL_law_898 rfl hf (fun _ hf => ?_) (fun _ hf => ?_)
  · refine z_iconst 0 dL_law_905 rfl ?_
    exact zL_law_J906 hD hf hM
  · refine z_iconst 1 dL_law_901 rfl ?_
    refine z_goto 906 dL_law_902 rfl ?_
    exact zL_law_J906 hD hf hM
theorem suL_86_0 : zIv RL 86 yX0_fallback (wsW_ yX0_fallback cX0_fallback 5 (some .int) [(0, 90, 132, 18), (91, 131, 132, 18)]) 5 0 1 := ⟨(zGood_w q1203 q97), ⟨_, _, rfl, rfl, q1202⟩, (Or.inl q1200), q1201, ⟨by decide, by decide⟩, by decide +kernel⟩
theorem suL_89_7 : zIv RL 89 yX9_fallback (ws_ yX9_fallback cX9_fallback 9 (some .int)) 9 7 1 := ⟨(zGood_c q1852 q109), ⟨_, _, rfl, rfl, q1851⟩, (Or.inl q1849), q1850, ⟨by decide, by decide⟩, by decide +kernel⟩
theorem suL_82_0 : zIv RL 82 yX0_sign (ws_ yX0_sign cX0_sign 4 (some .int)) 4 0 2 := ⟨(zGood_c q1199 q97), ⟨_, _, rfl, rfl, q1198⟩, (Or.inl q1196), q1197, ⟨by decide, by decide⟩, by decide +kernel⟩
theorem suL_85_7 : zIv RL 85 yX9_sign (ws_ yX9_sign cX9_sign 4 (some .int)) 4 7 2 := ⟨(zGood_c q1848 q109), ⟨_, _, rfl, rfl, q1847⟩, (Or.inl q1845), q1846, ⟨by decide, by decide⟩, by decide +kernel⟩
theorem suL_78_0 : zIv RL 78 yX0_result (ws_ yX0_result cX0_result 2 (some .int)) 2 0 1 := ⟨(zGood_c q1195 q97), ⟨_, _, rfl, rfl, q1194⟩, (Or.inl q1192), q1193, ⟨by decide, by decide⟩, by decide +kernel⟩
theorem suL_81_7 : zIv RL 81 yX9_result (ws_ yX9_result cX9_result 2 (some .int)) 2 7 1 := ⟨(zGood_c q1844 q109), ⟨_, _, rfl, rfl, q1843⟩, (Or.inl q1841), q1842, ⟨by decide, by decide⟩, by decide +kernel⟩
theorem suL_74_0 : zIv RL 74 yX0_transcode (wsW_ yX0_transcode cX0_transcode 7 (some .int) [(0, 129, 130, 18)]) 7 0 4 := ⟨(zGood_w q1191 q97), ⟨_, _, rfl, rfl, q1190⟩, (Or.inl q1188), q1189, ⟨by decide, by decide⟩, by decide +kernel⟩
theorem suL_77_7 : zIv RL 77 yX9_transcode (ws_ yX9_transcode cX9_transcode 7 (some .int)) 7 7 4 := ⟨(zGood_c q1840 q109), ⟨_, _, rfl, rfl, q1839⟩, (Or.inl q1837), q1838, ⟨by decide, by decide⟩, by decide +kernel⟩
theorem suL_70_0 : zIv RL 70 yX0_encode (wsW_ yX0_encode cX0_encode 4 (some .int) [(0, 52, 53, 18)]) 4 0 2 := ⟨(zGood_w q1187 q97), ⟨_, _, rfl, rfl, q1186⟩, (Or.inl q1184), q1185, ⟨by decide, by decide⟩, by decide +kernel⟩
theorem suL_73_7 : zIv RL 73 yX9_encode (ws_ yX9_encode cX9_encode 4 (some .int)) 4 7 2 := ⟨(zGood_c q1791 q109), ⟨_, _, rfl, rfl, q1790⟩, (Or.inl q1788), q1789, ⟨by decide, by decide⟩, by decide +kernel⟩
theorem suL_66_0 : zIv RL 66 yX0_decode (wsW_ yX0_decode cX0_decode 4 (some .int) [(0, 52, 53, 18)]) 4 0 2 := ⟨(zGood_w q953 q97), ⟨_, _, rfl, rfl, q952⟩, (Or.inl q950), q951, ⟨by decide, by decide⟩, by decide +kernel⟩
theorem suL_69_7 : zIv RL 69 yX9_decode (ws_ yX9_decode cX9_decode 4 (some .int)) 4 7 2 := ⟨(zGood_c q1748 q109), ⟨_, _, rfl, rfl, q1747⟩, (Or.inl q1745), q1746, ⟨by decide, by decide⟩, by decide +kernel⟩
theorem suL_62_0 : zIv RL 62 yX0_fill (ws_ yX0_fill cX0_fill 3 (some .int)) 3 0 1 := ⟨(zGood_c q946 q97), ⟨_, _, rfl, rfl, q945⟩, (Or.inl q943), q944, ⟨by decide, by decide⟩, by decide +kernel⟩
theorem suL_65_7 : zIv RL 65 yX9_fill (ws_ yX9_fill cX9_fill 3 (some .int)) 3 7 1 := ⟨(zGood_c q1744 q109), ⟨_, _, rfl, rfl, q1743⟩, (Or.inl q1741), q1742, ⟨by decide, by decide⟩, by decide +kernel⟩
theorem suL_58_0 : zIv RL 58 yX0_unitsIn (ws_ yX0_unitsIn cX0_unitsIn 5 (some .int)) 5 0 2 := ⟨(zGood_c q941 q97), ⟨_, _, rfl, rfl, q940⟩, (Or.inl q938), q939, ⟨by decide, by decide⟩, by decide +kernel⟩
theorem suL_61_7 : zIv RL 61 yX9_unitsIn (ws_ yX9_unitsIn cX9_unitsIn 5 (some .int)) 5 7 2 := ⟨(zGood_c q1739 q109), ⟨_, _, rfl, rfl, q1738⟩, (Or.inl q1736), q1737, ⟨by decide, by decide⟩, by decide +kernel⟩
theorem suL_53_0 : zIv RL 53 yX0_bytesIn (ws_ yX0_bytesIn cX0_bytesIn 5 (some .int)) 5 0 2 := ⟨(zGood_c q936 q97), ⟨_, _, rfl, rfl, q935⟩, (Or.inl q933), q934, ⟨by decide, by decide⟩, by decide +kernel⟩
theorem suL_57_7 : zIv RL 57 yX9_bytesIn (ws_ yX9_bytesIn cX9_bytesIn 5 (some .int)) 5 7 2 := ⟨(zGood_c q1735 q109), ⟨_, _, rfl, rfl, q1734⟩, (Or.inl q1732), q1733, ⟨by decide, by decide⟩, by decide +kernel⟩
theorem suL_46_0 : zIv RL 46 yX0_code (wsW_ yX0_code cX0_code 6 (some .long) [(0, 42, 43, 18)]) 6 0 2 := ⟨(zGood_w q886 q97), ⟨_, _, rfl, rfl, q885⟩, (Or.inl q883), q884, ⟨by decide, by decide⟩, by decide +kernel⟩
theorem suL_50_7 : zIv RL 50 yX9_code (ws_ yX9_code cX9_code 6 (some .long)) 6 7 2 := ⟨(zGood_c q1707 q109), ⟨_, _, rfl, rfl, q1706⟩, (Or.inl q1704), q1705, ⟨by decide, by decide⟩, by decide +kernel⟩
theorem suL_41_0 : zIv RL 41 yX0_size (wsW_ yX0_size cX0_size 5 (some .int) [(0, 85, 86, 18)]) 5 0 2 := ⟨(zGood_w q851 q97), ⟨_, _, rfl, rfl, q850⟩, (Or.inl q848), q849, ⟨by decide, by decide⟩, by decide +kernel⟩
theorem suL_45_7 : zIv RL 45 yX9_size (ws_ yX9_size cX9_size 3 (some .int)) 3 7 2 := ⟨(zGood_c q1703 q109), ⟨_, _, rfl, rfl, q1702⟩, (Or.inl q1700), q1701, ⟨by decide, by decide⟩, by decide +kernel⟩
theorem suL_37_0 : zIv RL 37 yX0_close (wsW_ yX0_close cX0_close 3 (some .int) [(0, 50, 51, 18)]) 3 0 1 := ⟨(zGood_w q780 q97), ⟨_, _, rfl, rfl, q779⟩, (Or.inl q777), q778, ⟨by decide, by decide⟩, by decide +kernel⟩
theorem suL_40_7 : zIv RL 40 yX9_close (ws_ yX9_close cX9_close 4 (some .int)) 4 7 1 := ⟨(zGood_c q1663 q109), ⟨_, _, rfl, rfl, q1662⟩, (Or.inl q1660), q1661, ⟨by decide, by decide⟩, by decide +kernel⟩
theorem suL_32_0 : zIv RL 32 yX0_drop (wsW_ yX0_drop cX0_drop 7 (some .int) [(0, 44, 89, 18), (45, 88, 89, 18)]) 7 0 4 := ⟨(zGood_w q768 q97), ⟨_, _, rfl, rfl, q767⟩, (Or.inl q765), q766, ⟨by decide, by decide⟩, by decide +kernel⟩
theorem suL_36_7 : zIv RL 36 yX9_drop (ws_ yX9_drop cX9_drop 7 (some .int)) 7 7 4 := ⟨(zGood_c q1659 q109), ⟨_, _, rfl, rfl, q1658⟩, (Or.inl q1656), q1657, ⟨by decide, by decide⟩, by decide +kernel⟩
theorem suL_27_0 : zIv RL 27 yX0_shift (wsW_ yX0_shift cX0_shift 7 (some .int) [(0, 124, 125, 18)]) 7 0 5 := ⟨(zGood_w q759 q97), ⟨_, _, rfl, rfl, q758⟩, (Or.inl q756), q757, ⟨by decide, by decide⟩, by decide +kernel⟩
theorem suL_31_7 : zIv RL 31 yX9_shift (ws_ yX9_shift cX9_shift 8 (some .int)) 8 7 5 := ⟨(zGood_c q1651 q109), ⟨_, _, rfl, rfl, q1650⟩, (Or.inl q1648), q1649, ⟨by decide, by decide⟩, by decide +kernel⟩
noncomputable def fL_law_J315 (h : zH) (x1 : Nat) (x2 : Nat) (x3 : Int32) (k0 : Int32) (k1 : Int32) (k2 : Int32) (k3 : Int32) (k4 : Int32) (k5 : Nat) : Option ((zH × Int32) ⊕ (zX)) := zck (zXx h k5) (zb2 (fX0_shift h k5 k4 k3 k2 k1 k0) (fun v_340 h_341 => zck (vp_in (x3 + 1) (zT h_341 0).2) (zck (vp_in (x3 + 2) (zT h_341 0).2) (zck (vp_in (x3 + 3) (zT h_341 0).2) (zck (vp_in (x3 + 4) (zT h_341 0).2) (zck (vp_in (x3 + 5) (zT h_341 0).2) (if (zI h_341 0 (x3 + 5).toNatClampNeg) = 0 then (zck (zCt [(mB, mP, x2)] [] h_341) (zb2 (fX9_shift h_341 x2 (zI h_341 0 (x3 + 1).toNatClampNeg) (zI h_341 0 (x3 + 2).toNatClampNeg) (zI h_341 0 (x3 + 3).toNatClampNeg) (zI h_341 0 (x3 + 4).toNatClampNeg) 0) (fun v_349 h_350 => if v_340 = v_349 then (some (.inl ((h_350, x3 + 6)))) else (some (.inr ((.inl (some (.int 0)), h_350))))))) else (zck (zCt [(mB, mP, x2)] [] h_341) (zb2 (fX9_shift h_341 x2 (zI h_341 0 (x3 + 1).toNatClampNeg) (zI h_341 0 (x3 + 2).toNatClampNeg) (zI h_341 0 (x3 + 3).toNatClampNeg) (zI h_341 0 (x3 + 4).toNatClampNeg) 1) (fun v_353 h_354 => if v_340 = v_353 then (some (.inl ((h_354, x3 + 6)))) else (some (.inr ((.inl (some (.int 0)), h_354))))))))))))))
theorem zL_law_J315 {F : zF} {h : zH} {x1 : Nat} {x2 : Nat} {x3 : Int32} {k0 : Int32} {k1 : Int32} {k2 : Int32} {k3 : Int32} {k4 : Int32} {k5 : Nat} {y : (zH × Int32) ⊕ (zX)} (hD : 124 ≤ F.2.1) (hf : fL_law_J315 h x1 x2 x3 k0 k1 k2 k3 k4 k5 = some y) (hM : ((∀ s' : zH × Int32, y = .inl s' → Z F 4 cL_law RL "law" (some .boolean) [] s'.1 18 [(0, .ref 0), (1, .ref x1), (2, .ref x2), (3, .int s'.2)] []) ∧ ∀ r : zX, y = .inr r → (r : zX) = zEnd F)) : Z F 4 cL_law RL "law" (some .boolean) [] h 315 [(0, .ref 0), (1, .ref x1), (2, .ref x2), (3, .int x3)] [.int k0, .int k1, .int k2, .int k3, .int k4, .ref k5] := by
  unfold fL_law_J315 at hf
  obtain ⟨hK_338, hf⟩ := zck_some hf
  obtain ⟨v_340, h_341, hc_339, hf⟩ := zb2_some hf
  have hct := ctX0_shift (l := F.1) hK_338 hc_339
  refine z_invVi suL_27_0 hct ((hK_338.b 0 rfl).t 0 rfl) ⟨Nat.le_trans (by decide) hD, by decide⟩ rfl rfl (Nat.le_of_ble_eq_true rfl) dL_law_315 ?_
  have hK_338 := hK_338.ext hct.1
  refine z_aload_n 2 dL_law_318 rfl rfl ?_
  refine z_aload_n 0 dL_law_319 rfl rfl ?_
  refine z_iload_n 3 dL_law_320 rfl rfl ?_
  refine z_iconst 1 dL_law_321 rfl ?_
  refine z_iadd dL_law_322 ?_
  obtain ⟨hi_342, hf⟩ := zck_some hf
  refine z_sld hi_342 dL_law_323 ?_
  refine z_aload_n 0 dL_law_324 rfl rfl ?_
  refine z_iload_n 3 dL_law_325 rfl rfl ?_
  refine z_iconst 2 dL_law_326 rfl ?_
  refine z_iadd dL_law_327 ?_
  obtain ⟨hi_343, hf⟩ := zck_some hf
  refine z_sld hi_343 dL_law_328 ?_
  refine z_aload_n 0 dL_law_329 rfl rfl ?_
  refine z_iload_n 3 dL_law_330 rfl rfl ?_
  refine z_iconst 3 dL_law_331 rfl ?_
  refine z_iadd dL_law_332 ?_
  obtain ⟨hi_344, hf⟩ := zck_some hf
  refine z_sld hi_344 dL_law_333 ?_
  refine z_aload_n 0 dL_law_334 rfl rfl ?_
  refine z_iload_n 3 dL_law_335 rfl rfl ?_
  refine z_iconst 4 dL_law_336 rfl ?_
  refine z_iadd dL_law_337 ?_
  obtain ⟨hi_345, hf⟩ := zck_some hf
  refine z_sld hi_345 dL_law_338 ?_
  refine z_aload_n 0 dL_law_339 rfl rfl ?_
  refine z_iload_n 3 dL_law_340 rfl rfl ?_
  refine z_iconst 5 dL_law_341 rfl ?_
  refine z_iadd dL_law_342 ?_
  obtain ⟨hi_346, hf⟩ := zck_some hf
  refine z_sld hi_346 dL_law_343 ?_
  refine z_if_eq 351 dL_law_344 rfl hf (fun _ hf => ?_) (fun _ hf => ?_)
  · refine z_iconst 0 dL_law_351 rfl ?_
    obtain ⟨hK_347, hf⟩ := zck_some hf
    obtain ⟨v_349, h_350, hc_348, hf⟩ := zb2_some hf
    have hct := ctX9_shift (l := F.1) (hK_347.b 0 rfl) hc_348
    refine z_invVi suL_31_7 hct ((hK_347.b 0 rfl).t 0 rfl) ⟨Nat.le_trans (by decide) hD, by decide⟩ rfl rfl (Nat.le_of_ble_eq_true rfl) dL_law_352 ?_
    have hK_338 := hK_338.ext hct.1
    have hK_347 := hK_347.ext hct.1
    refine z_icmp_eq 1278 dL_law_355 rfl hf (fun _ hf => ?_) (fun _ hf => ?_)
    · refine z_iinc 3 (x3 + 6) dL_law_1278 rfl rfl (by decide) (lc' := [(0, .ref 0), (1, .ref x1), (2, .ref x2), (3, .int (x3 + 6))]) rfl ?_
      refine z_goto 18 dL_law_1281 rfl ?_
      cases hf
      exact (hM.1 _ rfl)
    · refine z_iconst 0 dL_law_358 rfl ?_
      cases hf
      exact z_zret dL_law_359 rfl (Or.inl rfl) (hM.2 _ rfl)
  · refine z_iconst 1 dL_law_347 rfl ?_
    refine z_goto 352 dL_law_348 rfl ?_
    obtain ⟨hK_351, hf⟩ := zck_some hf
    obtain ⟨v_353, h_354, hc_352, hf⟩ := zb2_some hf
    have hct := ctX9_shift (l := F.1) (hK_351.b 0 rfl) hc_352
    refine z_invVi suL_31_7 hct ((hK_351.b 0 rfl).t 0 rfl) ⟨Nat.le_trans (by decide) hD, by decide⟩ rfl rfl (Nat.le_of_ble_eq_true rfl) dL_law_352 ?_
    have hK_338 := hK_338.ext hct.1
    have hK_351 := hK_351.ext hct.1
    refine z_icmp_eq 1278 dL_law_355 rfl hf (fun _ hf => ?_) (fun _ hf => ?_)
    · refine z_iinc 3 (x3 + 6) dL_law_1278 rfl rfl (by decide) (lc' := [(0, .ref 0), (1, .ref x1), (2, .ref x2), (3, .int (x3 + 6))]) rfl ?_
      refine z_goto 18 dL_law_1281 rfl ?_
      cases hf
      exact (hM.1 _ rfl)
    · refine z_iconst 0 dL_law_358 rfl ?_
      cases hf
      exact z_zret dL_law_359 rfl (Or.inl rfl) (hM.2 _ rfl)
theorem suL_22_0 : zIv RL 22 yX0_entry (wsW_ yX0_entry cX0_entry 10 (some .int) [(0, 157, 158, 18)]) 10 0 5 := ⟨(zGood_w q741 q97), ⟨_, _, rfl, rfl, q740⟩, (Or.inl q738), q739, ⟨by decide, by decide⟩, by decide +kernel⟩
theorem suL_26_7 : zIv RL 26 yX9_entry (ws_ yX9_entry cX9_entry 10 (some .int)) 10 7 5 := ⟨(zGood_c q1630 q109), ⟨_, _, rfl, rfl, q1629⟩, (Or.inl q1627), q1628, ⟨by decide, by decide⟩, by decide +kernel⟩
theorem suL_18_0 : zIv RL 18 yX0_derive (wsW_ yX0_derive cX0_derive 4 (some .int) [(0, 45, 46, 18)]) 4 0 1 := ⟨(zGood_w q637 q97), ⟨_, _, rfl, rfl, q636⟩, (Or.inl q634), q635, ⟨by decide, by decide⟩, by decide +kernel⟩
theorem suL_21_7 : zIv RL 21 yX9_derive (ws_ yX9_derive cX9_derive 4 (some .int)) 4 7 1 := ⟨(zGood_c q1614 q109), ⟨_, _, rfl, rfl, q1613⟩, (Or.inl q1611), q1612, ⟨by decide, by decide⟩, by decide +kernel⟩
theorem suL_13_0 : zIv RL 13 yX0_page (ws_ yX0_page cX0_page 2 (some .int)) 2 0 1 := ⟨(zGood_c q589 q97), ⟨_, _, rfl, rfl, q588⟩, (Or.inl q586), q587, ⟨by decide, by decide⟩, by decide +kernel⟩
theorem suL_17_7 : zIv RL 17 yX9_page (ws_ yX9_page cX9_page 2 (some .int)) 2 7 1 := ⟨(zGood_c q1603 q109), ⟨_, _, rfl, rfl, q1602⟩, (Or.inl q1600), q1601, ⟨by decide, by decide⟩, by decide +kernel⟩
noncomputable def fL_law_L18 (h : zH) (x1 : Nat) (x2 : Nat) (x3 : Int32) : Option ((zH × Int32) ⊕ (zX)) := if (((Int32.ofNat (zT h 0).2)) - 6) < x3 then (some (.inr ((.inl (some (.int 1)), h)))) else (zck (vp_in x3 (zT h 0).2) (if ((zI h 0 x3.toNatClampNeg) &&& 31) = 0 then (zck (vp_in (x3 + 1) (zT h 0).2) (zck (zXx h x1) (zb2 (fX0_page h x1 (zI h 0 (x3 + 1).toNatClampNeg)) (fun v_386 h_387 => zck (vp_in (x3 + 1) (zT h_387 0).2) (zck (zCt [(mB, mP, x2)] [] h_387) (zb2 (fX9_page h_387 x2 (zI h_387 0 (x3 + 1).toNatClampNeg)) (fun v_391 h_392 => if v_386 = v_391 then (some (.inl ((h_392, x3 + 6)))) else (some (.inr ((.inl (some (.int 0)), h_392))))))))))) else (if ((zI h 0 x3.toNatClampNeg) &&& 31) = 1 then (zck (vp_in (x3 + 1) (zT h 0).2) (zck (zXx h x1) (zb2 (fX0_derive h x1 (zI h 0 (x3 + 1).toNatClampNeg)) (fun v_376 h_377 => zck (vp_in (x3 + 1) (zT h_377 0).2) (zck (zCt [(mB, mP, x2)] [] h_377) (zb2 (fX9_derive h_377 x2 (zI h_377 0 (x3 + 1).toNatClampNeg)) (fun v_381 h_382 => if v_376 = v_381 then (some (.inl ((h_382, x3 + 6)))) else (some (.inr ((.inl (some (.int 0)), h_382))))))))))) else (if ((zI h 0 x3.toNatClampNeg) &&& 31) = 2 then (zck (vp_in (x3 + 1) (zT h 0).2) (zck (vp_in (x3 + 2) (zT h 0).2) (zck (vp_in (x3 + 3) (zT h 0).2) (zck (vp_in (x3 + 4) (zT h 0).2) (zck (vp_in (x3 + 5) (zT h 0).2) (zck (zXx h x1) (zb2 (fX0_entry h x1 (zI h 0 (x3 + 1).toNatClampNeg) (zI h 0 (x3 + 2).toNatClampNeg) (zI h 0 (x3 + 3).toNatClampNeg) (zI h 0 (x3 + 4).toNatClampNeg) (zI h 0 (x3 + 5).toNatClampNeg)) (fun v_362 h_363 => zck (vp_in (x3 + 1) (zT h_363 0).2) (zck (vp_in (x3 + 2) (zT h_363 0).2) (zck (vp_in (x3 + 3) (zT h_363 0).2) (zck (vp_in (x3 + 4) (zT h_363 0).2) (zck (vp_in (x3 + 5) (zT h_363 0).2) (zck (zCt [(mB, mP, x2)] [] h_363) (zb2 (fX9_entry h_363 x2 (zI h_363 0 (x3 + 1).toNatClampNeg) (zI h_363 0 (x3 + 2).toNatClampNeg) (zI h_363 0 (x3 + 3).toNatClampNeg) (zI h_363 0 (x3 + 4).toNatClampNeg) (zI h_363 0 (x3 + 5).toNatClampNeg)) (fun v_371 h_372 => if v_362 = v_371 then (some (.inl ((h_372, x3 + 6)))) else (some (.inr ((.inl (some (.int 0)), h_372))))))))))))))))))) else (if ((zI h 0 x3.toNatClampNeg) &&& 31) = 3 then (zck (vp_in (x3 + 1) (zT h 0).2) (zck (vp_in (x3 + 2) (zT h 0).2) (zck (vp_in (x3 + 3) (zT h 0).2) (zck (vp_in (x3 + 4) (zT h 0).2) (zck (vp_in (x3 + 5) (zT h 0).2) (if (zI h 0 (x3 + 5).toNatClampNeg) = 0 then (fL_law_J315 h x1 x2 x3 0 (zI h 0 (x3 + 4).toNatClampNeg) (zI h 0 (x3 + 3).toNatClampNeg) (zI h 0 (x3 + 2).toNatClampNeg) (zI h 0 (x3 + 1).toNatClampNeg) x1) else (fL_law_J315 h x1 x2 x3 1 (zI h 0 (x3 + 4).toNatClampNeg) (zI h 0 (x3 + 3).toNatClampNeg) (zI h 0 (x3 + 2).toNatClampNeg) (zI h 0 (x3 + 1).toNatClampNeg) x1))))))) else (if ((zI h 0 x3.toNatClampNeg) &&& 31) = 4 then (zck (vp_in (x3 + 1) (zT h 0).2) (zck (vp_in (x3 + 2) (zT h 0).2) (zck (vp_in (x3 + 3) (zT h 0).2) (zck (vp_in (x3 + 4) (zT h 0).2) (zck (zXx h x1) (zb2 (fX0_drop h x1 (zI h 0 (x3 + 1).toNatClampNeg) (zI h 0 (x3 + 2).toNatClampNeg) (zI h 0 (x3 + 3).toNatClampNeg) (zI h 0 (x3 + 4).toNatClampNeg)) (fun v_323 h_324 => zck (vp_in (x3 + 1) (zT h_324 0).2) (zck (vp_in (x3 + 2) (zT h_324 0).2) (zck (vp_in (x3 + 3) (zT h_324 0).2) (zck (vp_in (x3 + 4) (zT h_324 0).2) (zck (zCt [(mB, mP, x2)] [] h_324) (zb2 (fX9_drop h_324 x2 (zI h_324 0 (x3 + 1).toNatClampNeg) (zI h_324 0 (x3 + 2).toNatClampNeg) (zI h_324 0 (x3 + 3).toNatClampNeg) (zI h_324 0 (x3 + 4).toNatClampNeg)) (fun v_331 h_332 => if v_323 = v_331 then (some (.inl ((h_332, x3 + 6)))) else (some (.inr ((.inl (some (.int 0)), h_332))))))))))))))))) else (if ((zI h 0 x3.toNatClampNeg) &&& 31) = 5 then (zck (vp_in (x3 + 1) (zT h 0).2) (zck (zXx h x1) (zb2 (fX0_close h x1 (zI h 0 (x3 + 1).toNatClampNeg)) (fun v_310 h_311 => zck (vp_in (x3 + 1) (zT h_311 0).2) (zck (zCt [(mB, mP, x2)] [] h_311) (zb2 (fX9_close h_311 x2 (zI h_311 0 (x3 + 1).toNatClampNeg)) (fun v_315 h_316 => if v_310 = v_315 then (some (.inl ((h_316, x3 + 6)))) else (some (.inr ((.inl (some (.int 0)), h_316))))))))))) else (if ((zI h 0 x3.toNatClampNeg) &&& 31) = 6 then (zck (vp_in (x3 + 1) (zT h 0).2) (zck (vp_in (x3 + 2) (zT h 0).2) (zck (zXx h x1) (zb2 (fX0_size h x1 (zI h 0 (x3 + 1).toNatClampNeg) (zI h 0 (x3 + 2).toNatClampNeg)) (fun v_299 h_300 => zck (vp_in (x3 + 1) (zT h_300 0).2) (zck (vp_in (x3 + 2) (zT h_300 0).2) (zck (zCt [(mB, mP, x2)] [] h_300) (zb2 (fX9_size h_300 x2 (zI h_300 0 (x3 + 1).toNatClampNeg) (zI h_300 0 (x3 + 2).toNatClampNeg)) (fun v_305 h_306 => if v_299 = v_305 then (some (.inl ((h_306, x3 + 6)))) else (some (.inr ((.inl (some (.int 0)), h_306))))))))))))) else (if ((zI h 0 x3.toNatClampNeg) &&& 31) = 7 then (zck (vp_in (x3 + 1) (zT h 0).2) (zck (vp_in (x3 + 2) (zT h 0).2) (zck (zXx h x1) (zb2 (fX0_code h x1 (zI h 0 (x3 + 1).toNatClampNeg) (zI h 0 (x3 + 2).toNatClampNeg)) (fun v_287 h_288 => zck (vp_in (x3 + 1) (zT h_288 0).2) (zck (vp_in (x3 + 2) (zT h_288 0).2) (zck (zCt [(mB, mP, x2)] [] h_288) (zb2 (fX9_code h_288 x2 (zI h_288 0 (x3 + 1).toNatClampNeg) (zI h_288 0 (x3 + 2).toNatClampNeg)) (fun v_293 h_294 => if (lg_cmp v_287 v_293) = 0 then (some (.inl ((h_294, x3 + 6)))) else (some (.inr ((.inl (some (.int 0)), h_294))))))))))))) else (if ((zI h 0 x3.toNatClampNeg) &&& 31) = 8 then (zck (vp_in (x3 + 1) (zT h 0).2) (zck (vp_in (x3 + 2) (zT h 0).2) (zck (vp_in (x3 + 3) (zT h 0).2) (zck (zXx h x1) (zb2 (fX0_bytesIn h x1 ((((zI h 0 (x3 + 1).toNatClampNeg).toInt64) <<< ((32 : Int32).toInt64 &&& 63)) ||| (((zI h 0 (x3 + 2).toNatClampNeg).toInt64) &&& 4294967295)) (zI h 0 (x3 + 3).toNatClampNeg)) (fun v_274 h_275 => zck (vp_in (x3 + 1) (zT h_275 0).2) (zck (vp_in (x3 + 2) (zT h_275 0).2) (zck (vp_in (x3 + 3) (zT h_275 0).2) (zck (zCt [(mB, mP, x2)] [] h_275) (zb2 (fX9_bytesIn h_275 x2 ((((zI h_275 0 (x3 + 1).toNatClampNeg).toInt64) <<< ((32 : Int32).toInt64 &&& 63)) ||| (((zI h_275 0 (x3 + 2).toNatClampNeg).toInt64) &&& 4294967295)) (zI h_275 0 (x3 + 3).toNatClampNeg)) (fun v_281 h_282 => if v_274 = v_281 then (some (.inl ((h_282, x3 + 6)))) else (some (.inr ((.inl (some (.int 0)), h_282))))))))))))))) else (if ((zI h 0 x3.toNatClampNeg) &&& 31) = 9 then (zck (vp_in (x3 + 1) (zT h 0).2) (zck (vp_in (x3 + 2) (zT h 0).2) (zck (vp_in (x3 + 3) (zT h 0).2) (zck (zXx h x1) (zb2 (fX0_unitsIn h x1 ((((zI h 0 (x3 + 1).toNatClampNeg).toInt64) <<< ((32 : Int32).toInt64 &&& 63)) ||| (((zI h 0 (x3 + 2).toNatClampNeg).toInt64) &&& 4294967295)) (zI h 0 (x3 + 3).toNatClampNeg)) (fun v_260 h_261 => zck (vp_in (x3 + 1) (zT h_261 0).2) (zck (vp_in (x3 + 2) (zT h_261 0).2) (zck (vp_in (x3 + 3) (zT h_261 0).2) (zck (zCt [(mB, mP, x2)] [] h_261) (zb2 (fX9_unitsIn h_261 x2 ((((zI h_261 0 (x3 + 1).toNatClampNeg).toInt64) <<< ((32 : Int32).toInt64 &&& 63)) ||| (((zI h_261 0 (x3 + 2).toNatClampNeg).toInt64) &&& 4294967295)) (zI h_261 0 (x3 + 3).toNatClampNeg)) (fun v_267 h_268 => if v_260 = v_267 then (some (.inl ((h_268, x3 + 6)))) else (some (.inr ((.inl (some (.int 0)), h_268))))))))))))))) else (if ((zI h 0 x3.toNatClampNeg) &&& 31) = 10 then (zck (vp_in (x3 + 1) (zT h 0).2) (zck (zXx h x1) (zb2 (fX0_fill h x1 (zI h 0 (x3 + 1).toNatClampNeg)) (fun v_248 h_249 => zck (vp_in (x3 + 1) (zT h_249 0).2) (zck (zCt [(mB, mP, x2)] [] h_249) (zb2 (fX9_fill h_249 x2 (zI h_249 0 (x3 + 1).toNatClampNeg)) (fun v_253 h_254 => if v_248 = v_253 then (some (.inl ((h_254, x3 + 6)))) else (some (.inr ((.inl (some (.int 0)), h_254))))))))))) else (if ((zI h 0 x3.toNatClampNeg) &&& 31) = 11 then (zck (vp_in (x3 + 1) (zT h 0).2) (zck (vp_in (x3 + 2) (zT h 0).2) (zck (zXx h x1) (zb2 (fX0_decode h x1 (zI h 0 (x3 + 1).toNatClampNeg) (zI h 0 (x3 + 2).toNatClampNeg)) (fun v_237 h_238 => zck (vp_in (x3 + 1) (zT h_238 0).2) (zck (vp_in (x3 + 2) (zT h_238 0).2) (zck (zCt [(mB, mP, x2)] [] h_238) (zb2 (fX9_decode h_238 x2 (zI h_238 0 (x3 + 1).toNatClampNeg) (zI h_238 0 (x3 + 2).toNatClampNeg)) (fun v_243 h_244 => if v_237 = v_243 then (some (.inl ((h_244, x3 + 6)))) else (some (.inr ((.inl (some (.int 0)), h_244))))))))))))) else (if ((zI h 0 x3.toNatClampNeg) &&& 31) = 12 then (zck (vp_in (x3 + 1) (zT h 0).2) (zck (vp_in (x3 + 2) (zT h 0).2) (zck (zXx h x1) (zb2 (fX0_encode h x1 (zI h 0 (x3 + 1).toNatClampNeg) (zI h 0 (x3 + 2).toNatClampNeg)) (fun v_225 h_226 => zck (vp_in (x3 + 1) (zT h_226 0).2) (zck (vp_in (x3 + 2) (zT h_226 0).2) (zck (zCt [(mB, mP, x2)] [] h_226) (zb2 (fX9_encode h_226 x2 (zI h_226 0 (x3 + 1).toNatClampNeg) (zI h_226 0 (x3 + 2).toNatClampNeg)) (fun v_231 h_232 => if v_225 = v_231 then (some (.inl ((h_232, x3 + 6)))) else (some (.inr ((.inl (some (.int 0)), h_232))))))))))))) else (if ((zI h 0 x3.toNatClampNeg) &&& 31) = 13 then (zck (vp_in (x3 + 1) (zT h 0).2) (zck (vp_in (x3 + 2) (zT h 0).2) (zck (vp_in (x3 + 3) (zT h 0).2) (zck (vp_in (x3 + 4) (zT h 0).2) (zck (zXx h x1) (zb2 (fX0_transcode h x1 (zI h 0 (x3 + 1).toNatClampNeg) (zI h 0 (x3 + 2).toNatClampNeg) (zI h 0 (x3 + 3).toNatClampNeg) (zI h 0 (x3 + 4).toNatClampNeg)) (fun v_211 h_212 => zck (vp_in (x3 + 1) (zT h_212 0).2) (zck (vp_in (x3 + 2) (zT h_212 0).2) (zck (vp_in (x3 + 3) (zT h_212 0).2) (zck (vp_in (x3 + 4) (zT h_212 0).2) (zck (zCt [(mB, mP, x2)] [] h_212) (zb2 (fX9_transcode h_212 x2 (zI h_212 0 (x3 + 1).toNatClampNeg) (zI h_212 0 (x3 + 2).toNatClampNeg) (zI h_212 0 (x3 + 3).toNatClampNeg) (zI h_212 0 (x3 + 4).toNatClampNeg)) (fun v_219 h_220 => if v_211 = v_219 then (some (.inl ((h_220, x3 + 6)))) else (some (.inr ((.inl (some (.int 0)), h_220))))))))))))))))) else (if ((zI h 0 x3.toNatClampNeg) &&& 31) = 14 then (zck (vp_in (x3 + 1) (zT h 0).2) (zck (zXx h x1) (zb2 (fX0_result h x1 (zI h 0 (x3 + 1).toNatClampNeg)) (fun v_198 h_199 => zck (vp_in (x3 + 1) (zT h_199 0).2) (zck (zCt [(mB, mP, x2)] [] h_199) (zb2 (fX9_result h_199 x2 (zI h_199 0 (x3 + 1).toNatClampNeg)) (fun v_203 h_204 => if v_198 = v_203 then (some (.inl ((h_204, x3 + 6)))) else (some (.inr ((.inl (some (.int 0)), h_204))))))))))) else (if ((zI h 0 x3.toNatClampNeg) &&& 31) = 15 then (zck (vp_in (x3 + 1) (zT h 0).2) (zck (vp_in (x3 + 2) (zT h 0).2) (zck (zXx h x1) (zb2 (fX0_sign h x1 (zI h 0 (x3 + 1).toNatClampNeg) (zI h 0 (x3 + 2).toNatClampNeg)) (fun v_187 h_188 => zck (vp_in (x3 + 1) (zT h_188 0).2) (zck (vp_in (x3 + 2) (zT h_188 0).2) (zck (zCt [(mB, mP, x2)] [] h_188) (zb2 (fX9_sign h_188 x2 (zI h_188 0 (x3 + 1).toNatClampNeg) (zI h_188 0 (x3 + 2).toNatClampNeg)) (fun v_193 h_194 => if v_187 = v_193 then (some (.inl ((h_194, x3 + 6)))) else (some (.inr ((.inl (some (.int 0)), h_194))))))))))))) else (if ((zI h 0 x3.toNatClampNeg) &&& 31) = 16 then (zck (vp_in (x3 + 1) (zT h 0).2) (zck (zXx h x1) (zb2 (fX0_fallback h x1 (zI h 0 (x3 + 1).toNatClampNeg)) (fun v_176 h_177 => zck (vp_in (x3 + 1) (zT h_177 0).2) (zck (zCt [(mB, mP, x2)] [] h_177) (zb2 (fX9_fallback h_177 x2 (zI h_177 0 (x3 + 1).toNatClampNeg)) (fun v_181 h_182 => if v_176 = v_181 then (some (.inl ((h_182, x3 + 6)))) else (some (.inr ((.inl (some (.int 0)), h_182))))))))))) else (if ((zI h 0 x3.toNatClampNeg) &&& 31) = 17 then (zck (vp_in (x3 + 1) (zT h 0).2) (zck (vp_in (x3 + 2) (zT h 0).2) (zck (vp_in (x3 + 3) (zT h 0).2) (if (zI h 0 (x3 + 3).toNatClampNeg) = 0 then (fL_law_J874 h x1 x2 x3 0 (zI h 0 (x3 + 2).toNatClampNeg) (zI h 0 (x3 + 1).toNatClampNeg) x1) else (fL_law_J874 h x1 x2 x3 1 (zI h 0 (x3 + 2).toNatClampNeg) (zI h 0 (x3 + 1).toNatClampNeg) x1))))) else (if ((zI h 0 x3.toNatClampNeg) &&& 31) = 18 then (zck (vp_in (x3 + 1) (zT h 0).2) (zck (vp_in (x3 + 2) (zT h 0).2) (zck (zXx h x1) (zb2 (fX0_feed h x1 (zI h 0 (x3 + 1).toNatClampNeg) (zI h 0 (x3 + 2).toNatClampNeg)) (fun v_149 h_150 => zck (vp_in (x3 + 1) (zT h_150 0).2) (zck (vp_in (x3 + 2) (zT h_150 0).2) (zck (zCt [(mB, mP, x2)] [] h_150) (zb2 (fX9_feed h_150 x2 (zI h_150 0 (x3 + 1).toNatClampNeg) (zI h_150 0 (x3 + 2).toNatClampNeg)) (fun v_155 h_156 => if v_149 = v_155 then (some (.inl ((h_156, x3 + 6)))) else (some (.inr ((.inl (some (.int 0)), h_156))))))))))))) else (if ((zI h 0 x3.toNatClampNeg) &&& 31) = 19 then (zck (vp_in (x3 + 1) (zT h 0).2) (zck (zXx h x1) (zb2 (fX0_end h x1 (zI h 0 (x3 + 1).toNatClampNeg)) (fun v_138 h_139 => zck (vp_in (x3 + 1) (zT h_139 0).2) (zck (zCt [(mB, mP, x2)] [] h_139) (zb2 (fX9_end h_139 x2 (zI h_139 0 (x3 + 1).toNatClampNeg)) (fun v_143 h_144 => if v_138 = v_143 then (some (.inl ((h_144, x3 + 6)))) else (some (.inr ((.inl (some (.int 0)), h_144))))))))))) else (if ((zI h 0 x3.toNatClampNeg) &&& 31) = 20 then (zck (vp_in (x3 + 1) (zT h 0).2) (zck (zXx h x1) (zb2 (fX0_take h x1 (zI h 0 (x3 + 1).toNatClampNeg)) (fun v_128 h_129 => zck (vp_in (x3 + 1) (zT h_129 0).2) (zck (zCt [(mB, mP, x2)] [] h_129) (zb2 (fX9_take h_129 x2 (zI h_129 0 (x3 + 1).toNatClampNeg)) (fun v_133 h_134 => if v_128 = v_133 then (some (.inl ((h_134, x3 + 6)))) else (some (.inr ((.inl (some (.int 0)), h_134))))))))))) else (if ((zI h 0 x3.toNatClampNeg) &&& 31) = 21 then (zck (vp_in (x3 + 1) (zT h 0).2) (zck (vp_in (x3 + 2) (zT h 0).2) (zck (zXx h x1) (zb2 (fX0_machine h x1 (zI h 0 (x3 + 1).toNatClampNeg) (zI h 0 (x3 + 2).toNatClampNeg)) (fun v_117 h_118 => zck (vp_in (x3 + 1) (zT h_118 0).2) (zck (vp_in (x3 + 2) (zT h_118 0).2) (zck (zCt [(mB, mP, x2)] [] h_118) (zb2 (fX9_machine h_118 x2 (zI h_118 0 (x3 + 1).toNatClampNeg) (zI h_118 0 (x3 + 2).toNatClampNeg)) (fun v_123 h_124 => if v_117 = v_123 then (some (.inl ((h_124, x3 + 6)))) else (some (.inr ((.inl (some (.int 0)), h_124))))))))))))) else (if ((zI h 0 x3.toNatClampNeg) &&& 31) = 22 then (zck (vp_in (x3 + 1) (zT h 0).2) (zck (vp_in (x3 + 2) (zT h 0).2) (zck (vp_in (x3 + 3) (zT h 0).2) (zck (zXx h x1) (zb2 (fX0_coverage h x1 (zI h 0 (x3 + 1).toNatClampNeg) (zI h 0 (x3 + 2).toNatClampNeg) (zI h 0 (x3 + 3).toNatClampNeg)) (fun v_104 h_105 => zck (vp_in (x3 + 1) (zT h_105 0).2) (zck (vp_in (x3 + 2) (zT h_105 0).2) (zck (vp_in (x3 + 3) (zT h_105 0).2) (zck (zCt [(mB, mP, x2)] [] h_105) (zb2 (fX9_coverage h_105 x2 (zI h_105 0 (x3 + 1).toNatClampNeg) (zI h_105 0 (x3 + 2).toNatClampNeg) (zI h_105 0 (x3 + 3).toNatClampNeg)) (fun v_111 h_112 => if v_104 = v_111 then (some (.inl ((h_112, x3 + 6)))) else (some (.inr ((.inl (some (.int 0)), h_112))))))))))))))) else (if ((zI h 0 x3.toNatClampNeg) &&& 31) = 23 then (zck (vp_in (x3 + 1) (zT h 0).2) (zck (vp_in (x3 + 2) (zT h 0).2) (zck (vp_in (x3 + 3) (zT h 0).2) (zck (zXx h x1) (zb2 (fX0_differ h x1 (zI h 0 (x3 + 1).toNatClampNeg) (zI h 0 (x3 + 2).toNatClampNeg) (zI h 0 (x3 + 3).toNatClampNeg)) (fun v_90 h_91 => zck (vp_in (x3 + 1) (zT h_91 0).2) (zck (vp_in (x3 + 2) (zT h_91 0).2) (zck (vp_in (x3 + 3) (zT h_91 0).2) (zck (zCt [(mB, mP, x2)] [] h_91) (zb2 (fX9_differ h_91 x2 (zI h_91 0 (x3 + 1).toNatClampNeg) (zI h_91 0 (x3 + 2).toNatClampNeg) (zI h_91 0 (x3 + 3).toNatClampNeg)) (fun v_97 h_98 => if v_90 = v_97 then (some (.inl ((h_98, x3 + 6)))) else (some (.inr ((.inl (some (.int 0)), h_98))))))))))))))) else (if ((zI h 0 x3.toNatClampNeg) &&& 31) = 24 then (zck (vp_in (x3 + 1) (zT h 0).2) (zck (vp_in (x3 + 2) (zT h 0).2) (zck (zXx h x1) (zb2 (fX0_misread h x1 (zI h 0 (x3 + 1).toNatClampNeg) (zI h 0 (x3 + 2).toNatClampNeg)) (fun v_77 h_78 => zck (vp_in (x3 + 1) (zT h_78 0).2) (zck (vp_in (x3 + 2) (zT h_78 0).2) (zck (zCt [(mB, mP, x2)] [] h_78) (zb2 (fX9_misread h_78 x2 (zI h_78 0 (x3 + 1).toNatClampNeg) (zI h_78 0 (x3 + 2).toNatClampNeg)) (fun v_83 h_84 => if v_77 = v_83 then (some (.inl ((h_84, x3 + 6)))) else (some (.inr ((.inl (some (.int 0)), h_84))))))))))))) else (if ((zI h 0 x3.toNatClampNeg) &&& 31) = 25 then (zck (vp_in (x3 + 1) (zT h 0).2) (zck (zXx h x1) (zb2 (fX0_faults h x1 (zI h 0 (x3 + 1).toNatClampNeg)) (fun v_66 h_67 => zck (vp_in (x3 + 1) (zT h_67 0).2) (zck (zCt [(mB, mP, x2)] [] h_67) (zb2 (fX9_faults h_67 x2 (zI h_67 0 (x3 + 1).toNatClampNeg)) (fun v_71 h_72 => if v_66 = v_71 then (some (.inl ((h_72, x3 + 6)))) else (some (.inr ((.inl (some (.int 0)), h_72))))))))))) else (if ((zI h 0 x3.toNatClampNeg) &&& 31) = 26 then (zck (zXx h x1) (zxi (fX0_detect h x1) (fun v_54 h_55 => zck (zCt [(mB, mP, x2)] [] h_55) (zb2 (fX9_detect h_55 x2) (fun v_61 h_62 => if v_54 = v_61 then (some (.inl ((h_62, x3 + 6)))) else (some (.inr ((.inl (some (.int 0)), h_62))))))) (fun e_56 h_57 => some (.inr ((.inr e_56, h_57)))))) else (if ((zI h 0 x3.toNatClampNeg) &&& 31) = 27 then (zck (vp_in (x3 + 1) (zT h 0).2) (zck (vp_in (x3 + 2) (zT h 0).2) (zck (zXx h x1) (zb2 (fX0_lengths h x1 (zI h 0 (x3 + 1).toNatClampNeg) (zI h 0 (x3 + 2).toNatClampNeg)) (fun v_44 h_45 => zck (vp_in (x3 + 1) (zT h_45 0).2) (zck (vp_in (x3 + 2) (zT h_45 0).2) (zck (zCt [(mB, mP, x2)] [] h_45) (zb2 (fX9_lengths h_45 x2 (zI h_45 0 (x3 + 1).toNatClampNeg) (zI h_45 0 (x3 + 2).toNatClampNeg)) (fun v_50 h_51 => if v_44 = v_50 then (some (.inl ((h_51, x3 + 6)))) else (some (.inr ((.inl (some (.int 0)), h_51))))))))))))) else (if ((zI h 0 x3.toNatClampNeg) &&& 31) = 28 then (zck (vp_in (x3 + 1) (zT h 0).2) (zck (zXx h x1) (zb2 (fX0_send h x1 (zI h 0 (x3 + 1).toNatClampNeg)) (fun v_33 h_34 => zck (vp_in (x3 + 1) (zT h_34 0).2) (zck (zCt [(mB, mP, x2)] [] h_34) (zb2 (fX9_send h_34 x2 (zI h_34 0 (x3 + 1).toNatClampNeg)) (fun v_38 h_39 => if v_33 = v_38 then (some (.inl ((h_39, x3 + 6)))) else (some (.inr ((.inl (some (.int 0)), h_39))))))))))) else (if ((zI h 0 x3.toNatClampNeg) &&& 31) = 29 then (zck (zXx h x1) (zb2 (fX0_receive h x1) (fun v_24 h_25 => zck (zCt [(mB, mP, x2)] [] h_25) (zb2 (fX9_receive h_25 x2) (fun v_28 h_29 => if v_24 = v_28 then (some (.inl ((h_29, x3 + 6)))) else (some (.inr ((.inl (some (.int 0)), h_29))))))))) else (if ((zI h 0 x3.toNatClampNeg) &&& 31) = 30 then (zck (vp_in (x3 + 1) (zT h 0).2) (zck (zXx h x1) (zb2 (fX0_told h x1 (zI h 0 (x3 + 1).toNatClampNeg)) (fun v_15 h_16 => zck (vp_in (x3 + 1) (zT h_16 0).2) (zck (zCt [(mB, mP, x2)] [] h_16) (zb2 (fX9_told h_16 x2 (zI h_16 0 (x3 + 1).toNatClampNeg)) (fun v_20 h_21 => if v_15 = v_20 then (some (.inl ((h_21, x3 + 6)))) else (some (.inr ((.inl (some (.int 0)), h_21))))))))))) else (some (.inl ((h, x3 + 6))))))))))))))))))))))))))))))))))))
theorem zL_law_L18 {F : zF} {h : zH} {x1 : Nat} {x2 : Nat} {x3 : Int32} {y : (zH × Int32) ⊕ (zX)} (hD : 124 ≤ F.2.1) (hf : fL_law_L18 h x1 x2 x3 = some y) (hM : ((∀ s' : zH × Int32, y = .inl s' → Z F 4 cL_law RL "law" (some .boolean) [] s'.1 18 [(0, .ref 0), (1, .ref x1), (2, .ref x2), (3, .int s'.2)] []) ∧ ∀ r : zX, y = .inr r → (r : zX) = zEnd F)) : Z F 4 cL_law RL "law" (some .boolean) [] h 18 [(0, .ref 0), (1, .ref x1), (2, .ref x2), (3, .int x3)] [] := by
  unfold fL_law_L18 at hf
  refine z_iload_n 3 dL_law_18 rfl rfl ?_
  refine z_aload_n 0 dL_law_19 rfl rfl ?_
  refine z_slen dL_law_20 ?_
  refine z_bipush 6 dL_law_21 rfl ?_
  refine z_isub dL_law_23 ?_
  refine z_icmp_gt 1284 dL_law_24 rfl hf (fun _ hf => ?_) (fun _ hf => ?_)
  · refine z_iconst 1 dL_law_1284 rfl ?_
    cases hf
    exact z_zret dL_law_1285 rfl (Or.inr rfl) (hM.2 _ rfl)
  · refine z_aload_n 0 dL_law_27 rfl rfl ?_
    refine z_iload_n 3 dL_law_28 rfl rfl ?_
    obtain ⟨hi_11, hf⟩ := zck_some hf
    refine z_sld hi_11 dL_law_29 ?_
    refine z_bipush 31 dL_law_30 rfl ?_
    refine z_iand dL_law_32 ?_
    refine z_swI hf (fun hx hf => ?_) (fun hx0 hf => ?_)
    · refine z_swT 172 dL_law_33 hx rfl (by decide) (by decide) rfl ?_
      refine z_aload_n 1 dL_law_172 rfl rfl ?_
      refine z_aload_n 0 dL_law_173 rfl rfl ?_
      refine z_iload_n 3 dL_law_174 rfl rfl ?_
      refine z_iconst 1 dL_law_175 rfl ?_
      refine z_iadd dL_law_176 ?_
      obtain ⟨hi_383, hf⟩ := zck_some hf
      refine z_sld hi_383 dL_law_177 ?_
      obtain ⟨hK_384, hf⟩ := zck_some hf
      obtain ⟨v_386, h_387, hc_385, hf⟩ := zb2_some hf
      have hct := ctX0_page (l := F.1) hK_384 hc_385
      refine z_invVi suL_13_0 hct ((hK_384.b 0 rfl).t 0 rfl) ⟨Nat.le_trans (by decide) hD, by decide⟩ rfl rfl (Nat.le_of_ble_eq_true rfl) dL_law_178 ?_
      have hK_384 := hK_384.ext hct.1
      refine z_aload_n 2 dL_law_181 rfl rfl ?_
      refine z_aload_n 0 dL_law_182 rfl rfl ?_
      refine z_iload_n 3 dL_law_183 rfl rfl ?_
      refine z_iconst 1 dL_law_184 rfl ?_
      refine z_iadd dL_law_185 ?_
      obtain ⟨hi_388, hf⟩ := zck_some hf
      refine z_sld hi_388 dL_law_186 ?_
      obtain ⟨hK_389, hf⟩ := zck_some hf
      obtain ⟨v_391, h_392, hc_390, hf⟩ := zb2_some hf
      have hct := ctX9_page (l := F.1) (hK_389.b 0 rfl) hc_390
      refine z_invVi suL_17_7 hct ((hK_389.b 0 rfl).t 0 rfl) ⟨Nat.le_trans (by decide) hD, by decide⟩ rfl rfl (Nat.le_of_ble_eq_true rfl) dL_law_187 ?_
      have hK_384 := hK_384.ext hct.1
      have hK_389 := hK_389.ext hct.1
      refine z_icmp_eq 1278 dL_law_190 rfl hf (fun _ hf => ?_) (fun _ hf => ?_)
      · refine z_iinc 3 (x3 + 6) dL_law_1278 rfl rfl (by decide) (lc' := [(0, .ref 0), (1, .ref x1), (2, .ref x2), (3, .int (x3 + 6))]) rfl ?_
        refine z_goto 18 dL_law_1281 rfl ?_
        cases hf
        exact (hM.1 _ rfl)
      · refine z_iconst 0 dL_law_193 rfl ?_
        cases hf
        exact z_zret dL_law_194 rfl (Or.inl rfl) (hM.2 _ rfl)
    · refine z_swI hf (fun hx hf => ?_) (fun hx1 hf => ?_)
      · refine z_swT 195 dL_law_33 hx rfl (by decide) (by decide) rfl ?_
        refine z_aload_n 1 dL_law_195 rfl rfl ?_
        refine z_aload_n 0 dL_law_196 rfl rfl ?_
        refine z_iload_n 3 dL_law_197 rfl rfl ?_
        refine z_iconst 1 dL_law_198 rfl ?_
        refine z_iadd dL_law_199 ?_
        obtain ⟨hi_373, hf⟩ := zck_some hf
        refine z_sld hi_373 dL_law_200 ?_
        obtain ⟨hK_374, hf⟩ := zck_some hf
        obtain ⟨v_376, h_377, hc_375, hf⟩ := zb2_some hf
        have hct := ctX0_derive (l := F.1) hK_374 hc_375
        refine z_invVi suL_18_0 hct ((hK_374.b 0 rfl).t 0 rfl) ⟨Nat.le_trans (by decide) hD, by decide⟩ rfl rfl (Nat.le_of_ble_eq_true rfl) dL_law_201 ?_
        have hK_374 := hK_374.ext hct.1
        refine z_aload_n 2 dL_law_204 rfl rfl ?_
        refine z_aload_n 0 dL_law_205 rfl rfl ?_
        refine z_iload_n 3 dL_law_206 rfl rfl ?_
        refine z_iconst 1 dL_law_207 rfl ?_
        refine z_iadd dL_law_208 ?_
        obtain ⟨hi_378, hf⟩ := zck_some hf
        refine z_sld hi_378 dL_law_209 ?_
        obtain ⟨hK_379, hf⟩ := zck_some hf
        obtain ⟨v_381, h_382, hc_380, hf⟩ := zb2_some hf
        have hct := ctX9_derive (l := F.1) (hK_379.b 0 rfl) hc_380
        refine z_invVi suL_21_7 hct ((hK_379.b 0 rfl).t 0 rfl) ⟨Nat.le_trans (by decide) hD, by decide⟩ rfl rfl (Nat.le_of_ble_eq_true rfl) dL_law_210 ?_
        have hK_374 := hK_374.ext hct.1
        have hK_379 := hK_379.ext hct.1
        refine z_icmp_eq 1278 dL_law_213 rfl hf (fun _ hf => ?_) (fun _ hf => ?_)
        · refine z_iinc 3 (x3 + 6) dL_law_1278 rfl rfl (by decide) (lc' := [(0, .ref 0), (1, .ref x1), (2, .ref x2), (3, .int (x3 + 6))]) rfl ?_
          refine z_goto 18 dL_law_1281 rfl ?_
          cases hf
          exact (hM.1 _ rfl)
        · refine z_iconst 0 dL_law_216 rfl ?_
          cases hf
          exact z_zret dL_law_217 rfl (Or.inl rfl) (hM.2 _ rfl)
      · refine z_swI hf (fun hx hf => ?_) (fun hx2 hf => ?_)
        · refine z_swT 218 dL_law_33 hx rfl (by decide) (by decide) rfl ?_
          refine z_aload_n 1 dL_law_218 rfl rfl ?_
          refine z_aload_n 0 dL_law_219 rfl rfl ?_
          refine z_iload_n 3 dL_law_220 rfl rfl ?_
          refine z_iconst 1 dL_law_221 rfl ?_
          refine z_iadd dL_law_222 ?_
          obtain ⟨hi_355, hf⟩ := zck_some hf
          refine z_sld hi_355 dL_law_223 ?_
          refine z_aload_n 0 dL_law_224 rfl rfl ?_
          refine z_iload_n 3 dL_law_225 rfl rfl ?_
          refine z_iconst 2 dL_law_226 rfl ?_
          refine z_iadd dL_law_227 ?_
          obtain ⟨hi_356, hf⟩ := zck_some hf
          refine z_sld hi_356 dL_law_228 ?_
          refine z_aload_n 0 dL_law_229 rfl rfl ?_
          refine z_iload_n 3 dL_law_230 rfl rfl ?_
          refine z_iconst 3 dL_law_231 rfl ?_
          refine z_iadd dL_law_232 ?_
          obtain ⟨hi_357, hf⟩ := zck_some hf
          refine z_sld hi_357 dL_law_233 ?_
          refine z_aload_n 0 dL_law_234 rfl rfl ?_
          refine z_iload_n 3 dL_law_235 rfl rfl ?_
          refine z_iconst 4 dL_law_236 rfl ?_
          refine z_iadd dL_law_237 ?_
          obtain ⟨hi_358, hf⟩ := zck_some hf
          refine z_sld hi_358 dL_law_238 ?_
          refine z_aload_n 0 dL_law_239 rfl rfl ?_
          refine z_iload_n 3 dL_law_240 rfl rfl ?_
          refine z_iconst 5 dL_law_241 rfl ?_
          refine z_iadd dL_law_242 ?_
          obtain ⟨hi_359, hf⟩ := zck_some hf
          refine z_sld hi_359 dL_law_243 ?_
          obtain ⟨hK_360, hf⟩ := zck_some hf
          obtain ⟨v_362, h_363, hc_361, hf⟩ := zb2_some hf
          have hct := ctX0_entry (l := F.1) hK_360 hc_361
          refine z_invVi suL_22_0 hct ((hK_360.b 0 rfl).t 0 rfl) ⟨Nat.le_trans (by decide) hD, by decide⟩ rfl rfl (Nat.le_of_ble_eq_true rfl) dL_law_244 ?_
          have hK_360 := hK_360.ext hct.1
          refine z_aload_n 2 dL_law_247 rfl rfl ?_
          refine z_aload_n 0 dL_law_248 rfl rfl ?_
          refine z_iload_n 3 dL_law_249 rfl rfl ?_
          refine z_iconst 1 dL_law_250 rfl ?_
          refine z_iadd dL_law_251 ?_
          obtain ⟨hi_364, hf⟩ := zck_some hf
          refine z_sld hi_364 dL_law_252 ?_
          refine z_aload_n 0 dL_law_253 rfl rfl ?_
          refine z_iload_n 3 dL_law_254 rfl rfl ?_
          refine z_iconst 2 dL_law_255 rfl ?_
          refine z_iadd dL_law_256 ?_
          obtain ⟨hi_365, hf⟩ := zck_some hf
          refine z_sld hi_365 dL_law_257 ?_
          refine z_aload_n 0 dL_law_258 rfl rfl ?_
          refine z_iload_n 3 dL_law_259 rfl rfl ?_
          refine z_iconst 3 dL_law_260 rfl ?_
          refine z_iadd dL_law_261 ?_
          obtain ⟨hi_366, hf⟩ := zck_some hf
          refine z_sld hi_366 dL_law_262 ?_
          refine z_aload_n 0 dL_law_263 rfl rfl ?_
          refine z_iload_n 3 dL_law_264 rfl rfl ?_
          refine z_iconst 4 dL_law_265 rfl ?_
          refine z_iadd dL_law_266 ?_
          obtain ⟨hi_367, hf⟩ := zck_some hf
          refine z_sld hi_367 dL_law_267 ?_
          refine z_aload_n 0 dL_law_268 rfl rfl ?_
          refine z_iload_n 3 dL_law_269 rfl rfl ?_
          refine z_iconst 5 dL_law_270 rfl ?_
          refine z_iadd dL_law_271 ?_
          obtain ⟨hi_368, hf⟩ := zck_some hf
          refine z_sld hi_368 dL_law_272 ?_
          obtain ⟨hK_369, hf⟩ := zck_some hf
          obtain ⟨v_371, h_372, hc_370, hf⟩ := zb2_some hf
          have hct := ctX9_entry (l := F.1) (hK_369.b 0 rfl) hc_370
          refine z_invVi suL_26_7 hct ((hK_369.b 0 rfl).t 0 rfl) ⟨Nat.le_trans (by decide) hD, by decide⟩ rfl rfl (Nat.le_of_ble_eq_true rfl) dL_law_273 ?_
          have hK_360 := hK_360.ext hct.1
          have hK_369 := hK_369.ext hct.1
          refine z_icmp_eq 1278 dL_law_276 rfl hf (fun _ hf => ?_) (fun _ hf => ?_)
          · refine z_iinc 3 (x3 + 6) dL_law_1278 rfl rfl (by decide) (lc' := [(0, .ref 0), (1, .ref x1), (2, .ref x2), (3, .int (x3 + 6))]) rfl ?_
            refine z_goto 18 dL_law_1281 rfl ?_
            cases hf
            exact (hM.1 _ rfl)
          · refine z_iconst 0 dL_law_279 rfl ?_
            cases hf
            exact z_zret dL_law_280 rfl (Or.inl rfl) (hM.2 _ rfl)
        · refine z_swI hf (fun hx hf => ?_) (fun hx3 hf => ?_)
          · refine z_swT 281 dL_law_33 hx rfl (by decide) (by decide) rfl ?_
            refine z_aload_n 1 dL_law_281 rfl rfl ?_
            refine z_aload_n 0 dL_law_282 rfl rfl ?_
            refine z_iload_n 3 dL_law_283 rfl rfl ?_
            refine z_iconst 1 dL_law_284 rfl ?_
            refine z_iadd dL_law_285 ?_
            obtain ⟨hi_333, hf⟩ := zck_some hf
            refine z_sld hi_333 dL_law_286 ?_
            refine z_aload_n 0 dL_law_287 rfl rfl ?_
            refine z_iload_n 3 dL_law_288 rfl rfl ?_
            refine z_iconst 2 dL_law_289 rfl ?_
            refine z_iadd dL_law_290 ?_
            obtain ⟨hi_334, hf⟩ := zck_some hf
            refine z_sld hi_334 dL_law_291 ?_
            refine z_aload_n 0 dL_law_292 rfl rfl ?_
            refine z_iload_n 3 dL_law_293 rfl rfl ?_
            refine z_iconst 3 dL_law_294 rfl ?_
            refine z_iadd dL_law_295 ?_
            obtain ⟨hi_335, hf⟩ := zck_some hf
            refine z_sld hi_335 dL_law_296 ?_
            refine z_aload_n 0 dL_law_297 rfl rfl ?_
            refine z_iload_n 3 dL_law_298 rfl rfl ?_
            refine z_iconst 4 dL_law_299 rfl ?_
            refine z_iadd dL_law_300 ?_
            obtain ⟨hi_336, hf⟩ := zck_some hf
            refine z_sld hi_336 dL_law_301 ?_
            refine z_aload_n 0 dL_law_302 rfl rfl ?_
            refine z_iload_n 3 dL_law_303 rfl rfl ?_
            refine z_iconst 5 dL_law_304 rfl ?_
            refine z_iadd dL_law_305 ?_
            obtain ⟨hi_337, hf⟩ := zck_some hf
            refine z_sld hi_337 dL_law_306 ?_
            refine z_if_eq 314 dL_law_307 rfl hf (fun _ hf => ?_) (fun _ hf => ?_)
            · refine z_iconst 0 dL_law_314 rfl ?_
              exact zL_law_J315 hD hf hM
            · refine z_iconst 1 dL_law_310 rfl ?_
              refine z_goto 315 dL_law_311 rfl ?_
              exact zL_law_J315 hD hf hM
          · refine z_swI hf (fun hx hf => ?_) (fun hx4 hf => ?_)
            · refine z_swT 360 dL_law_33 hx rfl (by decide) (by decide) rfl ?_
              refine z_aload_n 1 dL_law_360 rfl rfl ?_
              refine z_aload_n 0 dL_law_361 rfl rfl ?_
              refine z_iload_n 3 dL_law_362 rfl rfl ?_
              refine z_iconst 1 dL_law_363 rfl ?_
              refine z_iadd dL_law_364 ?_
              obtain ⟨hi_317, hf⟩ := zck_some hf
              refine z_sld hi_317 dL_law_365 ?_
              refine z_aload_n 0 dL_law_366 rfl rfl ?_
              refine z_iload_n 3 dL_law_367 rfl rfl ?_
              refine z_iconst 2 dL_law_368 rfl ?_
              refine z_iadd dL_law_369 ?_
              obtain ⟨hi_318, hf⟩ := zck_some hf
              refine z_sld hi_318 dL_law_370 ?_
              refine z_aload_n 0 dL_law_371 rfl rfl ?_
              refine z_iload_n 3 dL_law_372 rfl rfl ?_
              refine z_iconst 3 dL_law_373 rfl ?_
              refine z_iadd dL_law_374 ?_
              obtain ⟨hi_319, hf⟩ := zck_some hf
              refine z_sld hi_319 dL_law_375 ?_
              refine z_aload_n 0 dL_law_376 rfl rfl ?_
              refine z_iload_n 3 dL_law_377 rfl rfl ?_
              refine z_iconst 4 dL_law_378 rfl ?_
              refine z_iadd dL_law_379 ?_
              obtain ⟨hi_320, hf⟩ := zck_some hf
              refine z_sld hi_320 dL_law_380 ?_
              obtain ⟨hK_321, hf⟩ := zck_some hf
              obtain ⟨v_323, h_324, hc_322, hf⟩ := zb2_some hf
              have hct := ctX0_drop (l := F.1) hK_321 hc_322
              refine z_invVi suL_32_0 hct ((hK_321.b 0 rfl).t 0 rfl) ⟨Nat.le_trans (by decide) hD, by decide⟩ rfl rfl (Nat.le_of_ble_eq_true rfl) dL_law_381 ?_
              have hK_321 := hK_321.ext hct.1
              refine z_aload_n 2 dL_law_384 rfl rfl ?_
              refine z_aload_n 0 dL_law_385 rfl rfl ?_
              refine z_iload_n 3 dL_law_386 rfl rfl ?_
              refine z_iconst 1 dL_law_387 rfl ?_
              refine z_iadd dL_law_388 ?_
              obtain ⟨hi_325, hf⟩ := zck_some hf
              refine z_sld hi_325 dL_law_389 ?_
              refine z_aload_n 0 dL_law_390 rfl rfl ?_
              refine z_iload_n 3 dL_law_391 rfl rfl ?_
              refine z_iconst 2 dL_law_392 rfl ?_
              refine z_iadd dL_law_393 ?_
              obtain ⟨hi_326, hf⟩ := zck_some hf
              refine z_sld hi_326 dL_law_394 ?_
              refine z_aload_n 0 dL_law_395 rfl rfl ?_
              refine z_iload_n 3 dL_law_396 rfl rfl ?_
              refine z_iconst 3 dL_law_397 rfl ?_
              refine z_iadd dL_law_398 ?_
              obtain ⟨hi_327, hf⟩ := zck_some hf
              refine z_sld hi_327 dL_law_399 ?_
              refine z_aload_n 0 dL_law_400 rfl rfl ?_
              refine z_iload_n 3 dL_law_401 rfl rfl ?_
              refine z_iconst 4 dL_law_402 rfl ?_
              refine z_iadd dL_law_403 ?_
              obtain ⟨hi_328, hf⟩ := zck_some hf
              refine z_sld hi_328 dL_law_404 ?_
              obtain ⟨hK_329, hf⟩ := zck_some hf
              obtain ⟨v_331, h_332, hc_330, hf⟩ := zb2_some hf
              have hct := ctX9_drop (l := F.1) (hK_329.b 0 rfl) hc_330
              refine z_invVi suL_36_7 hct ((hK_329.b 0 rfl).t 0 rfl) ⟨Nat.le_trans (by decide) hD, by decide⟩ rfl rfl (Nat.le_of_ble_eq_true rfl) dL_law_405 ?_
              have hK_321 := hK_321.ext hct.1
              have hK_329 := hK_329.ext hct.1
              refine z_icmp_eq 1278 dL_law_408 rfl hf (fun _ hf => ?_) (fun _ hf => ?_)
              · refine z_iinc 3 (x3 + 6) dL_law_1278 rfl rfl (by decide) (lc' := [(0, .ref 0), (1, .ref x1), (2, .ref x2), (3, .int (x3 + 6))]) rfl ?_
                refine z_goto 18 dL_law_1281 rfl ?_
                cases hf
                exact (hM.1 _ rfl)
              · refine z_iconst 0 dL_law_411 rfl ?_
                cases hf
                exact z_zret dL_law_412 rfl (Or.inl rfl) (hM.2 _ rfl)
            · refine z_swI hf (fun hx hf => ?_) (fun hx5 hf => ?_)
              · refine z_swT 413 dL_law_33 hx rfl (by decide) (by decide) rfl ?_
                refine z_aload_n 1 dL_law_413 rfl rfl ?_
                refine z_aload_n 0 dL_law_414 rfl rfl ?_
                refine z_iload_n 3 dL_law_415 rfl rfl ?_
                refine z_iconst 1 dL_law_416 rfl ?_
                refine z_iadd dL_law_417 ?_
                obtain ⟨hi_307, hf⟩ := zck_some hf
                refine z_sld hi_307 dL_law_418 ?_
                obtain ⟨hK_308, hf⟩ := zck_some hf
                obtain ⟨v_310, h_311, hc_309, hf⟩ := zb2_some hf
                have hct := ctX0_close (l := F.1) hK_308 hc_309
                refine z_invVi suL_37_0 hct ((hK_308.b 0 rfl).t 0 rfl) ⟨Nat.le_trans (by decide) hD, by decide⟩ rfl rfl (Nat.le_of_ble_eq_true rfl) dL_law_419 ?_
                have hK_308 := hK_308.ext hct.1
                refine z_aload_n 2 dL_law_422 rfl rfl ?_
                refine z_aload_n 0 dL_law_423 rfl rfl ?_
                refine z_iload_n 3 dL_law_424 rfl rfl ?_
                refine z_iconst 1 dL_law_425 rfl ?_
                refine z_iadd dL_law_426 ?_
                obtain ⟨hi_312, hf⟩ := zck_some hf
                refine z_sld hi_312 dL_law_427 ?_
                obtain ⟨hK_313, hf⟩ := zck_some hf
                obtain ⟨v_315, h_316, hc_314, hf⟩ := zb2_some hf
                have hct := ctX9_close (l := F.1) (hK_313.b 0 rfl) hc_314
                refine z_invVi suL_40_7 hct ((hK_313.b 0 rfl).t 0 rfl) ⟨Nat.le_trans (by decide) hD, by decide⟩ rfl rfl (Nat.le_of_ble_eq_true rfl) dL_law_428 ?_
                have hK_308 := hK_308.ext hct.1
                have hK_313 := hK_313.ext hct.1
                refine z_icmp_eq 1278 dL_law_431 rfl hf (fun _ hf => ?_) (fun _ hf => ?_)
                · refine z_iinc 3 (x3 + 6) dL_law_1278 rfl rfl (by decide) (lc' := [(0, .ref 0), (1, .ref x1), (2, .ref x2), (3, .int (x3 + 6))]) rfl ?_
                  refine z_goto 18 dL_law_1281 rfl ?_
                  cases hf
                  exact (hM.1 _ rfl)
                · refine z_iconst 0 dL_law_434 rfl ?_
                  cases hf
                  exact z_zret dL_law_435 rfl (Or.inl rfl) (hM.2 _ rfl)
              · refine z_swI hf (fun hx hf => ?_) (fun hx6 hf => ?_)
                · refine z_swT 436 dL_law_33 hx rfl (by decide) (by decide) rfl ?_
                  refine z_aload_n 1 dL_law_436 rfl rfl ?_
                  refine z_aload_n 0 dL_law_437 rfl rfl ?_
                  refine z_iload_n 3 dL_law_438 rfl rfl ?_
                  refine z_iconst 1 dL_law_439 rfl ?_
                  refine z_iadd dL_law_440 ?_
                  obtain ⟨hi_295, hf⟩ := zck_some hf
                  refine z_sld hi_295 dL_law_441 ?_
                  refine z_aload_n 0 dL_law_442 rfl rfl ?_
                  refine z_iload_n 3 dL_law_443 rfl rfl ?_
                  refine z_iconst 2 dL_law_444 rfl ?_
                  refine z_iadd dL_law_445 ?_
                  obtain ⟨hi_296, hf⟩ := zck_some hf
                  refine z_sld hi_296 dL_law_446 ?_
                  obtain ⟨hK_297, hf⟩ := zck_some hf
                  obtain ⟨v_299, h_300, hc_298, hf⟩ := zb2_some hf
                  have hct := ctX0_size (l := F.1) hK_297 hc_298
                  refine z_invVi suL_41_0 hct ((hK_297.b 0 rfl).t 0 rfl) ⟨Nat.le_trans (by decide) hD, by decide⟩ rfl rfl (Nat.le_of_ble_eq_true rfl) dL_law_447 ?_
                  have hK_297 := hK_297.ext hct.1
                  refine z_aload_n 2 dL_law_450 rfl rfl ?_
                  refine z_aload_n 0 dL_law_451 rfl rfl ?_
                  refine z_iload_n 3 dL_law_452 rfl rfl ?_
                  refine z_iconst 1 dL_law_453 rfl ?_
                  refine z_iadd dL_law_454 ?_
                  obtain ⟨hi_301, hf⟩ := zck_some hf
                  refine z_sld hi_301 dL_law_455 ?_
                  refine z_aload_n 0 dL_law_456 rfl rfl ?_
                  refine z_iload_n 3 dL_law_457 rfl rfl ?_
                  refine z_iconst 2 dL_law_458 rfl ?_
                  refine z_iadd dL_law_459 ?_
                  obtain ⟨hi_302, hf⟩ := zck_some hf
                  refine z_sld hi_302 dL_law_460 ?_
                  obtain ⟨hK_303, hf⟩ := zck_some hf
                  obtain ⟨v_305, h_306, hc_304, hf⟩ := zb2_some hf
                  have hct := ctX9_size (l := F.1) (hK_303.b 0 rfl) hc_304
                  refine z_invVi suL_45_7 hct ((hK_303.b 0 rfl).t 0 rfl) ⟨Nat.le_trans (by decide) hD, by decide⟩ rfl rfl (Nat.le_of_ble_eq_true rfl) dL_law_461 ?_
                  have hK_297 := hK_297.ext hct.1
                  have hK_303 := hK_303.ext hct.1
                  refine z_icmp_eq 1278 dL_law_464 rfl hf (fun _ hf => ?_) (fun _ hf => ?_)
                  · refine z_iinc 3 (x3 + 6) dL_law_1278 rfl rfl (by decide) (lc' := [(0, .ref 0), (1, .ref x1), (2, .ref x2), (3, .int (x3 + 6))]) rfl ?_
                    refine z_goto 18 dL_law_1281 rfl ?_
                    cases hf
                    exact (hM.1 _ rfl)
                  · refine z_iconst 0 dL_law_467 rfl ?_
                    cases hf
                    exact z_zret dL_law_468 rfl (Or.inl rfl) (hM.2 _ rfl)
                · refine z_swI hf (fun hx hf => ?_) (fun hx7 hf => ?_)
                  · refine z_swT 469 dL_law_33 hx rfl (by decide) (by decide) rfl ?_
                    refine z_aload_n 1 dL_law_469 rfl rfl ?_
                    refine z_aload_n 0 dL_law_470 rfl rfl ?_
                    refine z_iload_n 3 dL_law_471 rfl rfl ?_
                    refine z_iconst 1 dL_law_472 rfl ?_
                    refine z_iadd dL_law_473 ?_
                    obtain ⟨hi_283, hf⟩ := zck_some hf
                    refine z_sld hi_283 dL_law_474 ?_
                    refine z_aload_n 0 dL_law_475 rfl rfl ?_
                    refine z_iload_n 3 dL_law_476 rfl rfl ?_
                    refine z_iconst 2 dL_law_477 rfl ?_
                    refine z_iadd dL_law_478 ?_
                    obtain ⟨hi_284, hf⟩ := zck_some hf
                    refine z_sld hi_284 dL_law_479 ?_
                    obtain ⟨hK_285, hf⟩ := zck_some hf
                    obtain ⟨v_287, h_288, hc_286, hf⟩ := zb2_some hf
                    have hct := ctX0_code (l := F.1) hK_285 hc_286
                    refine z_invVl suL_46_0 hct ((hK_285.b 0 rfl).t 0 rfl) ⟨Nat.le_trans (by decide) hD, by decide⟩ rfl rfl (Nat.le_of_ble_eq_true rfl) dL_law_480 ?_
                    have hK_285 := hK_285.ext hct.1
                    refine z_aload_n 2 dL_law_483 rfl rfl ?_
                    refine z_aload_n 0 dL_law_484 rfl rfl ?_
                    refine z_iload_n 3 dL_law_485 rfl rfl ?_
                    refine z_iconst 1 dL_law_486 rfl ?_
                    refine z_iadd dL_law_487 ?_
                    obtain ⟨hi_289, hf⟩ := zck_some hf
                    refine z_sld hi_289 dL_law_488 ?_
                    refine z_aload_n 0 dL_law_489 rfl rfl ?_
                    refine z_iload_n 3 dL_law_490 rfl rfl ?_
                    refine z_iconst 2 dL_law_491 rfl ?_
                    refine z_iadd dL_law_492 ?_
                    obtain ⟨hi_290, hf⟩ := zck_some hf
                    refine z_sld hi_290 dL_law_493 ?_
                    obtain ⟨hK_291, hf⟩ := zck_some hf
                    obtain ⟨v_293, h_294, hc_292, hf⟩ := zb2_some hf
                    have hct := ctX9_code (l := F.1) (hK_291.b 0 rfl) hc_292
                    refine z_invVl suL_50_7 hct ((hK_291.b 0 rfl).t 0 rfl) ⟨Nat.le_trans (by decide) hD, by decide⟩ rfl rfl (Nat.le_of_ble_eq_true rfl) dL_law_494 ?_
                    have hK_285 := hK_285.ext hct.1
                    have hK_291 := hK_291.ext hct.1
                    refine z_lcmp dL_law_497 ?_
                    refine z_if_eq 1278 dL_law_498 rfl hf (fun _ hf => ?_) (fun _ hf => ?_)
                    · refine z_iinc 3 (x3 + 6) dL_law_1278 rfl rfl (by decide) (lc' := [(0, .ref 0), (1, .ref x1), (2, .ref x2), (3, .int (x3 + 6))]) rfl ?_
                      refine z_goto 18 dL_law_1281 rfl ?_
                      cases hf
                      exact (hM.1 _ rfl)
                    · refine z_iconst 0 dL_law_501 rfl ?_
                      cases hf
                      exact z_zret dL_law_502 rfl (Or.inl rfl) (hM.2 _ rfl)
                  · refine z_swI hf (fun hx hf => ?_) (fun hx8 hf => ?_)
                    · refine z_swT 503 dL_law_33 hx rfl (by decide) (by decide) rfl ?_
                      refine z_aload_n 1 dL_law_503 rfl rfl ?_
                      refine z_aload_n 0 dL_law_504 rfl rfl ?_
                      refine z_iload_n 3 dL_law_505 rfl rfl ?_
                      refine z_iconst 1 dL_law_506 rfl ?_
                      refine z_iadd dL_law_507 ?_
                      obtain ⟨hi_269, hf⟩ := zck_some hf
                      refine z_sld hi_269 dL_law_508 ?_
                      refine z_i2l dL_law_509 ?_
                      refine z_bipush 32 dL_law_510 rfl ?_
                      refine z_lshl dL_law_512 ?_
                      refine z_aload_n 0 dL_law_513 rfl rfl ?_
                      refine z_iload_n 3 dL_law_514 rfl rfl ?_
                      refine z_iconst 2 dL_law_515 rfl ?_
                      refine z_iadd dL_law_516 ?_
                      obtain ⟨hi_270, hf⟩ := zck_some hf
                      refine z_sld hi_270 dL_law_517 ?_
                      refine z_i2l dL_law_518 ?_
                      refine z_ldc2 q1960 dL_law_519 ?_
                      refine z_land dL_law_522 ?_
                      refine z_lor dL_law_523 ?_
                      refine z_aload_n 0 dL_law_524 rfl rfl ?_
                      refine z_iload_n 3 dL_law_525 rfl rfl ?_
                      refine z_iconst 3 dL_law_526 rfl ?_
                      refine z_iadd dL_law_527 ?_
                      obtain ⟨hi_271, hf⟩ := zck_some hf
                      refine z_sld hi_271 dL_law_528 ?_
                      obtain ⟨hK_272, hf⟩ := zck_some hf
                      obtain ⟨v_274, h_275, hc_273, hf⟩ := zb2_some hf
                      have hct := ctX0_bytesIn (l := F.1) hK_272 hc_273
                      refine z_invVi suL_53_0 hct ((hK_272.b 0 rfl).t 0 rfl) ⟨Nat.le_trans (by decide) hD, by decide⟩ rfl rfl (Nat.le_of_ble_eq_true rfl) dL_law_529 ?_
                      have hK_272 := hK_272.ext hct.1
                      refine z_aload_n 2 dL_law_532 rfl rfl ?_
                      refine z_aload_n 0 dL_law_533 rfl rfl ?_
                      refine z_iload_n 3 dL_law_534 rfl rfl ?_
                      refine z_iconst 1 dL_law_535 rfl ?_
                      refine z_iadd dL_law_536 ?_
                      obtain ⟨hi_276, hf⟩ := zck_some hf
                      refine z_sld hi_276 dL_law_537 ?_
                      refine z_i2l dL_law_538 ?_
                      refine z_bipush 32 dL_law_539 rfl ?_
                      refine z_lshl dL_law_541 ?_
                      refine z_aload_n 0 dL_law_542 rfl rfl ?_
                      refine z_iload_n 3 dL_law_543 rfl rfl ?_
                      refine z_iconst 2 dL_law_544 rfl ?_
                      refine z_iadd dL_law_545 ?_
                      obtain ⟨hi_277, hf⟩ := zck_some hf
                      refine z_sld hi_277 dL_law_546 ?_
                      refine z_i2l dL_law_547 ?_
                      refine z_ldc2 q1960 dL_law_548 ?_
                      refine z_land dL_law_551 ?_
                      refine z_lor dL_law_552 ?_
                      refine z_aload_n 0 dL_law_553 rfl rfl ?_
                      refine z_iload_n 3 dL_law_554 rfl rfl ?_
                      refine z_iconst 3 dL_law_555 rfl ?_
                      refine z_iadd dL_law_556 ?_
                      obtain ⟨hi_278, hf⟩ := zck_some hf
                      refine z_sld hi_278 dL_law_557 ?_
                      obtain ⟨hK_279, hf⟩ := zck_some hf
                      obtain ⟨v_281, h_282, hc_280, hf⟩ := zb2_some hf
                      have hct := ctX9_bytesIn (l := F.1) (hK_279.b 0 rfl) hc_280
                      refine z_invVi suL_57_7 hct ((hK_279.b 0 rfl).t 0 rfl) ⟨Nat.le_trans (by decide) hD, by decide⟩ rfl rfl (Nat.le_of_ble_eq_true rfl) dL_law_558 ?_
                      have hK_272 := hK_272.ext hct.1
                      have hK_279 := hK_279.ext hct.1
                      refine z_icmp_eq 1278 dL_law_561 rfl hf (fun _ hf => ?_) (fun _ hf => ?_)
                      · refine z_iinc 3 (x3 + 6) dL_law_1278 rfl rfl (by decide) (lc' := [(0, .ref 0), (1, .ref x1), (2, .ref x2), (3, .int (x3 + 6))]) rfl ?_
                        refine z_goto 18 dL_law_1281 rfl ?_
                        cases hf
                        exact (hM.1 _ rfl)
                      · refine z_iconst 0 dL_law_564 rfl ?_
                        cases hf
                        exact z_zret dL_law_565 rfl (Or.inl rfl) (hM.2 _ rfl)
                    · refine z_swI hf (fun hx hf => ?_) (fun hx9 hf => ?_)
                      · refine z_swT 566 dL_law_33 hx rfl (by decide) (by decide) rfl ?_
                        refine z_aload_n 1 dL_law_566 rfl rfl ?_
                        refine z_aload_n 0 dL_law_567 rfl rfl ?_
                        refine z_iload_n 3 dL_law_568 rfl rfl ?_
                        refine z_iconst 1 dL_law_569 rfl ?_
                        refine z_iadd dL_law_570 ?_
                        obtain ⟨hi_255, hf⟩ := zck_some hf
                        refine z_sld hi_255 dL_law_571 ?_
                        refine z_i2l dL_law_572 ?_
                        refine z_bipush 32 dL_law_573 rfl ?_
                        refine z_lshl dL_law_575 ?_
                        refine z_aload_n 0 dL_law_576 rfl rfl ?_
                        refine z_iload_n 3 dL_law_577 rfl rfl ?_
                        refine z_iconst 2 dL_law_578 rfl ?_
                        refine z_iadd dL_law_579 ?_
                        obtain ⟨hi_256, hf⟩ := zck_some hf
                        refine z_sld hi_256 dL_law_580 ?_
                        refine z_i2l dL_law_581 ?_
                        refine z_ldc2 q1960 dL_law_582 ?_
                        refine z_land dL_law_585 ?_
                        refine z_lor dL_law_586 ?_
                        refine z_aload_n 0 dL_law_587 rfl rfl ?_
                        refine z_iload_n 3 dL_law_588 rfl rfl ?_
                        refine z_iconst 3 dL_law_589 rfl ?_
                        refine z_iadd dL_law_590 ?_
                        obtain ⟨hi_257, hf⟩ := zck_some hf
                        refine z_sld hi_257 dL_law_591 ?_
                        obtain ⟨hK_258, hf⟩ := zck_some hf
                        obtain ⟨v_260, h_261, hc_259, hf⟩ := zb2_some hf
                        have hct := ctX0_unitsIn (l := F.1) hK_258 hc_259
                        refine z_invVi suL_58_0 hct ((hK_258.b 0 rfl).t 0 rfl) ⟨Nat.le_trans (by decide) hD, by decide⟩ rfl rfl (Nat.le_of_ble_eq_true rfl) dL_law_592 ?_
                        have hK_258 := hK_258.ext hct.1
                        refine z_aload_n 2 dL_law_595 rfl rfl ?_
                        refine z_aload_n 0 dL_law_596 rfl rfl ?_
                        refine z_iload_n 3 dL_law_597 rfl rfl ?_
                        refine z_iconst 1 dL_law_598 rfl ?_
                        refine z_iadd dL_law_599 ?_
                        obtain ⟨hi_262, hf⟩ := zck_some hf
                        refine z_sld hi_262 dL_law_600 ?_
                        refine z_i2l dL_law_601 ?_
                        refine z_bipush 32 dL_law_602 rfl ?_
                        refine z_lshl dL_law_604 ?_
                        refine z_aload_n 0 dL_law_605 rfl rfl ?_
                        refine z_iload_n 3 dL_law_606 rfl rfl ?_
                        refine z_iconst 2 dL_law_607 rfl ?_
                        refine z_iadd dL_law_608 ?_
                        obtain ⟨hi_263, hf⟩ := zck_some hf
                        refine z_sld hi_263 dL_law_609 ?_
                        refine z_i2l dL_law_610 ?_
                        refine z_ldc2 q1960 dL_law_611 ?_
                        refine z_land dL_law_614 ?_
                        refine z_lor dL_law_615 ?_
                        refine z_aload_n 0 dL_law_616 rfl rfl ?_
                        refine z_iload_n 3 dL_law_617 rfl rfl ?_
                        refine z_iconst 3 dL_law_618 rfl ?_
                        refine z_iadd dL_law_619 ?_
                        obtain ⟨hi_264, hf⟩ := zck_some hf
                        refine z_sld hi_264 dL_law_620 ?_
                        obtain ⟨hK_265, hf⟩ := zck_some hf
                        obtain ⟨v_267, h_268, hc_266, hf⟩ := zb2_some hf
                        have hct := ctX9_unitsIn (l := F.1) (hK_265.b 0 rfl) hc_266
                        refine z_invVi suL_61_7 hct ((hK_265.b 0 rfl).t 0 rfl) ⟨Nat.le_trans (by decide) hD, by decide⟩ rfl rfl (Nat.le_of_ble_eq_true rfl) dL_law_621 ?_
                        have hK_258 := hK_258.ext hct.1
                        have hK_265 := hK_265.ext hct.1
                        refine z_icmp_eq 1278 dL_law_624 rfl hf (fun _ hf => ?_) (fun _ hf => ?_)
                        · refine z_iinc 3 (x3 + 6) dL_law_1278 rfl rfl (by decide) (lc' := [(0, .ref 0), (1, .ref x1), (2, .ref x2), (3, .int (x3 + 6))]) rfl ?_
                          refine z_goto 18 dL_law_1281 rfl ?_
                          cases hf
                          exact (hM.1 _ rfl)
                        · refine z_iconst 0 dL_law_627 rfl ?_
                          cases hf
                          exact z_zret dL_law_628 rfl (Or.inl rfl) (hM.2 _ rfl)
                      · refine z_swI hf (fun hx hf => ?_) (fun hx10 hf => ?_)
                        · refine z_swT 629 dL_law_33 hx rfl (by decide) (by decide) rfl ?_
                          refine z_aload_n 1 dL_law_629 rfl rfl ?_
                          refine z_aload_n 0 dL_law_630 rfl rfl ?_
                          refine z_iload_n 3 dL_law_631 rfl rfl ?_
                          refine z_iconst 1 dL_law_632 rfl ?_
                          refine z_iadd dL_law_633 ?_
                          obtain ⟨hi_245, hf⟩ := zck_some hf
                          refine z_sld hi_245 dL_law_634 ?_
                          obtain ⟨hK_246, hf⟩ := zck_some hf
                          obtain ⟨v_248, h_249, hc_247, hf⟩ := zb2_some hf
                          have hct := ctX0_fill (l := F.1) hK_246 hc_247
                          refine z_invVi suL_62_0 hct ((hK_246.b 0 rfl).t 0 rfl) ⟨Nat.le_trans (by decide) hD, by decide⟩ rfl rfl (Nat.le_of_ble_eq_true rfl) dL_law_635 ?_
                          have hK_246 := hK_246.ext hct.1
                          refine z_aload_n 2 dL_law_638 rfl rfl ?_
                          refine z_aload_n 0 dL_law_639 rfl rfl ?_
                          refine z_iload_n 3 dL_law_640 rfl rfl ?_
                          refine z_iconst 1 dL_law_641 rfl ?_
                          refine z_iadd dL_law_642 ?_
                          obtain ⟨hi_250, hf⟩ := zck_some hf
                          refine z_sld hi_250 dL_law_643 ?_
                          obtain ⟨hK_251, hf⟩ := zck_some hf
                          obtain ⟨v_253, h_254, hc_252, hf⟩ := zb2_some hf
                          have hct := ctX9_fill (l := F.1) (hK_251.b 0 rfl) hc_252
                          refine z_invVi suL_65_7 hct ((hK_251.b 0 rfl).t 0 rfl) ⟨Nat.le_trans (by decide) hD, by decide⟩ rfl rfl (Nat.le_of_ble_eq_true rfl) dL_law_644 ?_
                          have hK_246 := hK_246.ext hct.1
                          have hK_251 := hK_251.ext hct.1
                          refine z_icmp_eq 1278 dL_law_647 rfl hf (fun _ hf => ?_) (fun _ hf => ?_)
                          · refine z_iinc 3 (x3 + 6) dL_law_1278 rfl rfl (by decide) (lc' := [(0, .ref 0), (1, .ref x1), (2, .ref x2), (3, .int (x3 + 6))]) rfl ?_
                            refine z_goto 18 dL_law_1281 rfl ?_
                            cases hf
                            exact (hM.1 _ rfl)
                          · refine z_iconst 0 dL_law_650 rfl ?_
                            cases hf
                            exact z_zret dL_law_651 rfl (Or.inl rfl) (hM.2 _ rfl)
                        · refine z_swI hf (fun hx hf => ?_) (fun hx11 hf => ?_)
                          · refine z_swT 652 dL_law_33 hx rfl (by decide) (by decide) rfl ?_
                            refine z_aload_n 1 dL_law_652 rfl rfl ?_
                            refine z_aload_n 0 dL_law_653 rfl rfl ?_
                            refine z_iload_n 3 dL_law_654 rfl rfl ?_
                            refine z_iconst 1 dL_law_655 rfl ?_
                            refine z_iadd dL_law_656 ?_
                            obtain ⟨hi_233, hf⟩ := zck_some hf
                            refine z_sld hi_233 dL_law_657 ?_
                            refine z_aload_n 0 dL_law_658 rfl rfl ?_
                            refine z_iload_n 3 dL_law_659 rfl rfl ?_
                            refine z_iconst 2 dL_law_660 rfl ?_
                            refine z_iadd dL_law_661 ?_
                            obtain ⟨hi_234, hf⟩ := zck_some hf
                            refine z_sld hi_234 dL_law_662 ?_
                            obtain ⟨hK_235, hf⟩ := zck_some hf
                            obtain ⟨v_237, h_238, hc_236, hf⟩ := zb2_some hf
                            have hct := ctX0_decode (l := F.1) hK_235 hc_236
                            refine z_invVi suL_66_0 hct ((hK_235.b 0 rfl).t 0 rfl) ⟨Nat.le_trans (by decide) hD, by decide⟩ rfl rfl (Nat.le_of_ble_eq_true rfl) dL_law_663 ?_
                            have hK_235 := hK_235.ext hct.1
                            refine z_aload_n 2 dL_law_666 rfl rfl ?_
                            refine z_aload_n 0 dL_law_667 rfl rfl ?_
                            refine z_iload_n 3 dL_law_668 rfl rfl ?_
                            refine z_iconst 1 dL_law_669 rfl ?_
                            refine z_iadd dL_law_670 ?_
                            obtain ⟨hi_239, hf⟩ := zck_some hf
                            refine z_sld hi_239 dL_law_671 ?_
                            refine z_aload_n 0 dL_law_672 rfl rfl ?_
                            refine z_iload_n 3 dL_law_673 rfl rfl ?_
                            refine z_iconst 2 dL_law_674 rfl ?_
                            refine z_iadd dL_law_675 ?_
                            obtain ⟨hi_240, hf⟩ := zck_some hf
                            refine z_sld hi_240 dL_law_676 ?_
                            obtain ⟨hK_241, hf⟩ := zck_some hf
                            obtain ⟨v_243, h_244, hc_242, hf⟩ := zb2_some hf
                            have hct := ctX9_decode (l := F.1) (hK_241.b 0 rfl) hc_242
                            refine z_invVi suL_69_7 hct ((hK_241.b 0 rfl).t 0 rfl) ⟨Nat.le_trans (by decide) hD, by decide⟩ rfl rfl (Nat.le_of_ble_eq_true rfl) dL_law_677 ?_
                            have hK_235 := hK_235.ext hct.1
                            have hK_241 := hK_241.ext hct.1
                            refine z_icmp_eq 1278 dL_law_680 rfl hf (fun _ hf => ?_) (fun _ hf => ?_)
                            · refine z_iinc 3 (x3 + 6) dL_law_1278 rfl rfl (by decide) (lc' := [(0, .ref 0), (1, .ref x1), (2, .ref x2), (3, .int (x3 + 6))]) rfl ?_
                              refine z_goto 18 dL_law_1281 rfl ?_
                              cases hf
                              exact (hM.1 _ rfl)
                            · refine z_iconst 0 dL_law_683 rfl ?_
                              cases hf
                              exact z_zret dL_law_684 rfl (Or.inl rfl) (hM.2 _ rfl)
                          · refine z_swI hf (fun hx hf => ?_) (fun hx12 hf => ?_)
                            · refine z_swT 685 dL_law_33 hx rfl (by decide) (by decide) rfl ?_
                              refine z_aload_n 1 dL_law_685 rfl rfl ?_
                              refine z_aload_n 0 dL_law_686 rfl rfl ?_
                              refine z_iload_n 3 dL_law_687 rfl rfl ?_
                              refine z_iconst 1 dL_law_688 rfl ?_
                              refine z_iadd dL_law_689 ?_
                              obtain ⟨hi_221, hf⟩ := zck_some hf
                              refine z_sld hi_221 dL_law_690 ?_
                              refine z_aload_n 0 dL_law_691 rfl rfl ?_
                              refine z_iload_n 3 dL_law_692 rfl rfl ?_
                              refine z_iconst 2 dL_law_693 rfl ?_
                              refine z_iadd dL_law_694 ?_
                              obtain ⟨hi_222, hf⟩ := zck_some hf
                              refine z_sld hi_222 dL_law_695 ?_
                              obtain ⟨hK_223, hf⟩ := zck_some hf
                              obtain ⟨v_225, h_226, hc_224, hf⟩ := zb2_some hf
                              have hct := ctX0_encode (l := F.1) hK_223 hc_224
                              refine z_invVi suL_70_0 hct ((hK_223.b 0 rfl).t 0 rfl) ⟨Nat.le_trans (by decide) hD, by decide⟩ rfl rfl (Nat.le_of_ble_eq_true rfl) dL_law_696 ?_
                              have hK_223 := hK_223.ext hct.1
                              refine z_aload_n 2 dL_law_699 rfl rfl ?_
                              refine z_aload_n 0 dL_law_700 rfl rfl ?_
                              refine z_iload_n 3 dL_law_701 rfl rfl ?_
                              refine z_iconst 1 dL_law_702 rfl ?_
                              refine z_iadd dL_law_703 ?_
                              obtain ⟨hi_227, hf⟩ := zck_some hf
                              refine z_sld hi_227 dL_law_704 ?_
                              refine z_aload_n 0 dL_law_705 rfl rfl ?_
                              refine z_iload_n 3 dL_law_706 rfl rfl ?_
                              refine z_iconst 2 dL_law_707 rfl ?_
                              refine z_iadd dL_law_708 ?_
                              obtain ⟨hi_228, hf⟩ := zck_some hf
                              refine z_sld hi_228 dL_law_709 ?_
                              obtain ⟨hK_229, hf⟩ := zck_some hf
                              obtain ⟨v_231, h_232, hc_230, hf⟩ := zb2_some hf
                              have hct := ctX9_encode (l := F.1) (hK_229.b 0 rfl) hc_230
                              refine z_invVi suL_73_7 hct ((hK_229.b 0 rfl).t 0 rfl) ⟨Nat.le_trans (by decide) hD, by decide⟩ rfl rfl (Nat.le_of_ble_eq_true rfl) dL_law_710 ?_
                              have hK_223 := hK_223.ext hct.1
                              have hK_229 := hK_229.ext hct.1
                              refine z_icmp_eq 1278 dL_law_713 rfl hf (fun _ hf => ?_) (fun _ hf => ?_)
                              · refine z_iinc 3 (x3 + 6) dL_law_1278 rfl rfl (by decide) (lc' := [(0, .ref 0), (1, .ref x1), (2, .ref x2), (3, .int (x3 + 6))]) rfl ?_
                                refine z_goto 18 dL_law_1281 rfl ?_
                                cases hf
                                exact (hM.1 _ rfl)
                              · refine z_iconst 0 dL_law_716 rfl ?_
                                cases hf
                                exact z_zret dL_law_717 rfl (Or.inl rfl) (hM.2 _ rfl)
                            · refine z_swI hf (fun hx hf => ?_) (fun hx13 hf => ?_)
                              · refine z_swT 718 dL_law_33 hx rfl (by decide) (by decide) rfl ?_
                                refine z_aload_n 1 dL_law_718 rfl rfl ?_
                                refine z_aload_n 0 dL_law_719 rfl rfl ?_
                                refine z_iload_n 3 dL_law_720 rfl rfl ?_
                                refine z_iconst 1 dL_law_721 rfl ?_
                                refine z_iadd dL_law_722 ?_
                                obtain ⟨hi_205, hf⟩ := zck_some hf
                                refine z_sld hi_205 dL_law_723 ?_
                                refine z_aload_n 0 dL_law_724 rfl rfl ?_
                                refine z_iload_n 3 dL_law_725 rfl rfl ?_
                                refine z_iconst 2 dL_law_726 rfl ?_
                                refine z_iadd dL_law_727 ?_
                                obtain ⟨hi_206, hf⟩ := zck_some hf
                                refine z_sld hi_206 dL_law_728 ?_
                                refine z_aload_n 0 dL_law_729 rfl rfl ?_
                                refine z_iload_n 3 dL_law_730 rfl rfl ?_
                                refine z_iconst 3 dL_law_731 rfl ?_
                                refine z_iadd dL_law_732 ?_
                                obtain ⟨hi_207, hf⟩ := zck_some hf
                                refine z_sld hi_207 dL_law_733 ?_
                                refine z_aload_n 0 dL_law_734 rfl rfl ?_
                                refine z_iload_n 3 dL_law_735 rfl rfl ?_
                                refine z_iconst 4 dL_law_736 rfl ?_
                                refine z_iadd dL_law_737 ?_
                                obtain ⟨hi_208, hf⟩ := zck_some hf
                                refine z_sld hi_208 dL_law_738 ?_
                                obtain ⟨hK_209, hf⟩ := zck_some hf
                                obtain ⟨v_211, h_212, hc_210, hf⟩ := zb2_some hf
                                have hct := ctX0_transcode (l := F.1) hK_209 hc_210
                                refine z_invVi suL_74_0 hct ((hK_209.b 0 rfl).t 0 rfl) ⟨Nat.le_trans (by decide) hD, by decide⟩ rfl rfl (Nat.le_of_ble_eq_true rfl) dL_law_739 ?_
                                have hK_209 := hK_209.ext hct.1
                                refine z_aload_n 2 dL_law_742 rfl rfl ?_
                                refine z_aload_n 0 dL_law_743 rfl rfl ?_
                                refine z_iload_n 3 dL_law_744 rfl rfl ?_
                                refine z_iconst 1 dL_law_745 rfl ?_
                                refine z_iadd dL_law_746 ?_
                                obtain ⟨hi_213, hf⟩ := zck_some hf
                                refine z_sld hi_213 dL_law_747 ?_
                                refine z_aload_n 0 dL_law_748 rfl rfl ?_
                                refine z_iload_n 3 dL_law_749 rfl rfl ?_
                                refine z_iconst 2 dL_law_750 rfl ?_
                                refine z_iadd dL_law_751 ?_
                                obtain ⟨hi_214, hf⟩ := zck_some hf
                                refine z_sld hi_214 dL_law_752 ?_
                                refine z_aload_n 0 dL_law_753 rfl rfl ?_
                                refine z_iload_n 3 dL_law_754 rfl rfl ?_
                                refine z_iconst 3 dL_law_755 rfl ?_
                                refine z_iadd dL_law_756 ?_
                                obtain ⟨hi_215, hf⟩ := zck_some hf
                                refine z_sld hi_215 dL_law_757 ?_
                                refine z_aload_n 0 dL_law_758 rfl rfl ?_
                                refine z_iload_n 3 dL_law_759 rfl rfl ?_
                                refine z_iconst 4 dL_law_760 rfl ?_
                                refine z_iadd dL_law_761 ?_
                                obtain ⟨hi_216, hf⟩ := zck_some hf
                                refine z_sld hi_216 dL_law_762 ?_
                                obtain ⟨hK_217, hf⟩ := zck_some hf
                                obtain ⟨v_219, h_220, hc_218, hf⟩ := zb2_some hf
                                have hct := ctX9_transcode (l := F.1) (hK_217.b 0 rfl) hc_218
                                refine z_invVi suL_77_7 hct ((hK_217.b 0 rfl).t 0 rfl) ⟨Nat.le_trans (by decide) hD, by decide⟩ rfl rfl (Nat.le_of_ble_eq_true rfl) dL_law_763 ?_
                                have hK_209 := hK_209.ext hct.1
                                have hK_217 := hK_217.ext hct.1
                                refine z_icmp_eq 1278 dL_law_766 rfl hf (fun _ hf => ?_) (fun _ hf => ?_)
                                · refine z_iinc 3 (x3 + 6) dL_law_1278 rfl rfl (by decide) (lc' := [(0, .ref 0), (1, .ref x1), (2, .ref x2), (3, .int (x3 + 6))]) rfl ?_
                                  refine z_goto 18 dL_law_1281 rfl ?_
                                  cases hf
                                  exact (hM.1 _ rfl)
                                · refine z_iconst 0 dL_law_769 rfl ?_
                                  cases hf
                                  exact z_zret dL_law_770 rfl (Or.inl rfl) (hM.2 _ rfl)
                              · refine z_swI hf (fun hx hf => ?_) (fun hx14 hf => ?_)
                                · refine z_swT 771 dL_law_33 hx rfl (by decide) (by decide) rfl ?_
                                  refine z_aload_n 1 dL_law_771 rfl rfl ?_
                                  refine z_aload_n 0 dL_law_772 rfl rfl ?_
                                  refine z_iload_n 3 dL_law_773 rfl rfl ?_
                                  refine z_iconst 1 dL_law_774 rfl ?_
                                  refine z_iadd dL_law_775 ?_
                                  obtain ⟨hi_195, hf⟩ := zck_some hf
                                  refine z_sld hi_195 dL_law_776 ?_
                                  obtain ⟨hK_196, hf⟩ := zck_some hf
                                  obtain ⟨v_198, h_199, hc_197, hf⟩ := zb2_some hf
                                  have hct := ctX0_result (l := F.1) hK_196 hc_197
                                  refine z_invVi suL_78_0 hct ((hK_196.b 0 rfl).t 0 rfl) ⟨Nat.le_trans (by decide) hD, by decide⟩ rfl rfl (Nat.le_of_ble_eq_true rfl) dL_law_777 ?_
                                  have hK_196 := hK_196.ext hct.1
                                  refine z_aload_n 2 dL_law_780 rfl rfl ?_
                                  refine z_aload_n 0 dL_law_781 rfl rfl ?_
                                  refine z_iload_n 3 dL_law_782 rfl rfl ?_
                                  refine z_iconst 1 dL_law_783 rfl ?_
                                  refine z_iadd dL_law_784 ?_
                                  obtain ⟨hi_200, hf⟩ := zck_some hf
                                  refine z_sld hi_200 dL_law_785 ?_
                                  obtain ⟨hK_201, hf⟩ := zck_some hf
                                  obtain ⟨v_203, h_204, hc_202, hf⟩ := zb2_some hf
                                  have hct := ctX9_result (l := F.1) (hK_201.b 0 rfl) hc_202
                                  refine z_invVi suL_81_7 hct ((hK_201.b 0 rfl).t 0 rfl) ⟨Nat.le_trans (by decide) hD, by decide⟩ rfl rfl (Nat.le_of_ble_eq_true rfl) dL_law_786 ?_
                                  have hK_196 := hK_196.ext hct.1
                                  have hK_201 := hK_201.ext hct.1
                                  refine z_icmp_eq 1278 dL_law_789 rfl hf (fun _ hf => ?_) (fun _ hf => ?_)
                                  · refine z_iinc 3 (x3 + 6) dL_law_1278 rfl rfl (by decide) (lc' := [(0, .ref 0), (1, .ref x1), (2, .ref x2), (3, .int (x3 + 6))]) rfl ?_
                                    refine z_goto 18 dL_law_1281 rfl ?_
                                    cases hf
                                    exact (hM.1 _ rfl)
                                  · refine z_iconst 0 dL_law_792 rfl ?_
                                    cases hf
                                    exact z_zret dL_law_793 rfl (Or.inl rfl) (hM.2 _ rfl)
                                · refine z_swI hf (fun hx hf => ?_) (fun hx15 hf => ?_)
                                  · refine z_swT 794 dL_law_33 hx rfl (by decide) (by decide) rfl ?_
                                    refine z_aload_n 1 dL_law_794 rfl rfl ?_
                                    refine z_aload_n 0 dL_law_795 rfl rfl ?_
                                    refine z_iload_n 3 dL_law_796 rfl rfl ?_
                                    refine z_iconst 1 dL_law_797 rfl ?_
                                    refine z_iadd dL_law_798 ?_
                                    obtain ⟨hi_183, hf⟩ := zck_some hf
                                    refine z_sld hi_183 dL_law_799 ?_
                                    refine z_aload_n 0 dL_law_800 rfl rfl ?_
                                    refine z_iload_n 3 dL_law_801 rfl rfl ?_
                                    refine z_iconst 2 dL_law_802 rfl ?_
                                    refine z_iadd dL_law_803 ?_
                                    obtain ⟨hi_184, hf⟩ := zck_some hf
                                    refine z_sld hi_184 dL_law_804 ?_
                                    obtain ⟨hK_185, hf⟩ := zck_some hf
                                    obtain ⟨v_187, h_188, hc_186, hf⟩ := zb2_some hf
                                    have hct := ctX0_sign (l := F.1) hK_185 hc_186
                                    refine z_invVi suL_82_0 hct ((hK_185.b 0 rfl).t 0 rfl) ⟨Nat.le_trans (by decide) hD, by decide⟩ rfl rfl (Nat.le_of_ble_eq_true rfl) dL_law_805 ?_
                                    have hK_185 := hK_185.ext hct.1
                                    refine z_aload_n 2 dL_law_808 rfl rfl ?_
                                    refine z_aload_n 0 dL_law_809 rfl rfl ?_
                                    refine z_iload_n 3 dL_law_810 rfl rfl ?_
                                    refine z_iconst 1 dL_law_811 rfl ?_
                                    refine z_iadd dL_law_812 ?_
                                    obtain ⟨hi_189, hf⟩ := zck_some hf
                                    refine z_sld hi_189 dL_law_813 ?_
                                    refine z_aload_n 0 dL_law_814 rfl rfl ?_
                                    refine z_iload_n 3 dL_law_815 rfl rfl ?_
                                    refine z_iconst 2 dL_law_816 rfl ?_
                                    refine z_iadd dL_law_817 ?_
                                    obtain ⟨hi_190, hf⟩ := zck_some hf
                                    refine z_sld hi_190 dL_law_818 ?_
                                    obtain ⟨hK_191, hf⟩ := zck_some hf
                                    obtain ⟨v_193, h_194, hc_192, hf⟩ := zb2_some hf
                                    have hct := ctX9_sign (l := F.1) (hK_191.b 0 rfl) hc_192
                                    refine z_invVi suL_85_7 hct ((hK_191.b 0 rfl).t 0 rfl) ⟨Nat.le_trans (by decide) hD, by decide⟩ rfl rfl (Nat.le_of_ble_eq_true rfl) dL_law_819 ?_
                                    have hK_185 := hK_185.ext hct.1
                                    have hK_191 := hK_191.ext hct.1
                                    refine z_icmp_eq 1278 dL_law_822 rfl hf (fun _ hf => ?_) (fun _ hf => ?_)
                                    · refine z_iinc 3 (x3 + 6) dL_law_1278 rfl rfl (by decide) (lc' := [(0, .ref 0), (1, .ref x1), (2, .ref x2), (3, .int (x3 + 6))]) rfl ?_
                                      refine z_goto 18 dL_law_1281 rfl ?_
                                      cases hf
                                      exact (hM.1 _ rfl)
                                    · refine z_iconst 0 dL_law_825 rfl ?_
                                      cases hf
                                      exact z_zret dL_law_826 rfl (Or.inl rfl) (hM.2 _ rfl)
                                  · refine z_swI hf (fun hx hf => ?_) (fun hx16 hf => ?_)
                                    · refine z_swT 827 dL_law_33 hx rfl (by decide) (by decide) rfl ?_
                                      refine z_aload_n 1 dL_law_827 rfl rfl ?_
                                      refine z_aload_n 0 dL_law_828 rfl rfl ?_
                                      refine z_iload_n 3 dL_law_829 rfl rfl ?_
                                      refine z_iconst 1 dL_law_830 rfl ?_
                                      refine z_iadd dL_law_831 ?_
                                      obtain ⟨hi_173, hf⟩ := zck_some hf
                                      refine z_sld hi_173 dL_law_832 ?_
                                      obtain ⟨hK_174, hf⟩ := zck_some hf
                                      obtain ⟨v_176, h_177, hc_175, hf⟩ := zb2_some hf
                                      have hct := ctX0_fallback (l := F.1) hK_174 hc_175
                                      refine z_invVi suL_86_0 hct ((hK_174.b 0 rfl).t 0 rfl) ⟨Nat.le_trans (by decide) hD, by decide⟩ rfl rfl (Nat.le_of_ble_eq_true rfl) dL_law_833 ?_
                                      have hK_174 := hK_174.ext hct.1
                                      refine z_aload_n 2 dL_law_836 rfl rfl ?_
                                      refine z_aload_n 0 dL_law_837 rfl rfl ?_
                                      refine z_iload_n 3 dL_law_838 rfl rfl ?_
                                      refine z_iconst 1 dL_law_839 rfl ?_
                                      refine z_iadd dL_law_840 ?_
                                      obtain ⟨hi_178, hf⟩ := zck_some hf
                                      refine z_sld hi_178 dL_law_841 ?_
                                      obtain ⟨hK_179, hf⟩ := zck_some hf
                                      obtain ⟨v_181, h_182, hc_180, hf⟩ := zb2_some hf
                                      have hct := ctX9_fallback (l := F.1) (hK_179.b 0 rfl) hc_180
                                      refine z_invVi suL_89_7 hct ((hK_179.b 0 rfl).t 0 rfl) ⟨Nat.le_trans (by decide) hD, by decide⟩ rfl rfl (Nat.le_of_ble_eq_true rfl) dL_law_842 ?_
                                      have hK_174 := hK_174.ext hct.1
                                      have hK_179 := hK_179.ext hct.1
                                      refine z_icmp_eq 1278 dL_law_845 rfl hf (fun _ hf => ?_) (fun _ hf => ?_)
                                      · refine z_iinc 3 (x3 + 6) dL_law_1278 rfl rfl (by decide) (lc' := [(0, .ref 0), (1, .ref x1), (2, .ref x2), (3, .int (x3 + 6))]) rfl ?_
                                        refine z_goto 18 dL_law_1281 rfl ?_
                                        cases hf
                                        exact (hM.1 _ rfl)
                                      · refine z_iconst 0 dL_law_848 rfl ?_
                                        cases hf
                                        exact z_zret dL_law_849 rfl (Or.inl rfl) (hM.2 _ rfl)
                                    · refine z_swI hf (fun hx hf => ?_) (fun hx17 hf => ?_)
                                      · refine z_swT 850 dL_law_33 hx rfl (by decide) (by decide) rfl ?_
                                        refine z_aload_n 1 dL_law_850 rfl rfl ?_
                                        refine z_aload_n 0 dL_law_851 rfl rfl ?_
                                        refine z_iload_n 3 dL_law_852 rfl rfl ?_
                                        refine z_iconst 1 dL_law_853 rfl ?_
                                        refine z_iadd dL_law_854 ?_
                                        obtain ⟨hi_157, hf⟩ := zck_some hf
                                        refine z_sld hi_157 dL_law_855 ?_
                                        refine z_aload_n 0 dL_law_856 rfl rfl ?_
                                        refine z_iload_n 3 dL_law_857 rfl rfl ?_
                                        refine z_iconst 2 dL_law_858 rfl ?_
                                        refine z_iadd dL_law_859 ?_
                                        obtain ⟨hi_158, hf⟩ := zck_some hf
                                        refine z_sld hi_158 dL_law_860 ?_
                                        refine z_aload_n 0 dL_law_861 rfl rfl ?_
                                        refine z_iload_n 3 dL_law_862 rfl rfl ?_
                                        refine z_iconst 3 dL_law_863 rfl ?_
                                        refine z_iadd dL_law_864 ?_
                                        obtain ⟨hi_159, hf⟩ := zck_some hf
                                        refine z_sld hi_159 dL_law_865 ?_
                                        refine z_if_eq 873 dL_law_866 rfl hf (fun _ hf => ?_) (fun _ hf => ?_)
                                        · refine z_iconst 0 dL_law_873 rfl ?_
                                          exact zL_law_J874 hD hf hM
                                        · refine z_iconst 1 dL_law_869 rfl ?_
                                          refine z_goto 874 dL_law_870 rfl ?_
                                          exact zL_law_J874 hD hf hM
                                      · refine z_swI hf (fun hx hf => ?_) (fun hx18 hf => ?_)
                                        · refine z_swT 919 dL_law_33 hx rfl (by decide) (by decide) rfl ?_
                                          refine z_aload_n 1 dL_law_919 rfl rfl ?_
                                          refine z_aload_n 0 dL_law_920 rfl rfl ?_
                                          refine z_iload_n 3 dL_law_921 rfl rfl ?_
                                          refine z_iconst 1 dL_law_922 rfl ?_
                                          refine z_iadd dL_law_923 ?_
                                          obtain ⟨hi_145, hf⟩ := zck_some hf
                                          refine z_sld hi_145 dL_law_924 ?_
                                          refine z_aload_n 0 dL_law_925 rfl rfl ?_
                                          refine z_iload_n 3 dL_law_926 rfl rfl ?_
                                          refine z_iconst 2 dL_law_927 rfl ?_
                                          refine z_iadd dL_law_928 ?_
                                          obtain ⟨hi_146, hf⟩ := zck_some hf
                                          refine z_sld hi_146 dL_law_929 ?_
                                          obtain ⟨hK_147, hf⟩ := zck_some hf
                                          obtain ⟨v_149, h_150, hc_148, hf⟩ := zb2_some hf
                                          have hct := ctX0_feed (l := F.1) hK_147 hc_148
                                          refine z_invVi suL_95_0 hct ((hK_147.b 0 rfl).t 0 rfl) ⟨Nat.le_trans (by decide) hD, by decide⟩ rfl rfl (Nat.le_of_ble_eq_true rfl) dL_law_930 ?_
                                          have hK_147 := hK_147.ext hct.1
                                          refine z_aload_n 2 dL_law_933 rfl rfl ?_
                                          refine z_aload_n 0 dL_law_934 rfl rfl ?_
                                          refine z_iload_n 3 dL_law_935 rfl rfl ?_
                                          refine z_iconst 1 dL_law_936 rfl ?_
                                          refine z_iadd dL_law_937 ?_
                                          obtain ⟨hi_151, hf⟩ := zck_some hf
                                          refine z_sld hi_151 dL_law_938 ?_
                                          refine z_aload_n 0 dL_law_939 rfl rfl ?_
                                          refine z_iload_n 3 dL_law_940 rfl rfl ?_
                                          refine z_iconst 2 dL_law_941 rfl ?_
                                          refine z_iadd dL_law_942 ?_
                                          obtain ⟨hi_152, hf⟩ := zck_some hf
                                          refine z_sld hi_152 dL_law_943 ?_
                                          obtain ⟨hK_153, hf⟩ := zck_some hf
                                          obtain ⟨v_155, h_156, hc_154, hf⟩ := zb2_some hf
                                          have hct := ctX9_feed (l := F.1) (hK_153.b 0 rfl) hc_154
                                          refine z_invVi suL_98_7 hct ((hK_153.b 0 rfl).t 0 rfl) ⟨Nat.le_trans (by decide) hD, by decide⟩ rfl rfl (Nat.le_of_ble_eq_true rfl) dL_law_944 ?_
                                          have hK_147 := hK_147.ext hct.1
                                          have hK_153 := hK_153.ext hct.1
                                          refine z_icmp_eq 1278 dL_law_947 rfl hf (fun _ hf => ?_) (fun _ hf => ?_)
                                          · refine z_iinc 3 (x3 + 6) dL_law_1278 rfl rfl (by decide) (lc' := [(0, .ref 0), (1, .ref x1), (2, .ref x2), (3, .int (x3 + 6))]) rfl ?_
                                            refine z_goto 18 dL_law_1281 rfl ?_
                                            cases hf
                                            exact (hM.1 _ rfl)
                                          · refine z_iconst 0 dL_law_950 rfl ?_
                                            cases hf
                                            exact z_zret dL_law_951 rfl (Or.inl rfl) (hM.2 _ rfl)
                                        · refine z_swI hf (fun hx hf => ?_) (fun hx19 hf => ?_)
                                          · refine z_swT 952 dL_law_33 hx rfl (by decide) (by decide) rfl ?_
                                            refine z_aload_n 1 dL_law_952 rfl rfl ?_
                                            refine z_aload_n 0 dL_law_953 rfl rfl ?_
                                            refine z_iload_n 3 dL_law_954 rfl rfl ?_
                                            refine z_iconst 1 dL_law_955 rfl ?_
                                            refine z_iadd dL_law_956 ?_
                                            obtain ⟨hi_135, hf⟩ := zck_some hf
                                            refine z_sld hi_135 dL_law_957 ?_
                                            obtain ⟨hK_136, hf⟩ := zck_some hf
                                            obtain ⟨v_138, h_139, hc_137, hf⟩ := zb2_some hf
                                            have hct := ctX0_end (l := F.1) hK_136 hc_137
                                            refine z_invVi suL_99_0 hct ((hK_136.b 0 rfl).t 0 rfl) ⟨Nat.le_trans (by decide) hD, by decide⟩ rfl rfl (Nat.le_of_ble_eq_true rfl) dL_law_958 ?_
                                            have hK_136 := hK_136.ext hct.1
                                            refine z_aload_n 2 dL_law_961 rfl rfl ?_
                                            refine z_aload_n 0 dL_law_962 rfl rfl ?_
                                            refine z_iload_n 3 dL_law_963 rfl rfl ?_
                                            refine z_iconst 1 dL_law_964 rfl ?_
                                            refine z_iadd dL_law_965 ?_
                                            obtain ⟨hi_140, hf⟩ := zck_some hf
                                            refine z_sld hi_140 dL_law_966 ?_
                                            obtain ⟨hK_141, hf⟩ := zck_some hf
                                            obtain ⟨v_143, h_144, hc_142, hf⟩ := zb2_some hf
                                            have hct := ctX9_end (l := F.1) (hK_141.b 0 rfl) hc_142
                                            refine z_invVi suL_102_7 hct ((hK_141.b 0 rfl).t 0 rfl) ⟨Nat.le_trans (by decide) hD, by decide⟩ rfl rfl (Nat.le_of_ble_eq_true rfl) dL_law_967 ?_
                                            have hK_136 := hK_136.ext hct.1
                                            have hK_141 := hK_141.ext hct.1
                                            refine z_icmp_eq 1278 dL_law_970 rfl hf (fun _ hf => ?_) (fun _ hf => ?_)
                                            · refine z_iinc 3 (x3 + 6) dL_law_1278 rfl rfl (by decide) (lc' := [(0, .ref 0), (1, .ref x1), (2, .ref x2), (3, .int (x3 + 6))]) rfl ?_
                                              refine z_goto 18 dL_law_1281 rfl ?_
                                              cases hf
                                              exact (hM.1 _ rfl)
                                            · refine z_iconst 0 dL_law_973 rfl ?_
                                              cases hf
                                              exact z_zret dL_law_974 rfl (Or.inl rfl) (hM.2 _ rfl)
                                          · refine z_swI hf (fun hx hf => ?_) (fun hx20 hf => ?_)
                                            · refine z_swT 975 dL_law_33 hx rfl (by decide) (by decide) rfl ?_
                                              refine z_aload_n 1 dL_law_975 rfl rfl ?_
                                              refine z_aload_n 0 dL_law_976 rfl rfl ?_
                                              refine z_iload_n 3 dL_law_977 rfl rfl ?_
                                              refine z_iconst 1 dL_law_978 rfl ?_
                                              refine z_iadd dL_law_979 ?_
                                              obtain ⟨hi_125, hf⟩ := zck_some hf
                                              refine z_sld hi_125 dL_law_980 ?_
                                              obtain ⟨hK_126, hf⟩ := zck_some hf
                                              obtain ⟨v_128, h_129, hc_127, hf⟩ := zb2_some hf
                                              have hct := ctX0_take (l := F.1) hK_126 hc_127
                                              refine z_invVi suL_103_0 hct ((hK_126.b 0 rfl).t 0 rfl) ⟨Nat.le_trans (by decide) hD, by decide⟩ rfl rfl (Nat.le_of_ble_eq_true rfl) dL_law_981 ?_
                                              have hK_126 := hK_126.ext hct.1
                                              refine z_aload_n 2 dL_law_984 rfl rfl ?_
                                              refine z_aload_n 0 dL_law_985 rfl rfl ?_
                                              refine z_iload_n 3 dL_law_986 rfl rfl ?_
                                              refine z_iconst 1 dL_law_987 rfl ?_
                                              refine z_iadd dL_law_988 ?_
                                              obtain ⟨hi_130, hf⟩ := zck_some hf
                                              refine z_sld hi_130 dL_law_989 ?_
                                              obtain ⟨hK_131, hf⟩ := zck_some hf
                                              obtain ⟨v_133, h_134, hc_132, hf⟩ := zb2_some hf
                                              have hct := ctX9_take (l := F.1) (hK_131.b 0 rfl) hc_132
                                              refine z_invVi suL_106_7 hct ((hK_131.b 0 rfl).t 0 rfl) ⟨Nat.le_trans (by decide) hD, by decide⟩ rfl rfl (Nat.le_of_ble_eq_true rfl) dL_law_990 ?_
                                              have hK_126 := hK_126.ext hct.1
                                              have hK_131 := hK_131.ext hct.1
                                              refine z_icmp_eq 1278 dL_law_993 rfl hf (fun _ hf => ?_) (fun _ hf => ?_)
                                              · refine z_iinc 3 (x3 + 6) dL_law_1278 rfl rfl (by decide) (lc' := [(0, .ref 0), (1, .ref x1), (2, .ref x2), (3, .int (x3 + 6))]) rfl ?_
                                                refine z_goto 18 dL_law_1281 rfl ?_
                                                cases hf
                                                exact (hM.1 _ rfl)
                                              · refine z_iconst 0 dL_law_996 rfl ?_
                                                cases hf
                                                exact z_zret dL_law_997 rfl (Or.inl rfl) (hM.2 _ rfl)
                                            · refine z_swI hf (fun hx hf => ?_) (fun hx21 hf => ?_)
                                              · refine z_swT 998 dL_law_33 hx rfl (by decide) (by decide) rfl ?_
                                                refine z_aload_n 1 dL_law_998 rfl rfl ?_
                                                refine z_aload_n 0 dL_law_999 rfl rfl ?_
                                                refine z_iload_n 3 dL_law_1000 rfl rfl ?_
                                                refine z_iconst 1 dL_law_1001 rfl ?_
                                                refine z_iadd dL_law_1002 ?_
                                                obtain ⟨hi_113, hf⟩ := zck_some hf
                                                refine z_sld hi_113 dL_law_1003 ?_
                                                refine z_aload_n 0 dL_law_1004 rfl rfl ?_
                                                refine z_iload_n 3 dL_law_1005 rfl rfl ?_
                                                refine z_iconst 2 dL_law_1006 rfl ?_
                                                refine z_iadd dL_law_1007 ?_
                                                obtain ⟨hi_114, hf⟩ := zck_some hf
                                                refine z_sld hi_114 dL_law_1008 ?_
                                                obtain ⟨hK_115, hf⟩ := zck_some hf
                                                obtain ⟨v_117, h_118, hc_116, hf⟩ := zb2_some hf
                                                have hct := ctX0_machine (l := F.1) hK_115 hc_116
                                                refine z_invVi suL_107_0 hct ((hK_115.b 0 rfl).t 0 rfl) ⟨Nat.le_trans (by decide) hD, by decide⟩ rfl rfl (Nat.le_of_ble_eq_true rfl) dL_law_1009 ?_
                                                have hK_115 := hK_115.ext hct.1
                                                refine z_aload_n 2 dL_law_1012 rfl rfl ?_
                                                refine z_aload_n 0 dL_law_1013 rfl rfl ?_
                                                refine z_iload_n 3 dL_law_1014 rfl rfl ?_
                                                refine z_iconst 1 dL_law_1015 rfl ?_
                                                refine z_iadd dL_law_1016 ?_
                                                obtain ⟨hi_119, hf⟩ := zck_some hf
                                                refine z_sld hi_119 dL_law_1017 ?_
                                                refine z_aload_n 0 dL_law_1018 rfl rfl ?_
                                                refine z_iload_n 3 dL_law_1019 rfl rfl ?_
                                                refine z_iconst 2 dL_law_1020 rfl ?_
                                                refine z_iadd dL_law_1021 ?_
                                                obtain ⟨hi_120, hf⟩ := zck_some hf
                                                refine z_sld hi_120 dL_law_1022 ?_
                                                obtain ⟨hK_121, hf⟩ := zck_some hf
                                                obtain ⟨v_123, h_124, hc_122, hf⟩ := zb2_some hf
                                                have hct := ctX9_machine (l := F.1) (hK_121.b 0 rfl) hc_122
                                                refine z_invVi suL_110_7 hct ((hK_121.b 0 rfl).t 0 rfl) ⟨Nat.le_trans (by decide) hD, by decide⟩ rfl rfl (Nat.le_of_ble_eq_true rfl) dL_law_1023 ?_
                                                have hK_115 := hK_115.ext hct.1
                                                have hK_121 := hK_121.ext hct.1
                                                refine z_icmp_eq 1278 dL_law_1026 rfl hf (fun _ hf => ?_) (fun _ hf => ?_)
                                                · refine z_iinc 3 (x3 + 6) dL_law_1278 rfl rfl (by decide) (lc' := [(0, .ref 0), (1, .ref x1), (2, .ref x2), (3, .int (x3 + 6))]) rfl ?_
                                                  refine z_goto 18 dL_law_1281 rfl ?_
                                                  cases hf
                                                  exact (hM.1 _ rfl)
                                                · refine z_iconst 0 dL_law_1029 rfl ?_
                                                  cases hf
                                                  exact z_zret dL_law_1030 rfl (Or.inl rfl) (hM.2 _ rfl)
                                              · refine z_swI hf (fun hx hf => ?_) (fun hx22 hf => ?_)
                                                · refine z_swT 1031 dL_law_33 hx rfl (by decide) (by decide) rfl ?_
                                                  refine z_aload_n 1 dL_law_1031 rfl rfl ?_
                                                  refine z_aload_n 0 dL_law_1032 rfl rfl ?_
                                                  refine z_iload_n 3 dL_law_1033 rfl rfl ?_
                                                  refine z_iconst 1 dL_law_1034 rfl ?_
                                                  refine z_iadd dL_law_1035 ?_
                                                  obtain ⟨hi_99, hf⟩ := zck_some hf
                                                  refine z_sld hi_99 dL_law_1036 ?_
                                                  refine z_aload_n 0 dL_law_1037 rfl rfl ?_
                                                  refine z_iload_n 3 dL_law_1038 rfl rfl ?_
                                                  refine z_iconst 2 dL_law_1039 rfl ?_
                                                  refine z_iadd dL_law_1040 ?_
                                                  obtain ⟨hi_100, hf⟩ := zck_some hf
                                                  refine z_sld hi_100 dL_law_1041 ?_
                                                  refine z_aload_n 0 dL_law_1042 rfl rfl ?_
                                                  refine z_iload_n 3 dL_law_1043 rfl rfl ?_
                                                  refine z_iconst 3 dL_law_1044 rfl ?_
                                                  refine z_iadd dL_law_1045 ?_
                                                  obtain ⟨hi_101, hf⟩ := zck_some hf
                                                  refine z_sld hi_101 dL_law_1046 ?_
                                                  obtain ⟨hK_102, hf⟩ := zck_some hf
                                                  obtain ⟨v_104, h_105, hc_103, hf⟩ := zb2_some hf
                                                  have hct := ctX0_coverage (l := F.1) hK_102 hc_103
                                                  refine z_invVi suL_111_0 hct ((hK_102.b 0 rfl).t 0 rfl) ⟨Nat.le_trans (by decide) hD, by decide⟩ rfl rfl (Nat.le_of_ble_eq_true rfl) dL_law_1047 ?_
                                                  have hK_102 := hK_102.ext hct.1
                                                  refine z_aload_n 2 dL_law_1050 rfl rfl ?_
                                                  refine z_aload_n 0 dL_law_1051 rfl rfl ?_
                                                  refine z_iload_n 3 dL_law_1052 rfl rfl ?_
                                                  refine z_iconst 1 dL_law_1053 rfl ?_
                                                  refine z_iadd dL_law_1054 ?_
                                                  obtain ⟨hi_106, hf⟩ := zck_some hf
                                                  refine z_sld hi_106 dL_law_1055 ?_
                                                  refine z_aload_n 0 dL_law_1056 rfl rfl ?_
                                                  refine z_iload_n 3 dL_law_1057 rfl rfl ?_
                                                  refine z_iconst 2 dL_law_1058 rfl ?_
                                                  refine z_iadd dL_law_1059 ?_
                                                  obtain ⟨hi_107, hf⟩ := zck_some hf
                                                  refine z_sld hi_107 dL_law_1060 ?_
                                                  refine z_aload_n 0 dL_law_1061 rfl rfl ?_
                                                  refine z_iload_n 3 dL_law_1062 rfl rfl ?_
                                                  refine z_iconst 3 dL_law_1063 rfl ?_
                                                  refine z_iadd dL_law_1064 ?_
                                                  obtain ⟨hi_108, hf⟩ := zck_some hf
                                                  refine z_sld hi_108 dL_law_1065 ?_
                                                  obtain ⟨hK_109, hf⟩ := zck_some hf
                                                  obtain ⟨v_111, h_112, hc_110, hf⟩ := zb2_some hf
                                                  have hct := ctX9_coverage (l := F.1) (hK_109.b 0 rfl) hc_110
                                                  refine z_invVi suL_115_7 hct ((hK_109.b 0 rfl).t 0 rfl) ⟨Nat.le_trans (by decide) hD, by decide⟩ rfl rfl (Nat.le_of_ble_eq_true rfl) dL_law_1066 ?_
                                                  have hK_102 := hK_102.ext hct.1
                                                  have hK_109 := hK_109.ext hct.1
                                                  refine z_icmp_eq 1278 dL_law_1069 rfl hf (fun _ hf => ?_) (fun _ hf => ?_)
                                                  · refine z_iinc 3 (x3 + 6) dL_law_1278 rfl rfl (by decide) (lc' := [(0, .ref 0), (1, .ref x1), (2, .ref x2), (3, .int (x3 + 6))]) rfl ?_
                                                    refine z_goto 18 dL_law_1281 rfl ?_
                                                    cases hf
                                                    exact (hM.1 _ rfl)
                                                  · refine z_iconst 0 dL_law_1072 rfl ?_
                                                    cases hf
                                                    exact z_zret dL_law_1073 rfl (Or.inl rfl) (hM.2 _ rfl)
                                                · refine z_swI hf (fun hx hf => ?_) (fun hx23 hf => ?_)
                                                  · refine z_swT 1074 dL_law_33 hx rfl (by decide) (by decide) rfl ?_
                                                    refine z_aload_n 1 dL_law_1074 rfl rfl ?_
                                                    refine z_aload_n 0 dL_law_1075 rfl rfl ?_
                                                    refine z_iload_n 3 dL_law_1076 rfl rfl ?_
                                                    refine z_iconst 1 dL_law_1077 rfl ?_
                                                    refine z_iadd dL_law_1078 ?_
                                                    obtain ⟨hi_85, hf⟩ := zck_some hf
                                                    refine z_sld hi_85 dL_law_1079 ?_
                                                    refine z_aload_n 0 dL_law_1080 rfl rfl ?_
                                                    refine z_iload_n 3 dL_law_1081 rfl rfl ?_
                                                    refine z_iconst 2 dL_law_1082 rfl ?_
                                                    refine z_iadd dL_law_1083 ?_
                                                    obtain ⟨hi_86, hf⟩ := zck_some hf
                                                    refine z_sld hi_86 dL_law_1084 ?_
                                                    refine z_aload_n 0 dL_law_1085 rfl rfl ?_
                                                    refine z_iload_n 3 dL_law_1086 rfl rfl ?_
                                                    refine z_iconst 3 dL_law_1087 rfl ?_
                                                    refine z_iadd dL_law_1088 ?_
                                                    obtain ⟨hi_87, hf⟩ := zck_some hf
                                                    refine z_sld hi_87 dL_law_1089 ?_
                                                    obtain ⟨hK_88, hf⟩ := zck_some hf
                                                    obtain ⟨v_90, h_91, hc_89, hf⟩ := zb2_some hf
                                                    have hct := ctX0_differ (l := F.1) hK_88 hc_89
                                                    refine z_invVi suL_116_0 hct ((hK_88.b 0 rfl).t 0 rfl) ⟨Nat.le_trans (by decide) hD, by decide⟩ rfl rfl (Nat.le_of_ble_eq_true rfl) dL_law_1090 ?_
                                                    have hK_88 := hK_88.ext hct.1
                                                    refine z_aload_n 2 dL_law_1093 rfl rfl ?_
                                                    refine z_aload_n 0 dL_law_1094 rfl rfl ?_
                                                    refine z_iload_n 3 dL_law_1095 rfl rfl ?_
                                                    refine z_iconst 1 dL_law_1096 rfl ?_
                                                    refine z_iadd dL_law_1097 ?_
                                                    obtain ⟨hi_92, hf⟩ := zck_some hf
                                                    refine z_sld hi_92 dL_law_1098 ?_
                                                    refine z_aload_n 0 dL_law_1099 rfl rfl ?_
                                                    refine z_iload_n 3 dL_law_1100 rfl rfl ?_
                                                    refine z_iconst 2 dL_law_1101 rfl ?_
                                                    refine z_iadd dL_law_1102 ?_
                                                    obtain ⟨hi_93, hf⟩ := zck_some hf
                                                    refine z_sld hi_93 dL_law_1103 ?_
                                                    refine z_aload_n 0 dL_law_1104 rfl rfl ?_
                                                    refine z_iload_n 3 dL_law_1105 rfl rfl ?_
                                                    refine z_iconst 3 dL_law_1106 rfl ?_
                                                    refine z_iadd dL_law_1107 ?_
                                                    obtain ⟨hi_94, hf⟩ := zck_some hf
                                                    refine z_sld hi_94 dL_law_1108 ?_
                                                    obtain ⟨hK_95, hf⟩ := zck_some hf
                                                    obtain ⟨v_97, h_98, hc_96, hf⟩ := zb2_some hf
                                                    have hct := ctX9_differ (l := F.1) (hK_95.b 0 rfl) hc_96
                                                    refine z_invVi suL_119_7 hct ((hK_95.b 0 rfl).t 0 rfl) ⟨Nat.le_trans (by decide) hD, by decide⟩ rfl rfl (Nat.le_of_ble_eq_true rfl) dL_law_1109 ?_
                                                    have hK_88 := hK_88.ext hct.1
                                                    have hK_95 := hK_95.ext hct.1
                                                    refine z_icmp_eq 1278 dL_law_1112 rfl hf (fun _ hf => ?_) (fun _ hf => ?_)
                                                    · refine z_iinc 3 (x3 + 6) dL_law_1278 rfl rfl (by decide) (lc' := [(0, .ref 0), (1, .ref x1), (2, .ref x2), (3, .int (x3 + 6))]) rfl ?_
                                                      refine z_goto 18 dL_law_1281 rfl ?_
                                                      cases hf
                                                      exact (hM.1 _ rfl)
                                                    · refine z_iconst 0 dL_law_1115 rfl ?_
                                                      cases hf
                                                      exact z_zret dL_law_1116 rfl (Or.inl rfl) (hM.2 _ rfl)
                                                  · refine z_swI hf (fun hx hf => ?_) (fun hx24 hf => ?_)
                                                    · refine z_swT 1117 dL_law_33 hx rfl (by decide) (by decide) rfl ?_
                                                      refine z_aload_n 1 dL_law_1117 rfl rfl ?_
                                                      refine z_aload_n 0 dL_law_1118 rfl rfl ?_
                                                      refine z_iload_n 3 dL_law_1119 rfl rfl ?_
                                                      refine z_iconst 1 dL_law_1120 rfl ?_
                                                      refine z_iadd dL_law_1121 ?_
                                                      obtain ⟨hi_73, hf⟩ := zck_some hf
                                                      refine z_sld hi_73 dL_law_1122 ?_
                                                      refine z_aload_n 0 dL_law_1123 rfl rfl ?_
                                                      refine z_iload_n 3 dL_law_1124 rfl rfl ?_
                                                      refine z_iconst 2 dL_law_1125 rfl ?_
                                                      refine z_iadd dL_law_1126 ?_
                                                      obtain ⟨hi_74, hf⟩ := zck_some hf
                                                      refine z_sld hi_74 dL_law_1127 ?_
                                                      obtain ⟨hK_75, hf⟩ := zck_some hf
                                                      obtain ⟨v_77, h_78, hc_76, hf⟩ := zb2_some hf
                                                      have hct := ctX0_misread (l := F.1) hK_75 hc_76
                                                      refine z_invVi suL_120_0 hct ((hK_75.b 0 rfl).t 0 rfl) ⟨Nat.le_trans (by decide) hD, by decide⟩ rfl rfl (Nat.le_of_ble_eq_true rfl) dL_law_1128 ?_
                                                      have hK_75 := hK_75.ext hct.1
                                                      refine z_aload_n 2 dL_law_1131 rfl rfl ?_
                                                      refine z_aload_n 0 dL_law_1132 rfl rfl ?_
                                                      refine z_iload_n 3 dL_law_1133 rfl rfl ?_
                                                      refine z_iconst 1 dL_law_1134 rfl ?_
                                                      refine z_iadd dL_law_1135 ?_
                                                      obtain ⟨hi_79, hf⟩ := zck_some hf
                                                      refine z_sld hi_79 dL_law_1136 ?_
                                                      refine z_aload_n 0 dL_law_1137 rfl rfl ?_
                                                      refine z_iload_n 3 dL_law_1138 rfl rfl ?_
                                                      refine z_iconst 2 dL_law_1139 rfl ?_
                                                      refine z_iadd dL_law_1140 ?_
                                                      obtain ⟨hi_80, hf⟩ := zck_some hf
                                                      refine z_sld hi_80 dL_law_1141 ?_
                                                      obtain ⟨hK_81, hf⟩ := zck_some hf
                                                      obtain ⟨v_83, h_84, hc_82, hf⟩ := zb2_some hf
                                                      have hct := ctX9_misread (l := F.1) (hK_81.b 0 rfl) hc_82
                                                      refine z_invVi suL_123_7 hct ((hK_81.b 0 rfl).t 0 rfl) ⟨Nat.le_trans (by decide) hD, by decide⟩ rfl rfl (Nat.le_of_ble_eq_true rfl) dL_law_1142 ?_
                                                      have hK_75 := hK_75.ext hct.1
                                                      have hK_81 := hK_81.ext hct.1
                                                      refine z_icmp_eq 1278 dL_law_1145 rfl hf (fun _ hf => ?_) (fun _ hf => ?_)
                                                      · refine z_iinc 3 (x3 + 6) dL_law_1278 rfl rfl (by decide) (lc' := [(0, .ref 0), (1, .ref x1), (2, .ref x2), (3, .int (x3 + 6))]) rfl ?_
                                                        refine z_goto 18 dL_law_1281 rfl ?_
                                                        cases hf
                                                        exact (hM.1 _ rfl)
                                                      · refine z_iconst 0 dL_law_1148 rfl ?_
                                                        cases hf
                                                        exact z_zret dL_law_1149 rfl (Or.inl rfl) (hM.2 _ rfl)
                                                    · refine z_swI hf (fun hx hf => ?_) (fun hx25 hf => ?_)
                                                      · refine z_swT 1150 dL_law_33 hx rfl (by decide) (by decide) rfl ?_
                                                        refine z_aload_n 1 dL_law_1150 rfl rfl ?_
                                                        refine z_aload_n 0 dL_law_1151 rfl rfl ?_
                                                        refine z_iload_n 3 dL_law_1152 rfl rfl ?_
                                                        refine z_iconst 1 dL_law_1153 rfl ?_
                                                        refine z_iadd dL_law_1154 ?_
                                                        obtain ⟨hi_63, hf⟩ := zck_some hf
                                                        refine z_sld hi_63 dL_law_1155 ?_
                                                        obtain ⟨hK_64, hf⟩ := zck_some hf
                                                        obtain ⟨v_66, h_67, hc_65, hf⟩ := zb2_some hf
                                                        have hct := ctX0_faults (l := F.1) hK_64 hc_65
                                                        refine z_invVi suL_124_0 hct ((hK_64.b 0 rfl).t 0 rfl) ⟨Nat.le_trans (by decide) hD, by decide⟩ rfl rfl (Nat.le_of_ble_eq_true rfl) dL_law_1156 ?_
                                                        have hK_64 := hK_64.ext hct.1
                                                        refine z_aload_n 2 dL_law_1159 rfl rfl ?_
                                                        refine z_aload_n 0 dL_law_1160 rfl rfl ?_
                                                        refine z_iload_n 3 dL_law_1161 rfl rfl ?_
                                                        refine z_iconst 1 dL_law_1162 rfl ?_
                                                        refine z_iadd dL_law_1163 ?_
                                                        obtain ⟨hi_68, hf⟩ := zck_some hf
                                                        refine z_sld hi_68 dL_law_1164 ?_
                                                        obtain ⟨hK_69, hf⟩ := zck_some hf
                                                        obtain ⟨v_71, h_72, hc_70, hf⟩ := zb2_some hf
                                                        have hct := ctX9_faults (l := F.1) (hK_69.b 0 rfl) hc_70
                                                        refine z_invVi suL_127_7 hct ((hK_69.b 0 rfl).t 0 rfl) ⟨Nat.le_trans (by decide) hD, by decide⟩ rfl rfl (Nat.le_of_ble_eq_true rfl) dL_law_1165 ?_
                                                        have hK_64 := hK_64.ext hct.1
                                                        have hK_69 := hK_69.ext hct.1
                                                        refine z_icmp_eq 1278 dL_law_1168 rfl hf (fun _ hf => ?_) (fun _ hf => ?_)
                                                        · refine z_iinc 3 (x3 + 6) dL_law_1278 rfl rfl (by decide) (lc' := [(0, .ref 0), (1, .ref x1), (2, .ref x2), (3, .int (x3 + 6))]) rfl ?_
                                                          refine z_goto 18 dL_law_1281 rfl ?_
                                                          cases hf
                                                          exact (hM.1 _ rfl)
                                                        · refine z_iconst 0 dL_law_1171 rfl ?_
                                                          cases hf
                                                          exact z_zret dL_law_1172 rfl (Or.inl rfl) (hM.2 _ rfl)
                                                      · refine z_swI hf (fun hx hf => ?_) (fun hx26 hf => ?_)
                                                        · refine z_swT 1173 dL_law_33 hx rfl (by decide) (by decide) rfl ?_
                                                          refine z_aload_n 1 dL_law_1173 rfl rfl ?_
                                                          obtain ⟨hK_52, hf⟩ := zck_some hf
                                                          rcases zxi_some hf with ⟨v_54, h_55, hc_53, hf⟩ | ⟨e_56, h_57, hc_58, hf⟩
                                                          rotate_left
                                                          · have hct := ctX0_detect (l := F.1) hK_52 hc_58
                                                            refine z_invVt suL_128_0 hct ((hK_52.b 0 rfl).t 0 rfl) ⟨Nat.le_trans (by decide) hD, by decide⟩ rfl rfl (Nat.le_of_ble_eq_true rfl) dL_law_1174 ?_
                                                            have hK_52 := hK_52.ext hct.1
                                                            cases hf
                                                            exact zt_out rfl (hM.2 _ rfl)
                                                          have hct := ctX0_detect (l := F.1) hK_52 hc_53
                                                          refine z_invVi suL_128_0 hct ((hK_52.b 0 rfl).t 0 rfl) ⟨Nat.le_trans (by decide) hD, by decide⟩ rfl rfl (Nat.le_of_ble_eq_true rfl) dL_law_1174 ?_
                                                          have hK_52 := hK_52.ext hct.1
                                                          refine z_aload_n 2 dL_law_1177 rfl rfl ?_
                                                          obtain ⟨hK_59, hf⟩ := zck_some hf
                                                          obtain ⟨v_61, h_62, hc_60, hf⟩ := zb2_some hf
                                                          have hct := ctX9_detect (l := F.1) (hK_59.b 0 rfl) hc_60
                                                          refine z_invVi suL_132_7 hct ((hK_59.b 0 rfl).t 0 rfl) ⟨Nat.le_trans (by decide) hD, by decide⟩ rfl rfl (Nat.le_of_ble_eq_true rfl) dL_law_1178 ?_
                                                          have hK_52 := hK_52.ext hct.1
                                                          have hK_59 := hK_59.ext hct.1
                                                          refine z_icmp_eq 1278 dL_law_1181 rfl hf (fun _ hf => ?_) (fun _ hf => ?_)
                                                          · refine z_iinc 3 (x3 + 6) dL_law_1278 rfl rfl (by decide) (lc' := [(0, .ref 0), (1, .ref x1), (2, .ref x2), (3, .int (x3 + 6))]) rfl ?_
                                                            refine z_goto 18 dL_law_1281 rfl ?_
                                                            cases hf
                                                            exact (hM.1 _ rfl)
                                                          · refine z_iconst 0 dL_law_1184 rfl ?_
                                                            cases hf
                                                            exact z_zret dL_law_1185 rfl (Or.inl rfl) (hM.2 _ rfl)
                                                        · refine z_swI hf (fun hx hf => ?_) (fun hx27 hf => ?_)
                                                          · refine z_swT 1186 dL_law_33 hx rfl (by decide) (by decide) rfl ?_
                                                            refine z_aload_n 1 dL_law_1186 rfl rfl ?_
                                                            refine z_aload_n 0 dL_law_1187 rfl rfl ?_
                                                            refine z_iload_n 3 dL_law_1188 rfl rfl ?_
                                                            refine z_iconst 1 dL_law_1189 rfl ?_
                                                            refine z_iadd dL_law_1190 ?_
                                                            obtain ⟨hi_40, hf⟩ := zck_some hf
                                                            refine z_sld hi_40 dL_law_1191 ?_
                                                            refine z_aload_n 0 dL_law_1192 rfl rfl ?_
                                                            refine z_iload_n 3 dL_law_1193 rfl rfl ?_
                                                            refine z_iconst 2 dL_law_1194 rfl ?_
                                                            refine z_iadd dL_law_1195 ?_
                                                            obtain ⟨hi_41, hf⟩ := zck_some hf
                                                            refine z_sld hi_41 dL_law_1196 ?_
                                                            obtain ⟨hK_42, hf⟩ := zck_some hf
                                                            obtain ⟨v_44, h_45, hc_43, hf⟩ := zb2_some hf
                                                            have hct := ctX0_lengths (l := F.1) hK_42 hc_43
                                                            refine z_invVi suL_133_0 hct ((hK_42.b 0 rfl).t 0 rfl) ⟨Nat.le_trans (by decide) hD, by decide⟩ rfl rfl (Nat.le_of_ble_eq_true rfl) dL_law_1197 ?_
                                                            have hK_42 := hK_42.ext hct.1
                                                            refine z_aload_n 2 dL_law_1200 rfl rfl ?_
                                                            refine z_aload_n 0 dL_law_1201 rfl rfl ?_
                                                            refine z_iload_n 3 dL_law_1202 rfl rfl ?_
                                                            refine z_iconst 1 dL_law_1203 rfl ?_
                                                            refine z_iadd dL_law_1204 ?_
                                                            obtain ⟨hi_46, hf⟩ := zck_some hf
                                                            refine z_sld hi_46 dL_law_1205 ?_
                                                            refine z_aload_n 0 dL_law_1206 rfl rfl ?_
                                                            refine z_iload_n 3 dL_law_1207 rfl rfl ?_
                                                            refine z_iconst 2 dL_law_1208 rfl ?_
                                                            refine z_iadd dL_law_1209 ?_
                                                            obtain ⟨hi_47, hf⟩ := zck_some hf
                                                            refine z_sld hi_47 dL_law_1210 ?_
                                                            obtain ⟨hK_48, hf⟩ := zck_some hf
                                                            obtain ⟨v_50, h_51, hc_49, hf⟩ := zb2_some hf
                                                            have hct := ctX9_lengths (l := F.1) (hK_48.b 0 rfl) hc_49
                                                            refine z_invVi suL_136_7 hct ((hK_48.b 0 rfl).t 0 rfl) ⟨Nat.le_trans (by decide) hD, by decide⟩ rfl rfl (Nat.le_of_ble_eq_true rfl) dL_law_1211 ?_
                                                            have hK_42 := hK_42.ext hct.1
                                                            have hK_48 := hK_48.ext hct.1
                                                            refine z_icmp_eq 1278 dL_law_1214 rfl hf (fun _ hf => ?_) (fun _ hf => ?_)
                                                            · refine z_iinc 3 (x3 + 6) dL_law_1278 rfl rfl (by decide) (lc' := [(0, .ref 0), (1, .ref x1), (2, .ref x2), (3, .int (x3 + 6))]) rfl ?_
                                                              refine z_goto 18 dL_law_1281 rfl ?_
                                                              cases hf
                                                              exact (hM.1 _ rfl)
                                                            · refine z_iconst 0 dL_law_1217 rfl ?_
                                                              cases hf
                                                              exact z_zret dL_law_1218 rfl (Or.inl rfl) (hM.2 _ rfl)
                                                          · refine z_swI hf (fun hx hf => ?_) (fun hx28 hf => ?_)
                                                            · refine z_swT 1219 dL_law_33 hx rfl (by decide) (by decide) rfl ?_
                                                              refine z_aload_n 1 dL_law_1219 rfl rfl ?_
                                                              refine z_aload_n 0 dL_law_1220 rfl rfl ?_
                                                              refine z_iload_n 3 dL_law_1221 rfl rfl ?_
                                                              refine z_iconst 1 dL_law_1222 rfl ?_
                                                              refine z_iadd dL_law_1223 ?_
                                                              obtain ⟨hi_30, hf⟩ := zck_some hf
                                                              refine z_sld hi_30 dL_law_1224 ?_
                                                              obtain ⟨hK_31, hf⟩ := zck_some hf
                                                              obtain ⟨v_33, h_34, hc_32, hf⟩ := zb2_some hf
                                                              have hct := ctX0_send (l := F.1) hK_31 hc_32
                                                              refine z_invVi suL_137_0 hct ((hK_31.b 0 rfl).t 0 rfl) ⟨Nat.le_trans (by decide) hD, by decide⟩ rfl rfl (Nat.le_of_ble_eq_true rfl) dL_law_1225 ?_
                                                              have hK_31 := hK_31.ext hct.1
                                                              refine z_aload_n 2 dL_law_1228 rfl rfl ?_
                                                              refine z_aload_n 0 dL_law_1229 rfl rfl ?_
                                                              refine z_iload_n 3 dL_law_1230 rfl rfl ?_
                                                              refine z_iconst 1 dL_law_1231 rfl ?_
                                                              refine z_iadd dL_law_1232 ?_
                                                              obtain ⟨hi_35, hf⟩ := zck_some hf
                                                              refine z_sld hi_35 dL_law_1233 ?_
                                                              obtain ⟨hK_36, hf⟩ := zck_some hf
                                                              obtain ⟨v_38, h_39, hc_37, hf⟩ := zb2_some hf
                                                              have hct := ctX9_send (l := F.1) (hK_36.b 0 rfl) hc_37
                                                              refine z_invVi suL_140_7 hct ((hK_36.b 0 rfl).t 0 rfl) ⟨Nat.le_trans (by decide) hD, by decide⟩ rfl rfl (Nat.le_of_ble_eq_true rfl) dL_law_1234 ?_
                                                              have hK_31 := hK_31.ext hct.1
                                                              have hK_36 := hK_36.ext hct.1
                                                              refine z_icmp_eq 1278 dL_law_1237 rfl hf (fun _ hf => ?_) (fun _ hf => ?_)
                                                              · refine z_iinc 3 (x3 + 6) dL_law_1278 rfl rfl (by decide) (lc' := [(0, .ref 0), (1, .ref x1), (2, .ref x2), (3, .int (x3 + 6))]) rfl ?_
                                                                refine z_goto 18 dL_law_1281 rfl ?_
                                                                cases hf
                                                                exact (hM.1 _ rfl)
                                                              · refine z_iconst 0 dL_law_1240 rfl ?_
                                                                cases hf
                                                                exact z_zret dL_law_1241 rfl (Or.inl rfl) (hM.2 _ rfl)
                                                            · refine z_swI hf (fun hx hf => ?_) (fun hx29 hf => ?_)
                                                              · refine z_swT 1242 dL_law_33 hx rfl (by decide) (by decide) rfl ?_
                                                                refine z_aload_n 1 dL_law_1242 rfl rfl ?_
                                                                obtain ⟨hK_22, hf⟩ := zck_some hf
                                                                obtain ⟨v_24, h_25, hc_23, hf⟩ := zb2_some hf
                                                                have hct := ctX0_receive (l := F.1) hK_22 hc_23
                                                                refine z_invVi suL_141_0 hct ((hK_22.b 0 rfl).t 0 rfl) ⟨Nat.le_trans (by decide) hD, by decide⟩ rfl rfl (Nat.le_of_ble_eq_true rfl) dL_law_1243 ?_
                                                                have hK_22 := hK_22.ext hct.1
                                                                refine z_aload_n 2 dL_law_1246 rfl rfl ?_
                                                                obtain ⟨hK_26, hf⟩ := zck_some hf
                                                                obtain ⟨v_28, h_29, hc_27, hf⟩ := zb2_some hf
                                                                have hct := ctX9_receive (l := F.1) (hK_26.b 0 rfl) hc_27
                                                                refine z_invVi suL_144_7 hct ((hK_26.b 0 rfl).t 0 rfl) ⟨Nat.le_trans (by decide) hD, by decide⟩ rfl rfl (Nat.le_of_ble_eq_true rfl) dL_law_1247 ?_
                                                                have hK_22 := hK_22.ext hct.1
                                                                have hK_26 := hK_26.ext hct.1
                                                                refine z_icmp_eq 1278 dL_law_1250 rfl hf (fun _ hf => ?_) (fun _ hf => ?_)
                                                                · refine z_iinc 3 (x3 + 6) dL_law_1278 rfl rfl (by decide) (lc' := [(0, .ref 0), (1, .ref x1), (2, .ref x2), (3, .int (x3 + 6))]) rfl ?_
                                                                  refine z_goto 18 dL_law_1281 rfl ?_
                                                                  cases hf
                                                                  exact (hM.1 _ rfl)
                                                                · refine z_iconst 0 dL_law_1253 rfl ?_
                                                                  cases hf
                                                                  exact z_zret dL_law_1254 rfl (Or.inl rfl) (hM.2 _ rfl)
                                                              · refine z_swI hf (fun hx hf => ?_) (fun hx30 hf => ?_)
                                                                · refine z_swT 1255 dL_law_33 hx rfl (by decide) (by decide) rfl ?_
                                                                  refine z_aload_n 1 dL_law_1255 rfl rfl ?_
                                                                  refine z_aload_n 0 dL_law_1256 rfl rfl ?_
                                                                  refine z_iload_n 3 dL_law_1257 rfl rfl ?_
                                                                  refine z_iconst 1 dL_law_1258 rfl ?_
                                                                  refine z_iadd dL_law_1259 ?_
                                                                  obtain ⟨hi_12, hf⟩ := zck_some hf
                                                                  refine z_sld hi_12 dL_law_1260 ?_
                                                                  obtain ⟨hK_13, hf⟩ := zck_some hf
                                                                  obtain ⟨v_15, h_16, hc_14, hf⟩ := zb2_some hf
                                                                  have hct := ctX0_told (l := F.1) hK_13 hc_14
                                                                  refine z_invVi suL_145_0 hct ((hK_13.b 0 rfl).t 0 rfl) ⟨Nat.le_trans (by decide) hD, by decide⟩ rfl rfl (Nat.le_of_ble_eq_true rfl) dL_law_1261 ?_
                                                                  have hK_13 := hK_13.ext hct.1
                                                                  refine z_aload_n 2 dL_law_1264 rfl rfl ?_
                                                                  refine z_aload_n 0 dL_law_1265 rfl rfl ?_
                                                                  refine z_iload_n 3 dL_law_1266 rfl rfl ?_
                                                                  refine z_iconst 1 dL_law_1267 rfl ?_
                                                                  refine z_iadd dL_law_1268 ?_
                                                                  obtain ⟨hi_17, hf⟩ := zck_some hf
                                                                  refine z_sld hi_17 dL_law_1269 ?_
                                                                  obtain ⟨hK_18, hf⟩ := zck_some hf
                                                                  obtain ⟨v_20, h_21, hc_19, hf⟩ := zb2_some hf
                                                                  have hct := ctX9_told (l := F.1) (hK_18.b 0 rfl) hc_19
                                                                  refine z_invVi suL_148_7 hct ((hK_18.b 0 rfl).t 0 rfl) ⟨Nat.le_trans (by decide) hD, by decide⟩ rfl rfl (Nat.le_of_ble_eq_true rfl) dL_law_1270 ?_
                                                                  have hK_13 := hK_13.ext hct.1
                                                                  have hK_18 := hK_18.ext hct.1
                                                                  refine z_icmp_eq 1278 dL_law_1273 rfl hf (fun _ hf => ?_) (fun _ hf => ?_)
                                                                  · refine z_iinc 3 (x3 + 6) dL_law_1278 rfl rfl (by decide) (lc' := [(0, .ref 0), (1, .ref x1), (2, .ref x2), (3, .int (x3 + 6))]) rfl ?_
                                                                    refine z_goto 18 dL_law_1281 rfl ?_
                                                                    cases hf
                                                                    exact (hM.1 _ rfl)
                                                                  · refine z_iconst 0 dL_law_1276 rfl ?_
                                                                    cases hf
                                                                    exact z_zret dL_law_1277 rfl (Or.inl rfl) (hM.2 _ rfl)
                                                                · refine z_swO 1278 dL_law_33 rfl (z_out_0_30 hx0 hx1 hx2 hx3 hx4 hx5 hx6 hx7 hx8 hx9 hx10 hx11 hx12 hx13 hx14 hx15 hx16 hx17 hx18 hx19 hx20 hx21 hx22 hx23 hx24 hx25 hx26 hx27 hx28 hx29 hx30) ?_
                                                                  refine z_iinc 3 (x3 + 6) dL_law_1278 rfl rfl (by decide) (lc' := [(0, .ref 0), (1, .ref x1), (2, .ref x2), (3, .int (x3 + 6))]) rfl ?_
                                                                  refine z_goto 18 dL_law_1281 rfl ?_
                                                                  cases hf
                                                                  exact (hM.1 _ rfl)
noncomputable def fL_law (h : zH) : Option (zX) := zlet (zmk h (1, 0) 33) (fun h_1 => zck (zOb 0 h_1 (zn h)) (zb1 (fX0_init h_1 (zn h)) (fun h_5 => zlet (zmk h_5 (8, 0) 69) (fun h_6 => zck (zOb 7 h_6 (zn h_5)) (zb1 (fX9_init h_6 (zn h_5)) (fun h_10 => zlp (fun s => fL_law_L18 s.1 (zn h) (zn h_5) s.2) (h_10, 0)))))))
theorem zL_law {F : zF} {h : zH} {y : zX} (hD : 124 ≤ F.2.1) (hf : fL_law h = some y) (hM : (y : zX) = zEnd F) : Z F 4 cL_law RL "law" (some .boolean) [] h 0 [(0, .ref 0)] [] := by
  unfold fL_law at hf
  obtain ⟨h_1, he, hf⟩ := zlet_some hf
  refine z_new (q := (RX0, TX0, 33)) q121 q122 q97 rfl rfl he dL_law_0 ?_
  refine z_dup dL_law_3 rfl ?_
  obtain ⟨hK_2, hf⟩ := zck_some hf
  obtain ⟨h_5, hc_3, hf⟩ := zb1_some hf
  have hct := ctX0_init (l := F.1) hK_2 hc_3
  refine z_invIv siL_9_0 hct ⟨Nat.le_trans (by decide) hD, by decide⟩ rfl rfl (Nat.le_of_ble_eq_true rfl) dL_law_4 ?_
  have hK_2 := hK_2.ext hct.1
  refine z_astore_n dL_law_7 rfl (by decide) (lc' := [(0, .ref 0), (1, .ref (zn h))]) rfl ?_
  obtain ⟨h_6, he, hf⟩ := zlet_some hf
  refine z_new (q := (RX9, TX9, 69)) q1385 q1386 q109 rfl rfl he dL_law_8 ?_
  have hK_2 := hK_2.mk he
  refine z_dup dL_law_11 rfl ?_
  obtain ⟨hK_7, hf⟩ := zck_some hf
  obtain ⟨h_10, hc_8, hf⟩ := zb1_some hf
  have hct := ctX9_init (l := F.1) hK_7 hc_8
  refine z_invIv siL_12_7 hct ⟨Nat.le_trans (by decide) hD, by decide⟩ rfl rfl (Nat.le_of_ble_eq_true rfl) dL_law_12 ?_
  have hK_2 := hK_2.ext hct.1
  have hK_7 := hK_7.ext hct.1
  refine z_astore_n dL_law_15 rfl (by decide) (lc' := [(0, .ref 0), (1, .ref (zn h)), (2, .ref (zn h_5))]) rfl ?_
  refine z_iconst 0 dL_law_16 rfl ?_
  refine z_istore_n dL_law_17 rfl (by decide) (lc' := [(0, .ref 0), (1, .ref (zn h)), (2, .ref (zn h_5)), (3, .int 0)]) rfl ?_
  exact z_loop (fun (s : zH × Int32) => Z F 4 cL_law RL "law" (some .boolean) [] s.1 18 [(0, .ref 0), (1, .ref (zn h)), (2, .ref (zn h_5)), (3, .int s.2)] []) (fun (r : zX) => (r : zX) = zEnd F) (fun s y hb hs hr => zL_law_L18 hD hb ⟨hs, hr⟩) hf hM
