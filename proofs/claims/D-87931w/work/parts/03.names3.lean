/-! CodeExchange$Table -/
set_option maxRecDepth 100000
def RX3 : String := "CodeExchange$Table"
def TX3 : u_T := fun k => match k with
  | 0 => ("CodeExchange$Page", "hitPoint", "I", false)
  | 1 => ("CodeExchange$Page", "hitGoal", "I", false)
  | 2 => ("CodeExchange$Page", "hitSticky", "Z", false)
  | 3 => ("CodeExchange$Table", "closed", "Z", false)
  | 4 => ("CodeExchange$Table", "entries", "I", false)
  | 5 => ("CodeExchange$Table", "state", "[I", true)
  | 6 => ("CodeExchange$Table", "bytes", "[I", true)
  | 7 => ("CodeExchange$Table", "length", "[I", true)
  | 8 => ("CodeExchange$Table", "point", "[I", true)
  | 9 => ("CodeExchange$Table", "preferred", "[Z", true)
  | 10 => ("CodeExchange$Table", "shifts", "I", false)
  | 11 => ("CodeExchange$Table", "from", "[I", true)
  | 12 => ("CodeExchange$Table", "by", "[I", true)
  | 13 => ("CodeExchange$Table", "to", "[I", true)
  | 14 => ("CodeExchange$Table", "sticky", "[Z", true)
  | 15 => ("CodeExchange$Table", "sorted", "[[I", true)
  | 16 => ("CodeExchange$Table", "sortedMany", "[I", true)
  | 17 => ("CodeExchange$Table", "turned", "[I", true)
  | 18 => ("CodeExchange$Table", "turnedMany", "I", false)
  | 19 => ("CodeExchange$Table", "stickyMany", "[I", true)
  | 20 => ("CodeExchange$Table", "stickyBytes", "[J", true)
  | 21 => ("CodeExchange$Table", "wayMany", "[I", true)
  | 22 => ("CodeExchange$Table", "wayBytes", "[J", true)
  | 23 => ("CodeExchange$Table", "wayState", "[I", true)
  | 24 => ("CodeExchange$Table", "rule", "I", false)
  | 25 => ("CodeExchange$Table", "which", "I", false)
  | _ => ("CodeExchange$Table", "other", "I", false)
def tyX3 : Nat → FieldType := fun k => match k with
  | 0 => .int
  | 1 => .int
  | 2 => .boolean
  | 3 => .boolean
  | 4 => .int
  | 5 => .array .int
  | 6 => .array .int
  | 7 => .array .int
  | 8 => .array .int
  | 9 => .array .boolean
  | 10 => .int
  | 11 => .array .int
  | 12 => .array .int
  | 13 => .array .int
  | 14 => .array .boolean
  | 15 => .array (.array .int)
  | 16 => .array .int
  | 17 => .array .int
  | 18 => .int
  | 19 => .array .int
  | 20 => .array .long
  | 21 => .array .int
  | 22 => .array .long
  | 23 => .array .int
  | 24 => .int
  | 25 => .int
  | _ => .int
abbrev wsX30 : List Cond := u_ws RX3 TX3 27
set_option maxRecDepth 100000 in
theorem nmX3 : ∀ a, a < 27 → ∀ b, b < 27 → a ≠ b → (TX3 a).2.1 ≠ (TX3 b).2.1 := by decide +kernel
set_option maxRecDepth 100000 in
theorem tyX3_ok : ∀ k, k < 27 → parseFieldDescriptor (TX3 k).2.2.1 = some (tyX3 k) := by decide +kernel
abbrev cX3_init : ByteArray := prog_12_method_1_code
def yX3_init : MethodName := ⟨RX3, "<init>", "()V"⟩
def dkwX3_init_5 : List UInt8 := [16, 16, 188, 10, 181, 0, 58, 42, 16, 16, 188, 11, 181, 0, 61, 42, 16, 16, 188, 10, 181, 0, 64, 177]
abbrev dktX3_init_5 : List UInt8 := dkwX3_init_5 ++ []
def dkwX3_init_4 : List UInt8 := [16, 100, 188, 10, 181, 0, 48, 42, 16, 16, 188, 10, 181, 0, 51, 42, 16, 16, 188, 11, 181, 0, 54, 42]
abbrev dktX3_init_4 : List UInt8 := dkwX3_init_4 ++ dktX3_init_5
def dkwX3_init_3 : List UInt8 := [188, 4, 181, 0, 37, 42, 7, 16, 110, 197, 0, 40, 2, 181, 0, 42, 42, 7, 188, 10, 181, 0, 45, 42]
abbrev dktX3_init_3 : List UInt8 := dkwX3_init_3 ++ dktX3_init_4
def dkwX3_init_2 : List UInt8 := [188, 10, 181, 0, 28, 42, 16, 10, 188, 10, 181, 0, 31, 42, 16, 10, 188, 10, 181, 0, 34, 42, 16, 10]
abbrev dktX3_init_2 : List UInt8 := dkwX3_init_2 ++ dktX3_init_3
def dkwX3_init_1 : List UInt8 := [188, 10, 181, 0, 18, 42, 16, 100, 188, 10, 181, 0, 21, 42, 16, 100, 188, 4, 181, 0, 24, 42, 16, 10]
abbrev dktX3_init_1 : List UInt8 := dkwX3_init_1 ++ dktX3_init_2
def dkwX3_init_0 : List UInt8 := [42, 183, 0, 3, 42, 16, 100, 188, 10, 181, 0, 9, 42, 16, 100, 188, 10, 181, 0, 15, 42, 16, 100]
abbrev dktX3_init_0 : List UInt8 := dkwX3_init_0 ++ dktX3_init_1
theorem dksX3_init_0 : cX3_init.data.toList.drop 0 = dktX3_init_0 := by decide +kernel
theorem dksX3_init_1 : cX3_init.data.toList.drop 23 = dktX3_init_1 := dk_seg dksX3_init_0 23 rfl rfl
theorem dksX3_init_2 : cX3_init.data.toList.drop 47 = dktX3_init_2 := dk_seg dksX3_init_1 24 rfl rfl
theorem dksX3_init_3 : cX3_init.data.toList.drop 71 = dktX3_init_3 := dk_seg dksX3_init_2 24 rfl rfl
theorem dksX3_init_4 : cX3_init.data.toList.drop 95 = dktX3_init_4 := dk_seg dksX3_init_3 24 rfl rfl
theorem dksX3_init_5 : cX3_init.data.toList.drop 119 = dktX3_init_5 := dk_seg dksX3_init_4 24 rfl rfl
theorem dX3_init_0 : decode cX3_init 0 = .ok (.aload_n 0, 1) := dk_42 (dk_at dksX3_init_0 0 rfl rfl)
theorem dX3_init_1 : decode cX3_init 1 = .ok (.invokespecial 3, 3) := dk_183 0 3 (dk_at dksX3_init_0 1 rfl rfl)
theorem dX3_init_4 : decode cX3_init 4 = .ok (.aload_n 0, 1) := dk_42 (dk_at dksX3_init_0 4 rfl rfl)
theorem dX3_init_5 : decode cX3_init 5 = .ok (.bipush 100, 2) := dk_16 100 (dk_at dksX3_init_0 5 rfl rfl)
theorem dX3_init_7 : decode cX3_init 7 = .ok (.newarray .int, 2) := dk_188_10 (dk_at dksX3_init_0 7 rfl rfl)
theorem dX3_init_9 : decode cX3_init 9 = .ok (.putfield 9, 3) := dk_181 0 9 (dk_at dksX3_init_0 9 rfl rfl)
theorem dX3_init_12 : decode cX3_init 12 = .ok (.aload_n 0, 1) := dk_42 (dk_at dksX3_init_0 12 rfl rfl)
theorem dX3_init_13 : decode cX3_init 13 = .ok (.bipush 100, 2) := dk_16 100 (dk_at dksX3_init_0 13 rfl rfl)
theorem dX3_init_15 : decode cX3_init 15 = .ok (.newarray .int, 2) := dk_188_10 (dk_at dksX3_init_0 15 rfl rfl)
theorem dX3_init_17 : decode cX3_init 17 = .ok (.putfield 15, 3) := dk_181 0 15 (dk_at dksX3_init_0 17 rfl rfl)
theorem dX3_init_20 : decode cX3_init 20 = .ok (.aload_n 0, 1) := dk_42 (dk_at dksX3_init_0 20 rfl rfl)
theorem dX3_init_21 : decode cX3_init 21 = .ok (.bipush 100, 2) := dk_16 100 (dk_at dksX3_init_0 21 rfl rfl)
theorem dX3_init_23 : decode cX3_init 23 = .ok (.newarray .int, 2) := dk_188_10 (dk_at dksX3_init_1 0 rfl rfl)
theorem dX3_init_25 : decode cX3_init 25 = .ok (.putfield 18, 3) := dk_181 0 18 (dk_at dksX3_init_1 2 rfl rfl)
theorem dX3_init_28 : decode cX3_init 28 = .ok (.aload_n 0, 1) := dk_42 (dk_at dksX3_init_1 5 rfl rfl)
theorem dX3_init_29 : decode cX3_init 29 = .ok (.bipush 100, 2) := dk_16 100 (dk_at dksX3_init_1 6 rfl rfl)
theorem dX3_init_31 : decode cX3_init 31 = .ok (.newarray .int, 2) := dk_188_10 (dk_at dksX3_init_1 8 rfl rfl)
theorem dX3_init_33 : decode cX3_init 33 = .ok (.putfield 21, 3) := dk_181 0 21 (dk_at dksX3_init_1 10 rfl rfl)
theorem dX3_init_36 : decode cX3_init 36 = .ok (.aload_n 0, 1) := dk_42 (dk_at dksX3_init_1 13 rfl rfl)
theorem dX3_init_37 : decode cX3_init 37 = .ok (.bipush 100, 2) := dk_16 100 (dk_at dksX3_init_1 14 rfl rfl)
theorem dX3_init_39 : decode cX3_init 39 = .ok (.newarray .boolean, 2) := dk_188_4 (dk_at dksX3_init_1 16 rfl rfl)
theorem dX3_init_41 : decode cX3_init 41 = .ok (.putfield 24, 3) := dk_181 0 24 (dk_at dksX3_init_1 18 rfl rfl)
theorem dX3_init_44 : decode cX3_init 44 = .ok (.aload_n 0, 1) := dk_42 (dk_at dksX3_init_1 21 rfl rfl)
theorem dX3_init_45 : decode cX3_init 45 = .ok (.bipush 10, 2) := dk_16 10 (dk_at dksX3_init_1 22 rfl rfl)
theorem dX3_init_47 : decode cX3_init 47 = .ok (.newarray .int, 2) := dk_188_10 (dk_at dksX3_init_2 0 rfl rfl)
theorem dX3_init_49 : decode cX3_init 49 = .ok (.putfield 28, 3) := dk_181 0 28 (dk_at dksX3_init_2 2 rfl rfl)
theorem dX3_init_52 : decode cX3_init 52 = .ok (.aload_n 0, 1) := dk_42 (dk_at dksX3_init_2 5 rfl rfl)
theorem dX3_init_53 : decode cX3_init 53 = .ok (.bipush 10, 2) := dk_16 10 (dk_at dksX3_init_2 6 rfl rfl)
theorem dX3_init_55 : decode cX3_init 55 = .ok (.newarray .int, 2) := dk_188_10 (dk_at dksX3_init_2 8 rfl rfl)
theorem dX3_init_57 : decode cX3_init 57 = .ok (.putfield 31, 3) := dk_181 0 31 (dk_at dksX3_init_2 10 rfl rfl)
theorem dX3_init_60 : decode cX3_init 60 = .ok (.aload_n 0, 1) := dk_42 (dk_at dksX3_init_2 13 rfl rfl)
theorem dX3_init_61 : decode cX3_init 61 = .ok (.bipush 10, 2) := dk_16 10 (dk_at dksX3_init_2 14 rfl rfl)
theorem dX3_init_63 : decode cX3_init 63 = .ok (.newarray .int, 2) := dk_188_10 (dk_at dksX3_init_2 16 rfl rfl)
theorem dX3_init_65 : decode cX3_init 65 = .ok (.putfield 34, 3) := dk_181 0 34 (dk_at dksX3_init_2 18 rfl rfl)
theorem dX3_init_68 : decode cX3_init 68 = .ok (.aload_n 0, 1) := dk_42 (dk_at dksX3_init_2 21 rfl rfl)
theorem dX3_init_69 : decode cX3_init 69 = .ok (.bipush 10, 2) := dk_16 10 (dk_at dksX3_init_2 22 rfl rfl)
theorem dX3_init_71 : decode cX3_init 71 = .ok (.newarray .boolean, 2) := dk_188_4 (dk_at dksX3_init_3 0 rfl rfl)
theorem dX3_init_73 : decode cX3_init 73 = .ok (.putfield 37, 3) := dk_181 0 37 (dk_at dksX3_init_3 2 rfl rfl)
theorem dX3_init_76 : decode cX3_init 76 = .ok (.aload_n 0, 1) := dk_42 (dk_at dksX3_init_3 5 rfl rfl)
theorem dX3_init_77 : decode cX3_init 77 = .ok (.iconst 4, 1) := dk_7 (dk_at dksX3_init_3 6 rfl rfl)
theorem dX3_init_78 : decode cX3_init 78 = .ok (.bipush 110, 2) := dk_16 110 (dk_at dksX3_init_3 7 rfl rfl)
theorem dX3_init_80 : decode cX3_init 80 = .ok (.multianewarray 40 2, 4) := by decide +kernel
theorem dX3_init_84 : decode cX3_init 84 = .ok (.putfield 42, 3) := dk_181 0 42 (dk_at dksX3_init_3 13 rfl rfl)
theorem dX3_init_87 : decode cX3_init 87 = .ok (.aload_n 0, 1) := dk_42 (dk_at dksX3_init_3 16 rfl rfl)
theorem dX3_init_88 : decode cX3_init 88 = .ok (.iconst 4, 1) := dk_7 (dk_at dksX3_init_3 17 rfl rfl)
theorem dX3_init_89 : decode cX3_init 89 = .ok (.newarray .int, 2) := dk_188_10 (dk_at dksX3_init_3 18 rfl rfl)
theorem dX3_init_91 : decode cX3_init 91 = .ok (.putfield 45, 3) := dk_181 0 45 (dk_at dksX3_init_3 20 rfl rfl)
theorem dX3_init_94 : decode cX3_init 94 = .ok (.aload_n 0, 1) := dk_42 (dk_at dksX3_init_3 23 rfl rfl)
theorem dX3_init_95 : decode cX3_init 95 = .ok (.bipush 100, 2) := dk_16 100 (dk_at dksX3_init_4 0 rfl rfl)
theorem dX3_init_97 : decode cX3_init 97 = .ok (.newarray .int, 2) := dk_188_10 (dk_at dksX3_init_4 2 rfl rfl)
theorem dX3_init_99 : decode cX3_init 99 = .ok (.putfield 48, 3) := dk_181 0 48 (dk_at dksX3_init_4 4 rfl rfl)
theorem dX3_init_102 : decode cX3_init 102 = .ok (.aload_n 0, 1) := dk_42 (dk_at dksX3_init_4 7 rfl rfl)
theorem dX3_init_103 : decode cX3_init 103 = .ok (.bipush 16, 2) := dk_16 16 (dk_at dksX3_init_4 8 rfl rfl)
theorem dX3_init_105 : decode cX3_init 105 = .ok (.newarray .int, 2) := dk_188_10 (dk_at dksX3_init_4 10 rfl rfl)
theorem dX3_init_107 : decode cX3_init 107 = .ok (.putfield 51, 3) := dk_181 0 51 (dk_at dksX3_init_4 12 rfl rfl)
theorem dX3_init_110 : decode cX3_init 110 = .ok (.aload_n 0, 1) := dk_42 (dk_at dksX3_init_4 15 rfl rfl)
theorem dX3_init_111 : decode cX3_init 111 = .ok (.bipush 16, 2) := dk_16 16 (dk_at dksX3_init_4 16 rfl rfl)
theorem dX3_init_113 : decode cX3_init 113 = .ok (.newarray .long, 2) := dk_188_11 (dk_at dksX3_init_4 18 rfl rfl)
theorem dX3_init_115 : decode cX3_init 115 = .ok (.putfield 54, 3) := dk_181 0 54 (dk_at dksX3_init_4 20 rfl rfl)
theorem dX3_init_118 : decode cX3_init 118 = .ok (.aload_n 0, 1) := dk_42 (dk_at dksX3_init_4 23 rfl rfl)
theorem dX3_init_119 : decode cX3_init 119 = .ok (.bipush 16, 2) := dk_16 16 (dk_at dksX3_init_5 0 rfl rfl)
theorem dX3_init_121 : decode cX3_init 121 = .ok (.newarray .int, 2) := dk_188_10 (dk_at dksX3_init_5 2 rfl rfl)
theorem dX3_init_123 : decode cX3_init 123 = .ok (.putfield 58, 3) := dk_181 0 58 (dk_at dksX3_init_5 4 rfl rfl)
theorem dX3_init_126 : decode cX3_init 126 = .ok (.aload_n 0, 1) := dk_42 (dk_at dksX3_init_5 7 rfl rfl)
theorem dX3_init_127 : decode cX3_init 127 = .ok (.bipush 16, 2) := dk_16 16 (dk_at dksX3_init_5 8 rfl rfl)
theorem dX3_init_129 : decode cX3_init 129 = .ok (.newarray .long, 2) := dk_188_11 (dk_at dksX3_init_5 10 rfl rfl)
theorem dX3_init_131 : decode cX3_init 131 = .ok (.putfield 61, 3) := dk_181 0 61 (dk_at dksX3_init_5 12 rfl rfl)
theorem dX3_init_134 : decode cX3_init 134 = .ok (.aload_n 0, 1) := dk_42 (dk_at dksX3_init_5 15 rfl rfl)
theorem dX3_init_135 : decode cX3_init 135 = .ok (.bipush 16, 2) := dk_16 16 (dk_at dksX3_init_5 16 rfl rfl)
theorem dX3_init_137 : decode cX3_init 137 = .ok (.newarray .int, 2) := dk_188_10 (dk_at dksX3_init_5 18 rfl rfl)
theorem dX3_init_139 : decode cX3_init 139 = .ok (.putfield 64, 3) := dk_181 0 64 (dk_at dksX3_init_5 20 rfl rfl)
theorem dX3_init_142 : decode cX3_init 142 = .ok (.return_, 1) := dk_177 (dk_at dksX3_init_5 23 rfl rfl)
abbrev cX3_take : ByteArray := prog_12_method_4_code
def yX3_take : MethodName := ⟨RX3, "take", "(LCodeExchange$Table;)V"⟩
def dkwX3_take_4 : List UInt8 := [28, 46, 43, 180, 0, 37, 28, 51, 182, 0, 82, 132, 2, 1, 167, 255, 216, 177]
abbrev dktX3_take_4 : List UInt8 := dkwX3_take_4 ++ []
def dkwX3_take_3 : List UInt8 := [180, 0, 75, 162, 0, 38, 42, 28, 43, 180, 0, 28, 28, 46, 43, 180, 0, 31, 28, 46, 43, 180, 0, 34]
abbrev dktX3_take_3 : List UInt8 := dkwX3_take_3 ++ dktX3_take_4
def dkwX3_take_2 : List UInt8 := [180, 0, 21, 28, 46, 43, 180, 0, 24, 28, 51, 182, 0, 78, 132, 2, 1, 167, 255, 210, 3, 61, 28, 42]
abbrev dktX3_take_2 : List UInt8 := dkwX3_take_2 ++ dktX3_take_3
def dkwX3_take_1 : List UInt8 := [162, 0, 44, 42, 28, 43, 180, 0, 9, 28, 46, 43, 180, 0, 15, 28, 46, 43, 180, 0, 18, 28, 46, 43]
abbrev dktX3_take_1 : List UInt8 := dkwX3_take_1 ++ dktX3_take_2
def dkwX3_take_0 : List UInt8 := [42, 43, 180, 0, 71, 181, 0, 71, 42, 43, 180, 0, 75, 181, 0, 75, 3, 61, 28, 42, 180, 0, 71]
abbrev dktX3_take_0 : List UInt8 := dkwX3_take_0 ++ dktX3_take_1
theorem dksX3_take_0 : cX3_take.data.toList.drop 0 = dktX3_take_0 := by decide +kernel
theorem dksX3_take_1 : cX3_take.data.toList.drop 23 = dktX3_take_1 := dk_seg dksX3_take_0 23 rfl rfl
theorem dksX3_take_2 : cX3_take.data.toList.drop 47 = dktX3_take_2 := dk_seg dksX3_take_1 24 rfl rfl
theorem dksX3_take_3 : cX3_take.data.toList.drop 71 = dktX3_take_3 := dk_seg dksX3_take_2 24 rfl rfl
theorem dksX3_take_4 : cX3_take.data.toList.drop 95 = dktX3_take_4 := dk_seg dksX3_take_3 24 rfl rfl
theorem dX3_take_0 : decode cX3_take 0 = .ok (.aload_n 0, 1) := dk_42 (dk_at dksX3_take_0 0 rfl rfl)
theorem dX3_take_1 : decode cX3_take 1 = .ok (.aload_n 1, 1) := dk_43 (dk_at dksX3_take_0 1 rfl rfl)
theorem dX3_take_2 : decode cX3_take 2 = .ok (.getfield 71, 3) := dk_180 0 71 (dk_at dksX3_take_0 2 rfl rfl)
theorem dX3_take_5 : decode cX3_take 5 = .ok (.putfield 71, 3) := dk_181 0 71 (dk_at dksX3_take_0 5 rfl rfl)
theorem dX3_take_8 : decode cX3_take 8 = .ok (.aload_n 0, 1) := dk_42 (dk_at dksX3_take_0 8 rfl rfl)
theorem dX3_take_9 : decode cX3_take 9 = .ok (.aload_n 1, 1) := dk_43 (dk_at dksX3_take_0 9 rfl rfl)
theorem dX3_take_10 : decode cX3_take 10 = .ok (.getfield 75, 3) := dk_180 0 75 (dk_at dksX3_take_0 10 rfl rfl)
theorem dX3_take_13 : decode cX3_take 13 = .ok (.putfield 75, 3) := dk_181 0 75 (dk_at dksX3_take_0 13 rfl rfl)
theorem dX3_take_16 : decode cX3_take 16 = .ok (.iconst 0, 1) := dk_3 (dk_at dksX3_take_0 16 rfl rfl)
theorem dX3_take_17 : decode cX3_take 17 = .ok (.istore_n 2, 1) := dk_61 (dk_at dksX3_take_0 17 rfl rfl)
theorem dX3_take_18 : decode cX3_take 18 = .ok (.iload_n 2, 1) := dk_28 (dk_at dksX3_take_0 18 rfl rfl)
theorem dX3_take_19 : decode cX3_take 19 = .ok (.aload_n 0, 1) := dk_42 (dk_at dksX3_take_0 19 rfl rfl)
theorem dX3_take_20 : decode cX3_take 20 = .ok (.getfield 71, 3) := dk_180 0 71 (dk_at dksX3_take_0 20 rfl rfl)
theorem dX3_take_23 : decode cX3_take 23 = .ok (.if_icmp .ge 44, 3) := dk_162 0 44 (dk_at dksX3_take_1 0 rfl rfl)
theorem dX3_take_26 : decode cX3_take 26 = .ok (.aload_n 0, 1) := dk_42 (dk_at dksX3_take_1 3 rfl rfl)
theorem dX3_take_27 : decode cX3_take 27 = .ok (.iload_n 2, 1) := dk_28 (dk_at dksX3_take_1 4 rfl rfl)
theorem dX3_take_28 : decode cX3_take 28 = .ok (.aload_n 1, 1) := dk_43 (dk_at dksX3_take_1 5 rfl rfl)
theorem dX3_take_29 : decode cX3_take 29 = .ok (.getfield 9, 3) := dk_180 0 9 (dk_at dksX3_take_1 6 rfl rfl)
theorem dX3_take_32 : decode cX3_take 32 = .ok (.iload_n 2, 1) := dk_28 (dk_at dksX3_take_1 9 rfl rfl)
theorem dX3_take_33 : decode cX3_take 33 = .ok (.iaload, 1) := dk_46 (dk_at dksX3_take_1 10 rfl rfl)
theorem dX3_take_34 : decode cX3_take 34 = .ok (.aload_n 1, 1) := dk_43 (dk_at dksX3_take_1 11 rfl rfl)
theorem dX3_take_35 : decode cX3_take 35 = .ok (.getfield 15, 3) := dk_180 0 15 (dk_at dksX3_take_1 12 rfl rfl)
theorem dX3_take_38 : decode cX3_take 38 = .ok (.iload_n 2, 1) := dk_28 (dk_at dksX3_take_1 15 rfl rfl)
theorem dX3_take_39 : decode cX3_take 39 = .ok (.iaload, 1) := dk_46 (dk_at dksX3_take_1 16 rfl rfl)
theorem dX3_take_40 : decode cX3_take 40 = .ok (.aload_n 1, 1) := dk_43 (dk_at dksX3_take_1 17 rfl rfl)
theorem dX3_take_41 : decode cX3_take 41 = .ok (.getfield 18, 3) := dk_180 0 18 (dk_at dksX3_take_1 18 rfl rfl)
theorem dX3_take_44 : decode cX3_take 44 = .ok (.iload_n 2, 1) := dk_28 (dk_at dksX3_take_1 21 rfl rfl)
theorem dX3_take_45 : decode cX3_take 45 = .ok (.iaload, 1) := dk_46 (dk_at dksX3_take_1 22 rfl rfl)
theorem dX3_take_46 : decode cX3_take 46 = .ok (.aload_n 1, 1) := dk_43 (dk_at dksX3_take_1 23 rfl rfl)
theorem dX3_take_47 : decode cX3_take 47 = .ok (.getfield 21, 3) := dk_180 0 21 (dk_at dksX3_take_2 0 rfl rfl)
theorem dX3_take_50 : decode cX3_take 50 = .ok (.iload_n 2, 1) := dk_28 (dk_at dksX3_take_2 3 rfl rfl)
theorem dX3_take_51 : decode cX3_take 51 = .ok (.iaload, 1) := dk_46 (dk_at dksX3_take_2 4 rfl rfl)
theorem dX3_take_52 : decode cX3_take 52 = .ok (.aload_n 1, 1) := dk_43 (dk_at dksX3_take_2 5 rfl rfl)
theorem dX3_take_53 : decode cX3_take 53 = .ok (.getfield 24, 3) := dk_180 0 24 (dk_at dksX3_take_2 6 rfl rfl)
theorem dX3_take_56 : decode cX3_take 56 = .ok (.iload_n 2, 1) := dk_28 (dk_at dksX3_take_2 9 rfl rfl)
theorem dX3_take_57 : decode cX3_take 57 = .ok (.baload, 1) := dk_51 (dk_at dksX3_take_2 10 rfl rfl)
theorem dX3_take_58 : decode cX3_take 58 = .ok (.invokevirtual 78, 3) := dk_182 0 78 (dk_at dksX3_take_2 11 rfl rfl)
theorem dX3_take_61 : decode cX3_take 61 = .ok (.iinc 2 1, 3) := dk_132 2 1 (dk_at dksX3_take_2 14 rfl rfl)
theorem dX3_take_64 : decode cX3_take 64 = .ok (.goto (-46), 3) := dk_167 255 210 (dk_at dksX3_take_2 17 rfl rfl)
theorem dX3_take_67 : decode cX3_take 67 = .ok (.iconst 0, 1) := dk_3 (dk_at dksX3_take_2 20 rfl rfl)
theorem dX3_take_68 : decode cX3_take 68 = .ok (.istore_n 2, 1) := dk_61 (dk_at dksX3_take_2 21 rfl rfl)
theorem dX3_take_69 : decode cX3_take 69 = .ok (.iload_n 2, 1) := dk_28 (dk_at dksX3_take_2 22 rfl rfl)
theorem dX3_take_70 : decode cX3_take 70 = .ok (.aload_n 0, 1) := dk_42 (dk_at dksX3_take_2 23 rfl rfl)
theorem dX3_take_71 : decode cX3_take 71 = .ok (.getfield 75, 3) := dk_180 0 75 (dk_at dksX3_take_3 0 rfl rfl)
theorem dX3_take_74 : decode cX3_take 74 = .ok (.if_icmp .ge 38, 3) := dk_162 0 38 (dk_at dksX3_take_3 3 rfl rfl)
theorem dX3_take_77 : decode cX3_take 77 = .ok (.aload_n 0, 1) := dk_42 (dk_at dksX3_take_3 6 rfl rfl)
theorem dX3_take_78 : decode cX3_take 78 = .ok (.iload_n 2, 1) := dk_28 (dk_at dksX3_take_3 7 rfl rfl)
theorem dX3_take_79 : decode cX3_take 79 = .ok (.aload_n 1, 1) := dk_43 (dk_at dksX3_take_3 8 rfl rfl)
theorem dX3_take_80 : decode cX3_take 80 = .ok (.getfield 28, 3) := dk_180 0 28 (dk_at dksX3_take_3 9 rfl rfl)
theorem dX3_take_83 : decode cX3_take 83 = .ok (.iload_n 2, 1) := dk_28 (dk_at dksX3_take_3 12 rfl rfl)
theorem dX3_take_84 : decode cX3_take 84 = .ok (.iaload, 1) := dk_46 (dk_at dksX3_take_3 13 rfl rfl)
theorem dX3_take_85 : decode cX3_take 85 = .ok (.aload_n 1, 1) := dk_43 (dk_at dksX3_take_3 14 rfl rfl)
theorem dX3_take_86 : decode cX3_take 86 = .ok (.getfield 31, 3) := dk_180 0 31 (dk_at dksX3_take_3 15 rfl rfl)
theorem dX3_take_89 : decode cX3_take 89 = .ok (.iload_n 2, 1) := dk_28 (dk_at dksX3_take_3 18 rfl rfl)
theorem dX3_take_90 : decode cX3_take 90 = .ok (.iaload, 1) := dk_46 (dk_at dksX3_take_3 19 rfl rfl)
theorem dX3_take_91 : decode cX3_take 91 = .ok (.aload_n 1, 1) := dk_43 (dk_at dksX3_take_3 20 rfl rfl)
theorem dX3_take_92 : decode cX3_take 92 = .ok (.getfield 34, 3) := dk_180 0 34 (dk_at dksX3_take_3 21 rfl rfl)
theorem dX3_take_95 : decode cX3_take 95 = .ok (.iload_n 2, 1) := dk_28 (dk_at dksX3_take_4 0 rfl rfl)
theorem dX3_take_96 : decode cX3_take 96 = .ok (.iaload, 1) := dk_46 (dk_at dksX3_take_4 1 rfl rfl)
theorem dX3_take_97 : decode cX3_take 97 = .ok (.aload_n 1, 1) := dk_43 (dk_at dksX3_take_4 2 rfl rfl)
theorem dX3_take_98 : decode cX3_take 98 = .ok (.getfield 37, 3) := dk_180 0 37 (dk_at dksX3_take_4 3 rfl rfl)
theorem dX3_take_101 : decode cX3_take 101 = .ok (.iload_n 2, 1) := dk_28 (dk_at dksX3_take_4 6 rfl rfl)
theorem dX3_take_102 : decode cX3_take 102 = .ok (.baload, 1) := dk_51 (dk_at dksX3_take_4 7 rfl rfl)
theorem dX3_take_103 : decode cX3_take 103 = .ok (.invokevirtual 82, 3) := dk_182 0 82 (dk_at dksX3_take_4 8 rfl rfl)
theorem dX3_take_106 : decode cX3_take 106 = .ok (.iinc 2 1, 3) := dk_132 2 1 (dk_at dksX3_take_4 11 rfl rfl)
theorem dX3_take_109 : decode cX3_take 109 = .ok (.goto (-40), 3) := dk_167 255 216 (dk_at dksX3_take_4 14 rfl rfl)
theorem dX3_take_112 : decode cX3_take 112 = .ok (.return_, 1) := dk_177 (dk_at dksX3_take_4 17 rfl rfl)
abbrev cX3_set : ByteArray := prog_12_method_5_code
def yX3_set : MethodName := ⟨RX3, "set", "(IIIIIZ)V"⟩
def dkwX3_set_1 : List UInt8 := [180, 0, 21, 27, 21, 5, 79, 42, 180, 0, 24, 27, 21, 6, 84, 177]
abbrev dktX3_set_1 : List UInt8 := dkwX3_set_1 ++ []
def dkwX3_set_0 : List UInt8 := [42, 180, 0, 9, 27, 28, 79, 42, 180, 0, 15, 27, 29, 79, 42, 180, 0, 18, 27, 21, 4, 79, 42]
abbrev dktX3_set_0 : List UInt8 := dkwX3_set_0 ++ dktX3_set_1
theorem dksX3_set_0 : cX3_set.data.toList.drop 0 = dktX3_set_0 := by decide +kernel
theorem dksX3_set_1 : cX3_set.data.toList.drop 23 = dktX3_set_1 := dk_seg dksX3_set_0 23 rfl rfl
theorem dX3_set_0 : decode cX3_set 0 = .ok (.aload_n 0, 1) := dk_42 (dk_at dksX3_set_0 0 rfl rfl)
theorem dX3_set_1 : decode cX3_set 1 = .ok (.getfield 9, 3) := dk_180 0 9 (dk_at dksX3_set_0 1 rfl rfl)
theorem dX3_set_4 : decode cX3_set 4 = .ok (.iload_n 1, 1) := dk_27 (dk_at dksX3_set_0 4 rfl rfl)
theorem dX3_set_5 : decode cX3_set 5 = .ok (.iload_n 2, 1) := dk_28 (dk_at dksX3_set_0 5 rfl rfl)
theorem dX3_set_6 : decode cX3_set 6 = .ok (.iastore, 1) := dk_79 (dk_at dksX3_set_0 6 rfl rfl)
theorem dX3_set_7 : decode cX3_set 7 = .ok (.aload_n 0, 1) := dk_42 (dk_at dksX3_set_0 7 rfl rfl)
theorem dX3_set_8 : decode cX3_set 8 = .ok (.getfield 15, 3) := dk_180 0 15 (dk_at dksX3_set_0 8 rfl rfl)
theorem dX3_set_11 : decode cX3_set 11 = .ok (.iload_n 1, 1) := dk_27 (dk_at dksX3_set_0 11 rfl rfl)
theorem dX3_set_12 : decode cX3_set 12 = .ok (.iload_n 3, 1) := dk_29 (dk_at dksX3_set_0 12 rfl rfl)
theorem dX3_set_13 : decode cX3_set 13 = .ok (.iastore, 1) := dk_79 (dk_at dksX3_set_0 13 rfl rfl)
theorem dX3_set_14 : decode cX3_set 14 = .ok (.aload_n 0, 1) := dk_42 (dk_at dksX3_set_0 14 rfl rfl)
theorem dX3_set_15 : decode cX3_set 15 = .ok (.getfield 18, 3) := dk_180 0 18 (dk_at dksX3_set_0 15 rfl rfl)
theorem dX3_set_18 : decode cX3_set 18 = .ok (.iload_n 1, 1) := dk_27 (dk_at dksX3_set_0 18 rfl rfl)
theorem dX3_set_19 : decode cX3_set 19 = .ok (.iload 4, 2) := dk_21 4 (dk_at dksX3_set_0 19 rfl rfl)
theorem dX3_set_21 : decode cX3_set 21 = .ok (.iastore, 1) := dk_79 (dk_at dksX3_set_0 21 rfl rfl)
theorem dX3_set_22 : decode cX3_set 22 = .ok (.aload_n 0, 1) := dk_42 (dk_at dksX3_set_0 22 rfl rfl)
theorem dX3_set_23 : decode cX3_set 23 = .ok (.getfield 21, 3) := dk_180 0 21 (dk_at dksX3_set_1 0 rfl rfl)
theorem dX3_set_26 : decode cX3_set 26 = .ok (.iload_n 1, 1) := dk_27 (dk_at dksX3_set_1 3 rfl rfl)
theorem dX3_set_27 : decode cX3_set 27 = .ok (.iload 5, 2) := dk_21 5 (dk_at dksX3_set_1 4 rfl rfl)
theorem dX3_set_29 : decode cX3_set 29 = .ok (.iastore, 1) := dk_79 (dk_at dksX3_set_1 6 rfl rfl)
theorem dX3_set_30 : decode cX3_set 30 = .ok (.aload_n 0, 1) := dk_42 (dk_at dksX3_set_1 7 rfl rfl)
theorem dX3_set_31 : decode cX3_set 31 = .ok (.getfield 24, 3) := dk_180 0 24 (dk_at dksX3_set_1 8 rfl rfl)
theorem dX3_set_34 : decode cX3_set 34 = .ok (.iload_n 1, 1) := dk_27 (dk_at dksX3_set_1 11 rfl rfl)
theorem dX3_set_35 : decode cX3_set 35 = .ok (.iload 6, 2) := dk_21 6 (dk_at dksX3_set_1 12 rfl rfl)
theorem dX3_set_37 : decode cX3_set 37 = .ok (.bastore, 1) := dk_84 (dk_at dksX3_set_1 14 rfl rfl)
theorem dX3_set_38 : decode cX3_set 38 = .ok (.return_, 1) := dk_177 (dk_at dksX3_set_1 15 rfl rfl)
abbrev cX3_setShift : ByteArray := prog_12_method_6_code
def yX3_setShift : MethodName := ⟨RX3, "setShift", "(IIIIZ)V"⟩
def dkwX3_setShift_1 : List UInt8 := [180, 0, 37, 27, 21, 5, 84, 177]
abbrev dktX3_setShift_1 : List UInt8 := dkwX3_setShift_1 ++ []
def dkwX3_setShift_0 : List UInt8 := [42, 180, 0, 28, 27, 28, 79, 42, 180, 0, 31, 27, 29, 79, 42, 180, 0, 34, 27, 21, 4, 79, 42]
abbrev dktX3_setShift_0 : List UInt8 := dkwX3_setShift_0 ++ dktX3_setShift_1
theorem dksX3_setShift_0 : cX3_setShift.data.toList.drop 0 = dktX3_setShift_0 := by decide +kernel
theorem dksX3_setShift_1 : cX3_setShift.data.toList.drop 23 = dktX3_setShift_1 := dk_seg dksX3_setShift_0 23 rfl rfl
theorem dX3_setShift_0 : decode cX3_setShift 0 = .ok (.aload_n 0, 1) := dk_42 (dk_at dksX3_setShift_0 0 rfl rfl)
theorem dX3_setShift_1 : decode cX3_setShift 1 = .ok (.getfield 28, 3) := dk_180 0 28 (dk_at dksX3_setShift_0 1 rfl rfl)
theorem dX3_setShift_4 : decode cX3_setShift 4 = .ok (.iload_n 1, 1) := dk_27 (dk_at dksX3_setShift_0 4 rfl rfl)
theorem dX3_setShift_5 : decode cX3_setShift 5 = .ok (.iload_n 2, 1) := dk_28 (dk_at dksX3_setShift_0 5 rfl rfl)
theorem dX3_setShift_6 : decode cX3_setShift 6 = .ok (.iastore, 1) := dk_79 (dk_at dksX3_setShift_0 6 rfl rfl)
theorem dX3_setShift_7 : decode cX3_setShift 7 = .ok (.aload_n 0, 1) := dk_42 (dk_at dksX3_setShift_0 7 rfl rfl)
theorem dX3_setShift_8 : decode cX3_setShift 8 = .ok (.getfield 31, 3) := dk_180 0 31 (dk_at dksX3_setShift_0 8 rfl rfl)
theorem dX3_setShift_11 : decode cX3_setShift 11 = .ok (.iload_n 1, 1) := dk_27 (dk_at dksX3_setShift_0 11 rfl rfl)
theorem dX3_setShift_12 : decode cX3_setShift 12 = .ok (.iload_n 3, 1) := dk_29 (dk_at dksX3_setShift_0 12 rfl rfl)
theorem dX3_setShift_13 : decode cX3_setShift 13 = .ok (.iastore, 1) := dk_79 (dk_at dksX3_setShift_0 13 rfl rfl)
theorem dX3_setShift_14 : decode cX3_setShift 14 = .ok (.aload_n 0, 1) := dk_42 (dk_at dksX3_setShift_0 14 rfl rfl)
theorem dX3_setShift_15 : decode cX3_setShift 15 = .ok (.getfield 34, 3) := dk_180 0 34 (dk_at dksX3_setShift_0 15 rfl rfl)
theorem dX3_setShift_18 : decode cX3_setShift 18 = .ok (.iload_n 1, 1) := dk_27 (dk_at dksX3_setShift_0 18 rfl rfl)
theorem dX3_setShift_19 : decode cX3_setShift 19 = .ok (.iload 4, 2) := dk_21 4 (dk_at dksX3_setShift_0 19 rfl rfl)
theorem dX3_setShift_21 : decode cX3_setShift 21 = .ok (.iastore, 1) := dk_79 (dk_at dksX3_setShift_0 21 rfl rfl)
theorem dX3_setShift_22 : decode cX3_setShift 22 = .ok (.aload_n 0, 1) := dk_42 (dk_at dksX3_setShift_0 22 rfl rfl)
theorem dX3_setShift_23 : decode cX3_setShift 23 = .ok (.getfield 37, 3) := dk_180 0 37 (dk_at dksX3_setShift_1 0 rfl rfl)
theorem dX3_setShift_26 : decode cX3_setShift 26 = .ok (.iload_n 1, 1) := dk_27 (dk_at dksX3_setShift_1 3 rfl rfl)
theorem dX3_setShift_27 : decode cX3_setShift 27 = .ok (.iload 5, 2) := dk_21 5 (dk_at dksX3_setShift_1 4 rfl rfl)
theorem dX3_setShift_29 : decode cX3_setShift 29 = .ok (.bastore, 1) := dk_84 (dk_at dksX3_setShift_1 6 rfl rfl)
theorem dX3_setShift_30 : decode cX3_setShift 30 = .ok (.return_, 1) := dk_177 (dk_at dksX3_setShift_1 7 rfl rfl)
abbrev cX3_find : ByteArray := prog_12_method_7_code
def yX3_find : MethodName := ⟨RX3, "find", "(III)I"⟩
def dkwX3_find_2 : List UInt8 := [132, 4, 1, 167, 255, 208, 2, 172]
abbrev dktX3_find_2 : List UInt8 := dkwX3_find_2 ++ []
def dkwX3_find_1 : List UInt8 := [180, 0, 15, 21, 4, 46, 28, 160, 0, 17, 42, 180, 0, 18, 21, 4, 46, 29, 160, 0, 6, 21, 4, 172]
abbrev dktX3_find_1 : List UInt8 := dkwX3_find_1 ++ dktX3_find_2
def dkwX3_find_0 : List UInt8 := [3, 54, 4, 21, 4, 42, 180, 0, 71, 162, 0, 45, 42, 180, 0, 9, 21, 4, 46, 27, 160, 0, 28, 42]
abbrev dktX3_find_0 : List UInt8 := dkwX3_find_0 ++ dktX3_find_1
theorem dksX3_find_0 : cX3_find.data.toList.drop 0 = dktX3_find_0 := by decide +kernel
theorem dksX3_find_1 : cX3_find.data.toList.drop 24 = dktX3_find_1 := dk_seg dksX3_find_0 24 rfl rfl
theorem dksX3_find_2 : cX3_find.data.toList.drop 48 = dktX3_find_2 := dk_seg dksX3_find_1 24 rfl rfl
theorem dX3_find_0 : decode cX3_find 0 = .ok (.iconst 0, 1) := dk_3 (dk_at dksX3_find_0 0 rfl rfl)
theorem dX3_find_1 : decode cX3_find 1 = .ok (.istore 4, 2) := dk_54 4 (dk_at dksX3_find_0 1 rfl rfl)
theorem dX3_find_3 : decode cX3_find 3 = .ok (.iload 4, 2) := dk_21 4 (dk_at dksX3_find_0 3 rfl rfl)
theorem dX3_find_5 : decode cX3_find 5 = .ok (.aload_n 0, 1) := dk_42 (dk_at dksX3_find_0 5 rfl rfl)
theorem dX3_find_6 : decode cX3_find 6 = .ok (.getfield 71, 3) := dk_180 0 71 (dk_at dksX3_find_0 6 rfl rfl)
theorem dX3_find_9 : decode cX3_find 9 = .ok (.if_icmp .ge 45, 3) := dk_162 0 45 (dk_at dksX3_find_0 9 rfl rfl)
theorem dX3_find_12 : decode cX3_find 12 = .ok (.aload_n 0, 1) := dk_42 (dk_at dksX3_find_0 12 rfl rfl)
theorem dX3_find_13 : decode cX3_find 13 = .ok (.getfield 9, 3) := dk_180 0 9 (dk_at dksX3_find_0 13 rfl rfl)
theorem dX3_find_16 : decode cX3_find 16 = .ok (.iload 4, 2) := dk_21 4 (dk_at dksX3_find_0 16 rfl rfl)
theorem dX3_find_18 : decode cX3_find 18 = .ok (.iaload, 1) := dk_46 (dk_at dksX3_find_0 18 rfl rfl)
theorem dX3_find_19 : decode cX3_find 19 = .ok (.iload_n 1, 1) := dk_27 (dk_at dksX3_find_0 19 rfl rfl)
theorem dX3_find_20 : decode cX3_find 20 = .ok (.if_icmp .ne 28, 3) := dk_160 0 28 (dk_at dksX3_find_0 20 rfl rfl)
theorem dX3_find_23 : decode cX3_find 23 = .ok (.aload_n 0, 1) := dk_42 (dk_at dksX3_find_0 23 rfl rfl)
theorem dX3_find_24 : decode cX3_find 24 = .ok (.getfield 15, 3) := dk_180 0 15 (dk_at dksX3_find_1 0 rfl rfl)
theorem dX3_find_27 : decode cX3_find 27 = .ok (.iload 4, 2) := dk_21 4 (dk_at dksX3_find_1 3 rfl rfl)
theorem dX3_find_29 : decode cX3_find 29 = .ok (.iaload, 1) := dk_46 (dk_at dksX3_find_1 5 rfl rfl)
theorem dX3_find_30 : decode cX3_find 30 = .ok (.iload_n 2, 1) := dk_28 (dk_at dksX3_find_1 6 rfl rfl)
theorem dX3_find_31 : decode cX3_find 31 = .ok (.if_icmp .ne 17, 3) := dk_160 0 17 (dk_at dksX3_find_1 7 rfl rfl)
theorem dX3_find_34 : decode cX3_find 34 = .ok (.aload_n 0, 1) := dk_42 (dk_at dksX3_find_1 10 rfl rfl)
theorem dX3_find_35 : decode cX3_find 35 = .ok (.getfield 18, 3) := dk_180 0 18 (dk_at dksX3_find_1 11 rfl rfl)
theorem dX3_find_38 : decode cX3_find 38 = .ok (.iload 4, 2) := dk_21 4 (dk_at dksX3_find_1 14 rfl rfl)
theorem dX3_find_40 : decode cX3_find 40 = .ok (.iaload, 1) := dk_46 (dk_at dksX3_find_1 16 rfl rfl)
theorem dX3_find_41 : decode cX3_find 41 = .ok (.iload_n 3, 1) := dk_29 (dk_at dksX3_find_1 17 rfl rfl)
theorem dX3_find_42 : decode cX3_find 42 = .ok (.if_icmp .ne 6, 3) := dk_160 0 6 (dk_at dksX3_find_1 18 rfl rfl)
theorem dX3_find_45 : decode cX3_find 45 = .ok (.iload 4, 2) := dk_21 4 (dk_at dksX3_find_1 21 rfl rfl)
theorem dX3_find_47 : decode cX3_find 47 = .ok (.ireturn, 1) := dk_172 (dk_at dksX3_find_1 23 rfl rfl)
theorem dX3_find_48 : decode cX3_find 48 = .ok (.iinc 4 1, 3) := dk_132 4 1 (dk_at dksX3_find_2 0 rfl rfl)
theorem dX3_find_51 : decode cX3_find 51 = .ok (.goto (-48), 3) := dk_167 255 208 (dk_at dksX3_find_2 3 rfl rfl)
theorem dX3_find_54 : decode cX3_find 54 = .ok (.iconst (-1), 1) := dk_2 (dk_at dksX3_find_2 6 rfl rfl)
theorem dX3_find_55 : decode cX3_find 55 = .ok (.ireturn, 1) := dk_172 (dk_at dksX3_find_2 7 rfl rfl)
abbrev cX3_findShift : ByteArray := prog_12_method_8_code
def yX3_findShift : MethodName := ⟨RX3, "findShift", "(II)I"⟩
def dkwX3_findShift_1 : List UInt8 := [29, 46, 28, 160, 0, 5, 29, 172, 132, 3, 1, 167, 255, 223, 2, 172]
abbrev dktX3_findShift_1 : List UInt8 := dkwX3_findShift_1 ++ []
def dkwX3_findShift_0 : List UInt8 := [3, 62, 29, 42, 180, 0, 75, 162, 0, 31, 42, 180, 0, 28, 29, 46, 27, 160, 0, 15, 42, 180, 0, 31]
abbrev dktX3_findShift_0 : List UInt8 := dkwX3_findShift_0 ++ dktX3_findShift_1
theorem dksX3_findShift_0 : cX3_findShift.data.toList.drop 0 = dktX3_findShift_0 := by decide +kernel
theorem dksX3_findShift_1 : cX3_findShift.data.toList.drop 24 = dktX3_findShift_1 := dk_seg dksX3_findShift_0 24 rfl rfl
theorem dX3_findShift_0 : decode cX3_findShift 0 = .ok (.iconst 0, 1) := dk_3 (dk_at dksX3_findShift_0 0 rfl rfl)
theorem dX3_findShift_1 : decode cX3_findShift 1 = .ok (.istore_n 3, 1) := dk_62 (dk_at dksX3_findShift_0 1 rfl rfl)
theorem dX3_findShift_2 : decode cX3_findShift 2 = .ok (.iload_n 3, 1) := dk_29 (dk_at dksX3_findShift_0 2 rfl rfl)
theorem dX3_findShift_3 : decode cX3_findShift 3 = .ok (.aload_n 0, 1) := dk_42 (dk_at dksX3_findShift_0 3 rfl rfl)
theorem dX3_findShift_4 : decode cX3_findShift 4 = .ok (.getfield 75, 3) := dk_180 0 75 (dk_at dksX3_findShift_0 4 rfl rfl)
theorem dX3_findShift_7 : decode cX3_findShift 7 = .ok (.if_icmp .ge 31, 3) := dk_162 0 31 (dk_at dksX3_findShift_0 7 rfl rfl)
theorem dX3_findShift_10 : decode cX3_findShift 10 = .ok (.aload_n 0, 1) := dk_42 (dk_at dksX3_findShift_0 10 rfl rfl)
theorem dX3_findShift_11 : decode cX3_findShift 11 = .ok (.getfield 28, 3) := dk_180 0 28 (dk_at dksX3_findShift_0 11 rfl rfl)
theorem dX3_findShift_14 : decode cX3_findShift 14 = .ok (.iload_n 3, 1) := dk_29 (dk_at dksX3_findShift_0 14 rfl rfl)
theorem dX3_findShift_15 : decode cX3_findShift 15 = .ok (.iaload, 1) := dk_46 (dk_at dksX3_findShift_0 15 rfl rfl)
theorem dX3_findShift_16 : decode cX3_findShift 16 = .ok (.iload_n 1, 1) := dk_27 (dk_at dksX3_findShift_0 16 rfl rfl)
theorem dX3_findShift_17 : decode cX3_findShift 17 = .ok (.if_icmp .ne 15, 3) := dk_160 0 15 (dk_at dksX3_findShift_0 17 rfl rfl)
theorem dX3_findShift_20 : decode cX3_findShift 20 = .ok (.aload_n 0, 1) := dk_42 (dk_at dksX3_findShift_0 20 rfl rfl)
theorem dX3_findShift_21 : decode cX3_findShift 21 = .ok (.getfield 31, 3) := dk_180 0 31 (dk_at dksX3_findShift_0 21 rfl rfl)
theorem dX3_findShift_24 : decode cX3_findShift 24 = .ok (.iload_n 3, 1) := dk_29 (dk_at dksX3_findShift_1 0 rfl rfl)
theorem dX3_findShift_25 : decode cX3_findShift 25 = .ok (.iaload, 1) := dk_46 (dk_at dksX3_findShift_1 1 rfl rfl)
theorem dX3_findShift_26 : decode cX3_findShift 26 = .ok (.iload_n 2, 1) := dk_28 (dk_at dksX3_findShift_1 2 rfl rfl)
theorem dX3_findShift_27 : decode cX3_findShift 27 = .ok (.if_icmp .ne 5, 3) := dk_160 0 5 (dk_at dksX3_findShift_1 3 rfl rfl)
theorem dX3_findShift_30 : decode cX3_findShift 30 = .ok (.iload_n 3, 1) := dk_29 (dk_at dksX3_findShift_1 6 rfl rfl)
theorem dX3_findShift_31 : decode cX3_findShift 31 = .ok (.ireturn, 1) := dk_172 (dk_at dksX3_findShift_1 7 rfl rfl)
theorem dX3_findShift_32 : decode cX3_findShift 32 = .ok (.iinc 3 1, 3) := dk_132 3 1 (dk_at dksX3_findShift_1 8 rfl rfl)
theorem dX3_findShift_35 : decode cX3_findShift 35 = .ok (.goto (-33), 3) := dk_167 255 223 (dk_at dksX3_findShift_1 11 rfl rfl)
theorem dX3_findShift_38 : decode cX3_findShift 38 = .ok (.iconst (-1), 1) := dk_2 (dk_at dksX3_findShift_1 14 rfl rfl)
theorem dX3_findShift_39 : decode cX3_findShift 39 = .ok (.ireturn, 1) := dk_172 (dk_at dksX3_findShift_1 15 rfl rfl)
abbrev cX3_remove : ByteArray := prog_12_method_9_code
def yX3_remove : MethodName := ⟨RX3, "remove", "(I)V"⟩
def dkwX3_remove_3 : List UInt8 := [177]
abbrev dktX3_remove_3 : List UInt8 := dkwX3_remove_3 ++ []
def dkwX3_remove_2 : List UInt8 := [180, 0, 21, 28, 4, 96, 46, 42, 180, 0, 24, 28, 4, 96, 51, 182, 0, 78, 132, 2, 1, 167, 255, 200]
abbrev dktX3_remove_2 : List UInt8 := dkwX3_remove_2 ++ dktX3_remove_3
def dkwX3_remove_1 : List UInt8 := [180, 0, 9, 28, 4, 96, 46, 42, 180, 0, 15, 28, 4, 96, 46, 42, 180, 0, 18, 28, 4, 96, 46, 42]
abbrev dktX3_remove_1 : List UInt8 := dkwX3_remove_1 ++ dktX3_remove_2
def dkwX3_remove_0 : List UInt8 := [42, 89, 180, 0, 71, 4, 100, 181, 0, 71, 27, 61, 28, 42, 180, 0, 71, 162, 0, 54, 42, 28, 42]
abbrev dktX3_remove_0 : List UInt8 := dkwX3_remove_0 ++ dktX3_remove_1
theorem dksX3_remove_0 : cX3_remove.data.toList.drop 0 = dktX3_remove_0 := by decide +kernel
theorem dksX3_remove_1 : cX3_remove.data.toList.drop 23 = dktX3_remove_1 := dk_seg dksX3_remove_0 23 rfl rfl
theorem dksX3_remove_2 : cX3_remove.data.toList.drop 47 = dktX3_remove_2 := dk_seg dksX3_remove_1 24 rfl rfl
theorem dksX3_remove_3 : cX3_remove.data.toList.drop 71 = dktX3_remove_3 := dk_seg dksX3_remove_2 24 rfl rfl
theorem dX3_remove_0 : decode cX3_remove 0 = .ok (.aload_n 0, 1) := dk_42 (dk_at dksX3_remove_0 0 rfl rfl)
theorem dX3_remove_1 : decode cX3_remove 1 = .ok (.dup, 1) := dk_89 (dk_at dksX3_remove_0 1 rfl rfl)
theorem dX3_remove_2 : decode cX3_remove 2 = .ok (.getfield 71, 3) := dk_180 0 71 (dk_at dksX3_remove_0 2 rfl rfl)
theorem dX3_remove_5 : decode cX3_remove 5 = .ok (.iconst 1, 1) := dk_4 (dk_at dksX3_remove_0 5 rfl rfl)
theorem dX3_remove_6 : decode cX3_remove 6 = .ok (.isub, 1) := dk_100 (dk_at dksX3_remove_0 6 rfl rfl)
theorem dX3_remove_7 : decode cX3_remove 7 = .ok (.putfield 71, 3) := dk_181 0 71 (dk_at dksX3_remove_0 7 rfl rfl)
theorem dX3_remove_10 : decode cX3_remove 10 = .ok (.iload_n 1, 1) := dk_27 (dk_at dksX3_remove_0 10 rfl rfl)
theorem dX3_remove_11 : decode cX3_remove 11 = .ok (.istore_n 2, 1) := dk_61 (dk_at dksX3_remove_0 11 rfl rfl)
theorem dX3_remove_12 : decode cX3_remove 12 = .ok (.iload_n 2, 1) := dk_28 (dk_at dksX3_remove_0 12 rfl rfl)
theorem dX3_remove_13 : decode cX3_remove 13 = .ok (.aload_n 0, 1) := dk_42 (dk_at dksX3_remove_0 13 rfl rfl)
theorem dX3_remove_14 : decode cX3_remove 14 = .ok (.getfield 71, 3) := dk_180 0 71 (dk_at dksX3_remove_0 14 rfl rfl)
theorem dX3_remove_17 : decode cX3_remove 17 = .ok (.if_icmp .ge 54, 3) := dk_162 0 54 (dk_at dksX3_remove_0 17 rfl rfl)
theorem dX3_remove_20 : decode cX3_remove 20 = .ok (.aload_n 0, 1) := dk_42 (dk_at dksX3_remove_0 20 rfl rfl)
theorem dX3_remove_21 : decode cX3_remove 21 = .ok (.iload_n 2, 1) := dk_28 (dk_at dksX3_remove_0 21 rfl rfl)
theorem dX3_remove_22 : decode cX3_remove 22 = .ok (.aload_n 0, 1) := dk_42 (dk_at dksX3_remove_0 22 rfl rfl)
theorem dX3_remove_23 : decode cX3_remove 23 = .ok (.getfield 9, 3) := dk_180 0 9 (dk_at dksX3_remove_1 0 rfl rfl)
theorem dX3_remove_26 : decode cX3_remove 26 = .ok (.iload_n 2, 1) := dk_28 (dk_at dksX3_remove_1 3 rfl rfl)
theorem dX3_remove_27 : decode cX3_remove 27 = .ok (.iconst 1, 1) := dk_4 (dk_at dksX3_remove_1 4 rfl rfl)
theorem dX3_remove_28 : decode cX3_remove 28 = .ok (.iadd, 1) := dk_96 (dk_at dksX3_remove_1 5 rfl rfl)
theorem dX3_remove_29 : decode cX3_remove 29 = .ok (.iaload, 1) := dk_46 (dk_at dksX3_remove_1 6 rfl rfl)
theorem dX3_remove_30 : decode cX3_remove 30 = .ok (.aload_n 0, 1) := dk_42 (dk_at dksX3_remove_1 7 rfl rfl)
theorem dX3_remove_31 : decode cX3_remove 31 = .ok (.getfield 15, 3) := dk_180 0 15 (dk_at dksX3_remove_1 8 rfl rfl)
theorem dX3_remove_34 : decode cX3_remove 34 = .ok (.iload_n 2, 1) := dk_28 (dk_at dksX3_remove_1 11 rfl rfl)
theorem dX3_remove_35 : decode cX3_remove 35 = .ok (.iconst 1, 1) := dk_4 (dk_at dksX3_remove_1 12 rfl rfl)
theorem dX3_remove_36 : decode cX3_remove 36 = .ok (.iadd, 1) := dk_96 (dk_at dksX3_remove_1 13 rfl rfl)
theorem dX3_remove_37 : decode cX3_remove 37 = .ok (.iaload, 1) := dk_46 (dk_at dksX3_remove_1 14 rfl rfl)
theorem dX3_remove_38 : decode cX3_remove 38 = .ok (.aload_n 0, 1) := dk_42 (dk_at dksX3_remove_1 15 rfl rfl)
theorem dX3_remove_39 : decode cX3_remove 39 = .ok (.getfield 18, 3) := dk_180 0 18 (dk_at dksX3_remove_1 16 rfl rfl)
theorem dX3_remove_42 : decode cX3_remove 42 = .ok (.iload_n 2, 1) := dk_28 (dk_at dksX3_remove_1 19 rfl rfl)
theorem dX3_remove_43 : decode cX3_remove 43 = .ok (.iconst 1, 1) := dk_4 (dk_at dksX3_remove_1 20 rfl rfl)
theorem dX3_remove_44 : decode cX3_remove 44 = .ok (.iadd, 1) := dk_96 (dk_at dksX3_remove_1 21 rfl rfl)
theorem dX3_remove_45 : decode cX3_remove 45 = .ok (.iaload, 1) := dk_46 (dk_at dksX3_remove_1 22 rfl rfl)
theorem dX3_remove_46 : decode cX3_remove 46 = .ok (.aload_n 0, 1) := dk_42 (dk_at dksX3_remove_1 23 rfl rfl)
theorem dX3_remove_47 : decode cX3_remove 47 = .ok (.getfield 21, 3) := dk_180 0 21 (dk_at dksX3_remove_2 0 rfl rfl)
theorem dX3_remove_50 : decode cX3_remove 50 = .ok (.iload_n 2, 1) := dk_28 (dk_at dksX3_remove_2 3 rfl rfl)
theorem dX3_remove_51 : decode cX3_remove 51 = .ok (.iconst 1, 1) := dk_4 (dk_at dksX3_remove_2 4 rfl rfl)
theorem dX3_remove_52 : decode cX3_remove 52 = .ok (.iadd, 1) := dk_96 (dk_at dksX3_remove_2 5 rfl rfl)
theorem dX3_remove_53 : decode cX3_remove 53 = .ok (.iaload, 1) := dk_46 (dk_at dksX3_remove_2 6 rfl rfl)
theorem dX3_remove_54 : decode cX3_remove 54 = .ok (.aload_n 0, 1) := dk_42 (dk_at dksX3_remove_2 7 rfl rfl)
theorem dX3_remove_55 : decode cX3_remove 55 = .ok (.getfield 24, 3) := dk_180 0 24 (dk_at dksX3_remove_2 8 rfl rfl)
theorem dX3_remove_58 : decode cX3_remove 58 = .ok (.iload_n 2, 1) := dk_28 (dk_at dksX3_remove_2 11 rfl rfl)
theorem dX3_remove_59 : decode cX3_remove 59 = .ok (.iconst 1, 1) := dk_4 (dk_at dksX3_remove_2 12 rfl rfl)
theorem dX3_remove_60 : decode cX3_remove 60 = .ok (.iadd, 1) := dk_96 (dk_at dksX3_remove_2 13 rfl rfl)
theorem dX3_remove_61 : decode cX3_remove 61 = .ok (.baload, 1) := dk_51 (dk_at dksX3_remove_2 14 rfl rfl)
theorem dX3_remove_62 : decode cX3_remove 62 = .ok (.invokevirtual 78, 3) := dk_182 0 78 (dk_at dksX3_remove_2 15 rfl rfl)
theorem dX3_remove_65 : decode cX3_remove 65 = .ok (.iinc 2 1, 3) := dk_132 2 1 (dk_at dksX3_remove_2 18 rfl rfl)
theorem dX3_remove_68 : decode cX3_remove 68 = .ok (.goto (-56), 3) := dk_167 255 200 (dk_at dksX3_remove_2 21 rfl rfl)
theorem dX3_remove_71 : decode cX3_remove 71 = .ok (.return_, 1) := dk_177 (dk_at dksX3_remove_3 0 rfl rfl)
abbrev cX3_removeShift : ByteArray := prog_12_method_10_code
def yX3_removeShift : MethodName := ⟨RX3, "removeShift", "(I)V"⟩
def dkwX3_removeShift_2 : List UInt8 := [180, 0, 37, 28, 4, 96, 51, 182, 0, 82, 132, 2, 1, 167, 255, 208, 177]
abbrev dktX3_removeShift_2 : List UInt8 := dkwX3_removeShift_2 ++ []
def dkwX3_removeShift_1 : List UInt8 := [180, 0, 28, 28, 4, 96, 46, 42, 180, 0, 31, 28, 4, 96, 46, 42, 180, 0, 34, 28, 4, 96, 46, 42]
abbrev dktX3_removeShift_1 : List UInt8 := dkwX3_removeShift_1 ++ dktX3_removeShift_2
def dkwX3_removeShift_0 : List UInt8 := [42, 89, 180, 0, 75, 4, 100, 181, 0, 75, 27, 61, 28, 42, 180, 0, 75, 162, 0, 46, 42, 28, 42]
abbrev dktX3_removeShift_0 : List UInt8 := dkwX3_removeShift_0 ++ dktX3_removeShift_1
theorem dksX3_removeShift_0 : cX3_removeShift.data.toList.drop 0 = dktX3_removeShift_0 := by decide +kernel
theorem dksX3_removeShift_1 : cX3_removeShift.data.toList.drop 23 = dktX3_removeShift_1 := dk_seg dksX3_removeShift_0 23 rfl rfl
theorem dksX3_removeShift_2 : cX3_removeShift.data.toList.drop 47 = dktX3_removeShift_2 := dk_seg dksX3_removeShift_1 24 rfl rfl
theorem dX3_removeShift_0 : decode cX3_removeShift 0 = .ok (.aload_n 0, 1) := dk_42 (dk_at dksX3_removeShift_0 0 rfl rfl)
theorem dX3_removeShift_1 : decode cX3_removeShift 1 = .ok (.dup, 1) := dk_89 (dk_at dksX3_removeShift_0 1 rfl rfl)
theorem dX3_removeShift_2 : decode cX3_removeShift 2 = .ok (.getfield 75, 3) := dk_180 0 75 (dk_at dksX3_removeShift_0 2 rfl rfl)
theorem dX3_removeShift_5 : decode cX3_removeShift 5 = .ok (.iconst 1, 1) := dk_4 (dk_at dksX3_removeShift_0 5 rfl rfl)
theorem dX3_removeShift_6 : decode cX3_removeShift 6 = .ok (.isub, 1) := dk_100 (dk_at dksX3_removeShift_0 6 rfl rfl)
theorem dX3_removeShift_7 : decode cX3_removeShift 7 = .ok (.putfield 75, 3) := dk_181 0 75 (dk_at dksX3_removeShift_0 7 rfl rfl)
theorem dX3_removeShift_10 : decode cX3_removeShift 10 = .ok (.iload_n 1, 1) := dk_27 (dk_at dksX3_removeShift_0 10 rfl rfl)
theorem dX3_removeShift_11 : decode cX3_removeShift 11 = .ok (.istore_n 2, 1) := dk_61 (dk_at dksX3_removeShift_0 11 rfl rfl)
theorem dX3_removeShift_12 : decode cX3_removeShift 12 = .ok (.iload_n 2, 1) := dk_28 (dk_at dksX3_removeShift_0 12 rfl rfl)
theorem dX3_removeShift_13 : decode cX3_removeShift 13 = .ok (.aload_n 0, 1) := dk_42 (dk_at dksX3_removeShift_0 13 rfl rfl)
theorem dX3_removeShift_14 : decode cX3_removeShift 14 = .ok (.getfield 75, 3) := dk_180 0 75 (dk_at dksX3_removeShift_0 14 rfl rfl)
theorem dX3_removeShift_17 : decode cX3_removeShift 17 = .ok (.if_icmp .ge 46, 3) := dk_162 0 46 (dk_at dksX3_removeShift_0 17 rfl rfl)
theorem dX3_removeShift_20 : decode cX3_removeShift 20 = .ok (.aload_n 0, 1) := dk_42 (dk_at dksX3_removeShift_0 20 rfl rfl)
theorem dX3_removeShift_21 : decode cX3_removeShift 21 = .ok (.iload_n 2, 1) := dk_28 (dk_at dksX3_removeShift_0 21 rfl rfl)
theorem dX3_removeShift_22 : decode cX3_removeShift 22 = .ok (.aload_n 0, 1) := dk_42 (dk_at dksX3_removeShift_0 22 rfl rfl)
theorem dX3_removeShift_23 : decode cX3_removeShift 23 = .ok (.getfield 28, 3) := dk_180 0 28 (dk_at dksX3_removeShift_1 0 rfl rfl)
theorem dX3_removeShift_26 : decode cX3_removeShift 26 = .ok (.iload_n 2, 1) := dk_28 (dk_at dksX3_removeShift_1 3 rfl rfl)
theorem dX3_removeShift_27 : decode cX3_removeShift 27 = .ok (.iconst 1, 1) := dk_4 (dk_at dksX3_removeShift_1 4 rfl rfl)
theorem dX3_removeShift_28 : decode cX3_removeShift 28 = .ok (.iadd, 1) := dk_96 (dk_at dksX3_removeShift_1 5 rfl rfl)
theorem dX3_removeShift_29 : decode cX3_removeShift 29 = .ok (.iaload, 1) := dk_46 (dk_at dksX3_removeShift_1 6 rfl rfl)
theorem dX3_removeShift_30 : decode cX3_removeShift 30 = .ok (.aload_n 0, 1) := dk_42 (dk_at dksX3_removeShift_1 7 rfl rfl)
theorem dX3_removeShift_31 : decode cX3_removeShift 31 = .ok (.getfield 31, 3) := dk_180 0 31 (dk_at dksX3_removeShift_1 8 rfl rfl)
theorem dX3_removeShift_34 : decode cX3_removeShift 34 = .ok (.iload_n 2, 1) := dk_28 (dk_at dksX3_removeShift_1 11 rfl rfl)
theorem dX3_removeShift_35 : decode cX3_removeShift 35 = .ok (.iconst 1, 1) := dk_4 (dk_at dksX3_removeShift_1 12 rfl rfl)
theorem dX3_removeShift_36 : decode cX3_removeShift 36 = .ok (.iadd, 1) := dk_96 (dk_at dksX3_removeShift_1 13 rfl rfl)
theorem dX3_removeShift_37 : decode cX3_removeShift 37 = .ok (.iaload, 1) := dk_46 (dk_at dksX3_removeShift_1 14 rfl rfl)
theorem dX3_removeShift_38 : decode cX3_removeShift 38 = .ok (.aload_n 0, 1) := dk_42 (dk_at dksX3_removeShift_1 15 rfl rfl)
theorem dX3_removeShift_39 : decode cX3_removeShift 39 = .ok (.getfield 34, 3) := dk_180 0 34 (dk_at dksX3_removeShift_1 16 rfl rfl)
theorem dX3_removeShift_42 : decode cX3_removeShift 42 = .ok (.iload_n 2, 1) := dk_28 (dk_at dksX3_removeShift_1 19 rfl rfl)
theorem dX3_removeShift_43 : decode cX3_removeShift 43 = .ok (.iconst 1, 1) := dk_4 (dk_at dksX3_removeShift_1 20 rfl rfl)
theorem dX3_removeShift_44 : decode cX3_removeShift 44 = .ok (.iadd, 1) := dk_96 (dk_at dksX3_removeShift_1 21 rfl rfl)
theorem dX3_removeShift_45 : decode cX3_removeShift 45 = .ok (.iaload, 1) := dk_46 (dk_at dksX3_removeShift_1 22 rfl rfl)
theorem dX3_removeShift_46 : decode cX3_removeShift 46 = .ok (.aload_n 0, 1) := dk_42 (dk_at dksX3_removeShift_1 23 rfl rfl)
theorem dX3_removeShift_47 : decode cX3_removeShift 47 = .ok (.getfield 37, 3) := dk_180 0 37 (dk_at dksX3_removeShift_2 0 rfl rfl)
theorem dX3_removeShift_50 : decode cX3_removeShift 50 = .ok (.iload_n 2, 1) := dk_28 (dk_at dksX3_removeShift_2 3 rfl rfl)
theorem dX3_removeShift_51 : decode cX3_removeShift 51 = .ok (.iconst 1, 1) := dk_4 (dk_at dksX3_removeShift_2 4 rfl rfl)
theorem dX3_removeShift_52 : decode cX3_removeShift 52 = .ok (.iadd, 1) := dk_96 (dk_at dksX3_removeShift_2 5 rfl rfl)
theorem dX3_removeShift_53 : decode cX3_removeShift 53 = .ok (.baload, 1) := dk_51 (dk_at dksX3_removeShift_2 6 rfl rfl)
theorem dX3_removeShift_54 : decode cX3_removeShift 54 = .ok (.invokevirtual 82, 3) := dk_182 0 82 (dk_at dksX3_removeShift_2 7 rfl rfl)
theorem dX3_removeShift_57 : decode cX3_removeShift 57 = .ok (.iinc 2 1, 3) := dk_132 2 1 (dk_at dksX3_removeShift_2 10 rfl rfl)
theorem dX3_removeShift_60 : decode cX3_removeShift 60 = .ok (.goto (-48), 3) := dk_167 255 208 (dk_at dksX3_removeShift_2 13 rfl rfl)
theorem dX3_removeShift_63 : decode cX3_removeShift 63 = .ok (.return_, 1) := dk_177 (dk_at dksX3_removeShift_2 16 rfl rfl)
abbrev cX3_isBad : ByteArray := prog_12_method_22_code
def yX3_isBad : MethodName := ⟨RX3, "isBad", "()Z"⟩
def dkwX3_isBad_1 : List UInt8 := [154, 0, 10, 42, 182, 0, 139, 153, 0, 7, 4, 167, 0, 4, 3, 172]
abbrev dktX3_isBad_1 : List UInt8 := dkwX3_isBad_1 ++ []
def dkwX3_isBad_0 : List UInt8 := [42, 182, 0, 126, 42, 182, 0, 129, 154, 0, 24, 42, 182, 0, 133, 154, 0, 17, 42, 182, 0, 136]
abbrev dktX3_isBad_0 : List UInt8 := dkwX3_isBad_0 ++ dktX3_isBad_1
theorem dksX3_isBad_0 : cX3_isBad.data.toList.drop 0 = dktX3_isBad_0 := by decide +kernel
theorem dksX3_isBad_1 : cX3_isBad.data.toList.drop 22 = dktX3_isBad_1 := dk_seg dksX3_isBad_0 22 rfl rfl
theorem dX3_isBad_0 : decode cX3_isBad 0 = .ok (.aload_n 0, 1) := dk_42 (dk_at dksX3_isBad_0 0 rfl rfl)
theorem dX3_isBad_1 : decode cX3_isBad 1 = .ok (.invokevirtual 126, 3) := dk_182 0 126 (dk_at dksX3_isBad_0 1 rfl rfl)
theorem dX3_isBad_4 : decode cX3_isBad 4 = .ok (.aload_n 0, 1) := dk_42 (dk_at dksX3_isBad_0 4 rfl rfl)
theorem dX3_isBad_5 : decode cX3_isBad 5 = .ok (.invokevirtual 129, 3) := dk_182 0 129 (dk_at dksX3_isBad_0 5 rfl rfl)
theorem dX3_isBad_8 : decode cX3_isBad 8 = .ok (.ifCond .ne 24, 3) := dk_154 0 24 (dk_at dksX3_isBad_0 8 rfl rfl)
theorem dX3_isBad_11 : decode cX3_isBad 11 = .ok (.aload_n 0, 1) := dk_42 (dk_at dksX3_isBad_0 11 rfl rfl)
theorem dX3_isBad_12 : decode cX3_isBad 12 = .ok (.invokevirtual 133, 3) := dk_182 0 133 (dk_at dksX3_isBad_0 12 rfl rfl)
theorem dX3_isBad_15 : decode cX3_isBad 15 = .ok (.ifCond .ne 17, 3) := dk_154 0 17 (dk_at dksX3_isBad_0 15 rfl rfl)
theorem dX3_isBad_18 : decode cX3_isBad 18 = .ok (.aload_n 0, 1) := dk_42 (dk_at dksX3_isBad_0 18 rfl rfl)
theorem dX3_isBad_19 : decode cX3_isBad 19 = .ok (.invokevirtual 136, 3) := dk_182 0 136 (dk_at dksX3_isBad_0 19 rfl rfl)
theorem dX3_isBad_22 : decode cX3_isBad 22 = .ok (.ifCond .ne 10, 3) := dk_154 0 10 (dk_at dksX3_isBad_1 0 rfl rfl)
theorem dX3_isBad_25 : decode cX3_isBad 25 = .ok (.aload_n 0, 1) := dk_42 (dk_at dksX3_isBad_1 3 rfl rfl)
theorem dX3_isBad_26 : decode cX3_isBad 26 = .ok (.invokevirtual 139, 3) := dk_182 0 139 (dk_at dksX3_isBad_1 4 rfl rfl)
theorem dX3_isBad_29 : decode cX3_isBad 29 = .ok (.ifCond .eq 7, 3) := dk_153 0 7 (dk_at dksX3_isBad_1 7 rfl rfl)
theorem dX3_isBad_32 : decode cX3_isBad 32 = .ok (.iconst 1, 1) := dk_4 (dk_at dksX3_isBad_1 10 rfl rfl)
theorem dX3_isBad_33 : decode cX3_isBad 33 = .ok (.goto 4, 3) := dk_167 0 4 (dk_at dksX3_isBad_1 11 rfl rfl)
theorem dX3_isBad_36 : decode cX3_isBad 36 = .ok (.iconst 0, 1) := dk_3 (dk_at dksX3_isBad_1 14 rfl rfl)
theorem dX3_isBad_37 : decode cX3_isBad 37 = .ok (.ireturn, 1) := dk_172 (dk_at dksX3_isBad_1 15 rfl rfl)
abbrev cX3_walk : ByteArray := prog_12_method_24_code
def yX3_walk : MethodName := ⟨RX3, "walk", "()V"⟩
def dkwX3_walk_7 : List UInt8 := [167, 255, 242, 132, 1, 1, 167, 255, 125, 177]
abbrev dktX3_walk_7 : List UInt8 := dkwX3_walk_7 ++ []
def dkwX3_walk_6 : List UInt8 := [132, 2, 1, 167, 255, 157, 3, 61, 28, 7, 162, 0, 15, 42, 27, 28, 182, 0, 146, 132, 2, 1]
abbrev dktX3_walk_6 : List UInt8 := dkwX3_walk_6 ++ dktX3_walk_7
def dkwX3_walk_5 : List UInt8 := [21, 4, 47, 16, 8, 121, 42, 180, 0, 31, 29, 46, 133, 129, 182, 0, 142, 132, 3, 1, 167, 255, 170]
abbrev dktX3_walk_5 : List UInt8 := dkwX3_walk_5 ++ dktX3_walk_6
def dkwX3_walk_4 : List UInt8 := [42, 42, 180, 0, 51, 42, 180, 0, 54, 7, 27, 104, 42, 180, 0, 34, 29, 46, 96, 28, 42, 180, 0, 54]
abbrev dktX3_walk_4 : List UInt8 := dkwX3_walk_4 ++ dktX3_walk_5
def dkwX3_walk_3 : List UInt8 := [54, 4, 42, 180, 0, 37, 29, 51, 153, 0, 57, 42, 180, 0, 51, 21, 4, 46, 28, 4, 100, 160, 0, 44]
abbrev dktX3_walk_3 : List UInt8 := dkwX3_walk_3 ++ dktX3_walk_4
def dkwX3_walk_2 : List UInt8 := [7, 162, 0, 100, 3, 62, 29, 42, 180, 0, 75, 162, 0, 84, 7, 27, 104, 42, 180, 0, 28, 29, 46, 96]
abbrev dktX3_walk_2 : List UInt8 := dkwX3_walk_2 ++ dktX3_walk_3
def dkwX3_walk_1 : List UInt8 := [79, 42, 180, 0, 54, 27, 9, 80, 132, 1, 1, 167, 255, 223, 3, 60, 27, 7, 162, 0, 132, 4, 61, 28]
abbrev dktX3_walk_1 : List UInt8 := dkwX3_walk_1 ++ dktX3_walk_2
def dkwX3_walk_0 : List UInt8 := [3, 60, 27, 16, 16, 162, 0, 33, 42, 180, 0, 51, 27, 27, 8, 112, 154, 0, 7, 3, 167, 0, 4, 2]
abbrev dktX3_walk_0 : List UInt8 := dkwX3_walk_0 ++ dktX3_walk_1
theorem dksX3_walk_0 : cX3_walk.data.toList.drop 0 = dktX3_walk_0 := by decide +kernel
theorem dksX3_walk_1 : cX3_walk.data.toList.drop 24 = dktX3_walk_1 := dk_seg dksX3_walk_0 24 rfl rfl
theorem dksX3_walk_2 : cX3_walk.data.toList.drop 48 = dktX3_walk_2 := dk_seg dksX3_walk_1 24 rfl rfl
theorem dksX3_walk_3 : cX3_walk.data.toList.drop 72 = dktX3_walk_3 := dk_seg dksX3_walk_2 24 rfl rfl
theorem dksX3_walk_4 : cX3_walk.data.toList.drop 96 = dktX3_walk_4 := dk_seg dksX3_walk_3 24 rfl rfl
theorem dksX3_walk_5 : cX3_walk.data.toList.drop 120 = dktX3_walk_5 := dk_seg dksX3_walk_4 24 rfl rfl
theorem dksX3_walk_6 : cX3_walk.data.toList.drop 143 = dktX3_walk_6 := dk_seg dksX3_walk_5 23 rfl rfl
theorem dksX3_walk_7 : cX3_walk.data.toList.drop 165 = dktX3_walk_7 := dk_seg dksX3_walk_6 22 rfl rfl
theorem dX3_walk_0 : decode cX3_walk 0 = .ok (.iconst 0, 1) := dk_3 (dk_at dksX3_walk_0 0 rfl rfl)
theorem dX3_walk_1 : decode cX3_walk 1 = .ok (.istore_n 1, 1) := dk_60 (dk_at dksX3_walk_0 1 rfl rfl)
theorem dX3_walk_2 : decode cX3_walk 2 = .ok (.iload_n 1, 1) := dk_27 (dk_at dksX3_walk_0 2 rfl rfl)
theorem dX3_walk_3 : decode cX3_walk 3 = .ok (.bipush 16, 2) := dk_16 16 (dk_at dksX3_walk_0 3 rfl rfl)
theorem dX3_walk_5 : decode cX3_walk 5 = .ok (.if_icmp .ge 33, 3) := dk_162 0 33 (dk_at dksX3_walk_0 5 rfl rfl)
theorem dX3_walk_8 : decode cX3_walk 8 = .ok (.aload_n 0, 1) := dk_42 (dk_at dksX3_walk_0 8 rfl rfl)
theorem dX3_walk_9 : decode cX3_walk 9 = .ok (.getfield 51, 3) := dk_180 0 51 (dk_at dksX3_walk_0 9 rfl rfl)
theorem dX3_walk_12 : decode cX3_walk 12 = .ok (.iload_n 1, 1) := dk_27 (dk_at dksX3_walk_0 12 rfl rfl)
theorem dX3_walk_13 : decode cX3_walk 13 = .ok (.iload_n 1, 1) := dk_27 (dk_at dksX3_walk_0 13 rfl rfl)
theorem dX3_walk_14 : decode cX3_walk 14 = .ok (.iconst 5, 1) := dk_8 (dk_at dksX3_walk_0 14 rfl rfl)
theorem dX3_walk_15 : decode cX3_walk 15 = .ok (.irem, 1) := dk_112 (dk_at dksX3_walk_0 15 rfl rfl)
theorem dX3_walk_16 : decode cX3_walk 16 = .ok (.ifCond .ne 7, 3) := dk_154 0 7 (dk_at dksX3_walk_0 16 rfl rfl)
theorem dX3_walk_19 : decode cX3_walk 19 = .ok (.iconst 0, 1) := dk_3 (dk_at dksX3_walk_0 19 rfl rfl)
theorem dX3_walk_20 : decode cX3_walk 20 = .ok (.goto 4, 3) := dk_167 0 4 (dk_at dksX3_walk_0 20 rfl rfl)
theorem dX3_walk_23 : decode cX3_walk 23 = .ok (.iconst (-1), 1) := dk_2 (dk_at dksX3_walk_0 23 rfl rfl)
theorem dX3_walk_24 : decode cX3_walk 24 = .ok (.iastore, 1) := dk_79 (dk_at dksX3_walk_1 0 rfl rfl)
theorem dX3_walk_25 : decode cX3_walk 25 = .ok (.aload_n 0, 1) := dk_42 (dk_at dksX3_walk_1 1 rfl rfl)
theorem dX3_walk_26 : decode cX3_walk 26 = .ok (.getfield 54, 3) := dk_180 0 54 (dk_at dksX3_walk_1 2 rfl rfl)
theorem dX3_walk_29 : decode cX3_walk 29 = .ok (.iload_n 1, 1) := dk_27 (dk_at dksX3_walk_1 5 rfl rfl)
theorem dX3_walk_30 : decode cX3_walk 30 = .ok (.lconst 0, 1) := dk_9 (dk_at dksX3_walk_1 6 rfl rfl)
theorem dX3_walk_31 : decode cX3_walk 31 = .ok (.lastore, 1) := dk_80 (dk_at dksX3_walk_1 7 rfl rfl)
theorem dX3_walk_32 : decode cX3_walk 32 = .ok (.iinc 1 1, 3) := dk_132 1 1 (dk_at dksX3_walk_1 8 rfl rfl)
theorem dX3_walk_35 : decode cX3_walk 35 = .ok (.goto (-33), 3) := dk_167 255 223 (dk_at dksX3_walk_1 11 rfl rfl)
theorem dX3_walk_38 : decode cX3_walk 38 = .ok (.iconst 0, 1) := dk_3 (dk_at dksX3_walk_1 14 rfl rfl)
theorem dX3_walk_39 : decode cX3_walk 39 = .ok (.istore_n 1, 1) := dk_60 (dk_at dksX3_walk_1 15 rfl rfl)
theorem dX3_walk_40 : decode cX3_walk 40 = .ok (.iload_n 1, 1) := dk_27 (dk_at dksX3_walk_1 16 rfl rfl)
theorem dX3_walk_41 : decode cX3_walk 41 = .ok (.iconst 4, 1) := dk_7 (dk_at dksX3_walk_1 17 rfl rfl)
theorem dX3_walk_42 : decode cX3_walk 42 = .ok (.if_icmp .ge 132, 3) := dk_162 0 132 (dk_at dksX3_walk_1 18 rfl rfl)
theorem dX3_walk_45 : decode cX3_walk 45 = .ok (.iconst 1, 1) := dk_4 (dk_at dksX3_walk_1 21 rfl rfl)
theorem dX3_walk_46 : decode cX3_walk 46 = .ok (.istore_n 2, 1) := dk_61 (dk_at dksX3_walk_1 22 rfl rfl)
theorem dX3_walk_47 : decode cX3_walk 47 = .ok (.iload_n 2, 1) := dk_28 (dk_at dksX3_walk_1 23 rfl rfl)
theorem dX3_walk_48 : decode cX3_walk 48 = .ok (.iconst 4, 1) := dk_7 (dk_at dksX3_walk_2 0 rfl rfl)
theorem dX3_walk_49 : decode cX3_walk 49 = .ok (.if_icmp .ge 100, 3) := dk_162 0 100 (dk_at dksX3_walk_2 1 rfl rfl)
theorem dX3_walk_52 : decode cX3_walk 52 = .ok (.iconst 0, 1) := dk_3 (dk_at dksX3_walk_2 4 rfl rfl)
theorem dX3_walk_53 : decode cX3_walk 53 = .ok (.istore_n 3, 1) := dk_62 (dk_at dksX3_walk_2 5 rfl rfl)
theorem dX3_walk_54 : decode cX3_walk 54 = .ok (.iload_n 3, 1) := dk_29 (dk_at dksX3_walk_2 6 rfl rfl)
theorem dX3_walk_55 : decode cX3_walk 55 = .ok (.aload_n 0, 1) := dk_42 (dk_at dksX3_walk_2 7 rfl rfl)
theorem dX3_walk_56 : decode cX3_walk 56 = .ok (.getfield 75, 3) := dk_180 0 75 (dk_at dksX3_walk_2 8 rfl rfl)
theorem dX3_walk_59 : decode cX3_walk 59 = .ok (.if_icmp .ge 84, 3) := dk_162 0 84 (dk_at dksX3_walk_2 11 rfl rfl)
theorem dX3_walk_62 : decode cX3_walk 62 = .ok (.iconst 4, 1) := dk_7 (dk_at dksX3_walk_2 14 rfl rfl)
theorem dX3_walk_63 : decode cX3_walk 63 = .ok (.iload_n 1, 1) := dk_27 (dk_at dksX3_walk_2 15 rfl rfl)
theorem dX3_walk_64 : decode cX3_walk 64 = .ok (.imul, 1) := dk_104 (dk_at dksX3_walk_2 16 rfl rfl)
theorem dX3_walk_65 : decode cX3_walk 65 = .ok (.aload_n 0, 1) := dk_42 (dk_at dksX3_walk_2 17 rfl rfl)
theorem dX3_walk_66 : decode cX3_walk 66 = .ok (.getfield 28, 3) := dk_180 0 28 (dk_at dksX3_walk_2 18 rfl rfl)
theorem dX3_walk_69 : decode cX3_walk 69 = .ok (.iload_n 3, 1) := dk_29 (dk_at dksX3_walk_2 21 rfl rfl)
theorem dX3_walk_70 : decode cX3_walk 70 = .ok (.iaload, 1) := dk_46 (dk_at dksX3_walk_2 22 rfl rfl)
theorem dX3_walk_71 : decode cX3_walk 71 = .ok (.iadd, 1) := dk_96 (dk_at dksX3_walk_2 23 rfl rfl)
theorem dX3_walk_72 : decode cX3_walk 72 = .ok (.istore 4, 2) := dk_54 4 (dk_at dksX3_walk_3 0 rfl rfl)
theorem dX3_walk_74 : decode cX3_walk 74 = .ok (.aload_n 0, 1) := dk_42 (dk_at dksX3_walk_3 2 rfl rfl)
theorem dX3_walk_75 : decode cX3_walk 75 = .ok (.getfield 37, 3) := dk_180 0 37 (dk_at dksX3_walk_3 3 rfl rfl)
theorem dX3_walk_78 : decode cX3_walk 78 = .ok (.iload_n 3, 1) := dk_29 (dk_at dksX3_walk_3 6 rfl rfl)
theorem dX3_walk_79 : decode cX3_walk 79 = .ok (.baload, 1) := dk_51 (dk_at dksX3_walk_3 7 rfl rfl)
theorem dX3_walk_80 : decode cX3_walk 80 = .ok (.ifCond .eq 57, 3) := dk_153 0 57 (dk_at dksX3_walk_3 8 rfl rfl)
theorem dX3_walk_83 : decode cX3_walk 83 = .ok (.aload_n 0, 1) := dk_42 (dk_at dksX3_walk_3 11 rfl rfl)
theorem dX3_walk_84 : decode cX3_walk 84 = .ok (.getfield 51, 3) := dk_180 0 51 (dk_at dksX3_walk_3 12 rfl rfl)
theorem dX3_walk_87 : decode cX3_walk 87 = .ok (.iload 4, 2) := dk_21 4 (dk_at dksX3_walk_3 15 rfl rfl)
theorem dX3_walk_89 : decode cX3_walk 89 = .ok (.iaload, 1) := dk_46 (dk_at dksX3_walk_3 17 rfl rfl)
theorem dX3_walk_90 : decode cX3_walk 90 = .ok (.iload_n 2, 1) := dk_28 (dk_at dksX3_walk_3 18 rfl rfl)
theorem dX3_walk_91 : decode cX3_walk 91 = .ok (.iconst 1, 1) := dk_4 (dk_at dksX3_walk_3 19 rfl rfl)
theorem dX3_walk_92 : decode cX3_walk 92 = .ok (.isub, 1) := dk_100 (dk_at dksX3_walk_3 20 rfl rfl)
theorem dX3_walk_93 : decode cX3_walk 93 = .ok (.if_icmp .ne 44, 3) := dk_160 0 44 (dk_at dksX3_walk_3 21 rfl rfl)
theorem dX3_walk_96 : decode cX3_walk 96 = .ok (.aload_n 0, 1) := dk_42 (dk_at dksX3_walk_4 0 rfl rfl)
theorem dX3_walk_97 : decode cX3_walk 97 = .ok (.aload_n 0, 1) := dk_42 (dk_at dksX3_walk_4 1 rfl rfl)
theorem dX3_walk_98 : decode cX3_walk 98 = .ok (.getfield 51, 3) := dk_180 0 51 (dk_at dksX3_walk_4 2 rfl rfl)
theorem dX3_walk_101 : decode cX3_walk 101 = .ok (.aload_n 0, 1) := dk_42 (dk_at dksX3_walk_4 5 rfl rfl)
theorem dX3_walk_102 : decode cX3_walk 102 = .ok (.getfield 54, 3) := dk_180 0 54 (dk_at dksX3_walk_4 6 rfl rfl)
theorem dX3_walk_105 : decode cX3_walk 105 = .ok (.iconst 4, 1) := dk_7 (dk_at dksX3_walk_4 9 rfl rfl)
theorem dX3_walk_106 : decode cX3_walk 106 = .ok (.iload_n 1, 1) := dk_27 (dk_at dksX3_walk_4 10 rfl rfl)
theorem dX3_walk_107 : decode cX3_walk 107 = .ok (.imul, 1) := dk_104 (dk_at dksX3_walk_4 11 rfl rfl)
theorem dX3_walk_108 : decode cX3_walk 108 = .ok (.aload_n 0, 1) := dk_42 (dk_at dksX3_walk_4 12 rfl rfl)
theorem dX3_walk_109 : decode cX3_walk 109 = .ok (.getfield 34, 3) := dk_180 0 34 (dk_at dksX3_walk_4 13 rfl rfl)
theorem dX3_walk_112 : decode cX3_walk 112 = .ok (.iload_n 3, 1) := dk_29 (dk_at dksX3_walk_4 16 rfl rfl)
theorem dX3_walk_113 : decode cX3_walk 113 = .ok (.iaload, 1) := dk_46 (dk_at dksX3_walk_4 17 rfl rfl)
theorem dX3_walk_114 : decode cX3_walk 114 = .ok (.iadd, 1) := dk_96 (dk_at dksX3_walk_4 18 rfl rfl)
theorem dX3_walk_115 : decode cX3_walk 115 = .ok (.iload_n 2, 1) := dk_28 (dk_at dksX3_walk_4 19 rfl rfl)
theorem dX3_walk_116 : decode cX3_walk 116 = .ok (.aload_n 0, 1) := dk_42 (dk_at dksX3_walk_4 20 rfl rfl)
theorem dX3_walk_117 : decode cX3_walk 117 = .ok (.getfield 54, 3) := dk_180 0 54 (dk_at dksX3_walk_4 21 rfl rfl)
theorem dX3_walk_120 : decode cX3_walk 120 = .ok (.iload 4, 2) := dk_21 4 (dk_at dksX3_walk_5 0 rfl rfl)
theorem dX3_walk_122 : decode cX3_walk 122 = .ok (.laload, 1) := dk_47 (dk_at dksX3_walk_5 2 rfl rfl)
theorem dX3_walk_123 : decode cX3_walk 123 = .ok (.bipush 8, 2) := dk_16 8 (dk_at dksX3_walk_5 3 rfl rfl)
theorem dX3_walk_125 : decode cX3_walk 125 = .ok (.lshl, 1) := dk_121 (dk_at dksX3_walk_5 5 rfl rfl)
theorem dX3_walk_126 : decode cX3_walk 126 = .ok (.aload_n 0, 1) := dk_42 (dk_at dksX3_walk_5 6 rfl rfl)
theorem dX3_walk_127 : decode cX3_walk 127 = .ok (.getfield 31, 3) := dk_180 0 31 (dk_at dksX3_walk_5 7 rfl rfl)
theorem dX3_walk_130 : decode cX3_walk 130 = .ok (.iload_n 3, 1) := dk_29 (dk_at dksX3_walk_5 10 rfl rfl)
theorem dX3_walk_131 : decode cX3_walk 131 = .ok (.iaload, 1) := dk_46 (dk_at dksX3_walk_5 11 rfl rfl)
theorem dX3_walk_132 : decode cX3_walk 132 = .ok (.i2l, 1) := dk_133 (dk_at dksX3_walk_5 12 rfl rfl)
theorem dX3_walk_133 : decode cX3_walk 133 = .ok (.lor, 1) := dk_129 (dk_at dksX3_walk_5 13 rfl rfl)
theorem dX3_walk_134 : decode cX3_walk 134 = .ok (.invokevirtual 142, 3) := dk_182 0 142 (dk_at dksX3_walk_5 14 rfl rfl)
theorem dX3_walk_137 : decode cX3_walk 137 = .ok (.iinc 3 1, 3) := dk_132 3 1 (dk_at dksX3_walk_5 17 rfl rfl)
theorem dX3_walk_140 : decode cX3_walk 140 = .ok (.goto (-86), 3) := dk_167 255 170 (dk_at dksX3_walk_5 20 rfl rfl)
theorem dX3_walk_143 : decode cX3_walk 143 = .ok (.iinc 2 1, 3) := dk_132 2 1 (dk_at dksX3_walk_6 0 rfl rfl)
theorem dX3_walk_146 : decode cX3_walk 146 = .ok (.goto (-99), 3) := dk_167 255 157 (dk_at dksX3_walk_6 3 rfl rfl)
theorem dX3_walk_149 : decode cX3_walk 149 = .ok (.iconst 0, 1) := dk_3 (dk_at dksX3_walk_6 6 rfl rfl)
theorem dX3_walk_150 : decode cX3_walk 150 = .ok (.istore_n 2, 1) := dk_61 (dk_at dksX3_walk_6 7 rfl rfl)
theorem dX3_walk_151 : decode cX3_walk 151 = .ok (.iload_n 2, 1) := dk_28 (dk_at dksX3_walk_6 8 rfl rfl)
theorem dX3_walk_152 : decode cX3_walk 152 = .ok (.iconst 4, 1) := dk_7 (dk_at dksX3_walk_6 9 rfl rfl)
theorem dX3_walk_153 : decode cX3_walk 153 = .ok (.if_icmp .ge 15, 3) := dk_162 0 15 (dk_at dksX3_walk_6 10 rfl rfl)
theorem dX3_walk_156 : decode cX3_walk 156 = .ok (.aload_n 0, 1) := dk_42 (dk_at dksX3_walk_6 13 rfl rfl)
theorem dX3_walk_157 : decode cX3_walk 157 = .ok (.iload_n 1, 1) := dk_27 (dk_at dksX3_walk_6 14 rfl rfl)
theorem dX3_walk_158 : decode cX3_walk 158 = .ok (.iload_n 2, 1) := dk_28 (dk_at dksX3_walk_6 15 rfl rfl)
theorem dX3_walk_159 : decode cX3_walk 159 = .ok (.invokevirtual 146, 3) := dk_182 0 146 (dk_at dksX3_walk_6 16 rfl rfl)
theorem dX3_walk_162 : decode cX3_walk 162 = .ok (.iinc 2 1, 3) := dk_132 2 1 (dk_at dksX3_walk_6 19 rfl rfl)
theorem dX3_walk_165 : decode cX3_walk 165 = .ok (.goto (-14), 3) := dk_167 255 242 (dk_at dksX3_walk_7 0 rfl rfl)
theorem dX3_walk_168 : decode cX3_walk 168 = .ok (.iinc 1 1, 3) := dk_132 1 1 (dk_at dksX3_walk_7 3 rfl rfl)
theorem dX3_walk_171 : decode cX3_walk 171 = .ok (.goto (-131), 3) := dk_167 255 125 (dk_at dksX3_walk_7 6 rfl rfl)
theorem dX3_walk_174 : decode cX3_walk 174 = .ok (.return_, 1) := dk_177 (dk_at dksX3_walk_7 9 rfl rfl)
abbrev cX3_better : ByteArray := prog_12_method_23_code
def yX3_better : MethodName := ⟨RX3, "better", "([I[JIIJ)V"⟩
def dkwX3_better_1 : List UInt8 := [29, 21, 4, 79, 44, 29, 22, 5, 80, 177]
abbrev dktX3_better_1 : List UInt8 := dkwX3_better_1 ++ []
def dkwX3_better_0 : List UInt8 := [43, 29, 46, 155, 0, 20, 43, 29, 46, 21, 4, 160, 0, 22, 22, 5, 44, 29, 47, 148, 156, 0, 13, 43]
abbrev dktX3_better_0 : List UInt8 := dkwX3_better_0 ++ dktX3_better_1
theorem dksX3_better_0 : cX3_better.data.toList.drop 0 = dktX3_better_0 := by decide +kernel
theorem dksX3_better_1 : cX3_better.data.toList.drop 24 = dktX3_better_1 := dk_seg dksX3_better_0 24 rfl rfl
theorem dX3_better_0 : decode cX3_better 0 = .ok (.aload_n 1, 1) := dk_43 (dk_at dksX3_better_0 0 rfl rfl)
theorem dX3_better_1 : decode cX3_better 1 = .ok (.iload_n 3, 1) := dk_29 (dk_at dksX3_better_0 1 rfl rfl)
theorem dX3_better_2 : decode cX3_better 2 = .ok (.iaload, 1) := dk_46 (dk_at dksX3_better_0 2 rfl rfl)
theorem dX3_better_3 : decode cX3_better 3 = .ok (.ifCond .lt 20, 3) := dk_155 0 20 (dk_at dksX3_better_0 3 rfl rfl)
theorem dX3_better_6 : decode cX3_better 6 = .ok (.aload_n 1, 1) := dk_43 (dk_at dksX3_better_0 6 rfl rfl)
theorem dX3_better_7 : decode cX3_better 7 = .ok (.iload_n 3, 1) := dk_29 (dk_at dksX3_better_0 7 rfl rfl)
theorem dX3_better_8 : decode cX3_better 8 = .ok (.iaload, 1) := dk_46 (dk_at dksX3_better_0 8 rfl rfl)
theorem dX3_better_9 : decode cX3_better 9 = .ok (.iload 4, 2) := dk_21 4 (dk_at dksX3_better_0 9 rfl rfl)
theorem dX3_better_11 : decode cX3_better 11 = .ok (.if_icmp .ne 22, 3) := dk_160 0 22 (dk_at dksX3_better_0 11 rfl rfl)
theorem dX3_better_14 : decode cX3_better 14 = .ok (.lload 5, 2) := dk_22 5 (dk_at dksX3_better_0 14 rfl rfl)
theorem dX3_better_16 : decode cX3_better 16 = .ok (.aload_n 2, 1) := dk_44 (dk_at dksX3_better_0 16 rfl rfl)
theorem dX3_better_17 : decode cX3_better 17 = .ok (.iload_n 3, 1) := dk_29 (dk_at dksX3_better_0 17 rfl rfl)
theorem dX3_better_18 : decode cX3_better 18 = .ok (.laload, 1) := dk_47 (dk_at dksX3_better_0 18 rfl rfl)
theorem dX3_better_19 : decode cX3_better 19 = .ok (.lcmp, 1) := dk_148 (dk_at dksX3_better_0 19 rfl rfl)
theorem dX3_better_20 : decode cX3_better 20 = .ok (.ifCond .ge 13, 3) := dk_156 0 13 (dk_at dksX3_better_0 20 rfl rfl)
theorem dX3_better_23 : decode cX3_better 23 = .ok (.aload_n 1, 1) := dk_43 (dk_at dksX3_better_0 23 rfl rfl)
theorem dX3_better_24 : decode cX3_better 24 = .ok (.iload_n 3, 1) := dk_29 (dk_at dksX3_better_1 0 rfl rfl)
theorem dX3_better_25 : decode cX3_better 25 = .ok (.iload 4, 2) := dk_21 4 (dk_at dksX3_better_1 1 rfl rfl)
theorem dX3_better_27 : decode cX3_better 27 = .ok (.iastore, 1) := dk_79 (dk_at dksX3_better_1 3 rfl rfl)
theorem dX3_better_28 : decode cX3_better 28 = .ok (.aload_n 2, 1) := dk_44 (dk_at dksX3_better_1 4 rfl rfl)
theorem dX3_better_29 : decode cX3_better 29 = .ok (.iload_n 3, 1) := dk_29 (dk_at dksX3_better_1 5 rfl rfl)
theorem dX3_better_30 : decode cX3_better 30 = .ok (.lload 5, 2) := dk_22 5 (dk_at dksX3_better_1 6 rfl rfl)
theorem dX3_better_32 : decode cX3_better 32 = .ok (.lastore, 1) := dk_80 (dk_at dksX3_better_1 8 rfl rfl)
theorem dX3_better_33 : decode cX3_better 33 = .ok (.return_, 1) := dk_177 (dk_at dksX3_better_1 9 rfl rfl)
abbrev cX3_walkTo : ByteArray := prog_12_method_25_code
def yX3_walkTo : MethodName := ⟨RX3, "walkTo", "(II)V"⟩
def dkwX3_walkTo_8 : List UInt8 := [80, 42, 180, 0, 64, 29, 42, 180, 0, 28, 21, 4, 46, 79, 132, 4, 1, 167, 255, 93, 177]
abbrev dktX3_walkTo_8 : List UInt8 := dkwX3_walkTo_8 ++ []
def dkwX3_walkTo_7 : List UInt8 := [180, 0, 61, 29, 47, 148, 156, 0, 32, 42, 180, 0, 58, 29, 21, 6, 79, 42, 180, 0, 61, 29, 22, 7]
abbrev dktX3_walkTo_7 : List UInt8 := dkwX3_walkTo_7 ++ dktX3_walkTo_8
def dkwX3_walkTo_6 : List UInt8 := [180, 0, 58, 29, 46, 161, 0, 26, 21, 6, 42, 180, 0, 58, 29, 46, 160, 0, 44, 22, 7, 42]
abbrev dktX3_walkTo_6 : List UInt8 := dkwX3_walkTo_6 ++ dktX3_walkTo_7
def dkwX3_walkTo_5 : List UInt8 := [42, 180, 0, 31, 21, 4, 46, 133, 129, 55, 7, 42, 180, 0, 58, 29, 46, 155, 0, 37, 21, 6, 42]
abbrev dktX3_walkTo_5 : List UInt8 := dkwX3_walkTo_5 ++ dktX3_walkTo_6
def dkwX3_walkTo_4 : List UInt8 := [167, 0, 107, 42, 180, 0, 51, 21, 5, 46, 4, 96, 54, 6, 42, 180, 0, 54, 21, 5, 47, 16, 8, 121]
abbrev dktX3_walkTo_4 : List UInt8 := dkwX3_walkTo_4 ++ dktX3_walkTo_5
def dkwX3_walkTo_3 : List UInt8 := [154, 0, 131, 42, 180, 0, 34, 21, 4, 46, 28, 160, 0, 120, 42, 180, 0, 51, 21, 5, 46, 156, 0, 6]
abbrev dktX3_walkTo_3 : List UInt8 := dkwX3_walkTo_3 ++ dktX3_walkTo_4
def dkwX3_walkTo_2 : List UInt8 := [162, 0, 160, 7, 27, 104, 42, 180, 0, 28, 21, 4, 46, 96, 54, 5, 42, 180, 0, 37, 21, 4, 51]
abbrev dktX3_walkTo_2 : List UInt8 := dkwX3_walkTo_2 ++ dktX3_walkTo_3
def dkwX3_walkTo_1 : List UInt8 := [180, 0, 54, 29, 47, 80, 42, 180, 0, 64, 29, 28, 79, 3, 54, 4, 21, 4, 42, 180, 0, 75]
abbrev dktX3_walkTo_1 : List UInt8 := dkwX3_walkTo_1 ++ dktX3_walkTo_2
def dkwX3_walkTo_0 : List UInt8 := [7, 27, 104, 28, 96, 62, 42, 180, 0, 58, 29, 42, 180, 0, 51, 29, 46, 79, 42, 180, 0, 61, 29, 42]
abbrev dktX3_walkTo_0 : List UInt8 := dkwX3_walkTo_0 ++ dktX3_walkTo_1
theorem dksX3_walkTo_0 : cX3_walkTo.data.toList.drop 0 = dktX3_walkTo_0 := by decide +kernel
theorem dksX3_walkTo_1 : cX3_walkTo.data.toList.drop 24 = dktX3_walkTo_1 := dk_seg dksX3_walkTo_0 24 rfl rfl
theorem dksX3_walkTo_2 : cX3_walkTo.data.toList.drop 46 = dktX3_walkTo_2 := dk_seg dksX3_walkTo_1 22 rfl rfl
theorem dksX3_walkTo_3 : cX3_walkTo.data.toList.drop 69 = dktX3_walkTo_3 := dk_seg dksX3_walkTo_2 23 rfl rfl
theorem dksX3_walkTo_4 : cX3_walkTo.data.toList.drop 93 = dktX3_walkTo_4 := dk_seg dksX3_walkTo_3 24 rfl rfl
theorem dksX3_walkTo_5 : cX3_walkTo.data.toList.drop 117 = dktX3_walkTo_5 := dk_seg dksX3_walkTo_4 24 rfl rfl
theorem dksX3_walkTo_6 : cX3_walkTo.data.toList.drop 140 = dktX3_walkTo_6 := dk_seg dksX3_walkTo_5 23 rfl rfl
theorem dksX3_walkTo_7 : cX3_walkTo.data.toList.drop 162 = dktX3_walkTo_7 := dk_seg dksX3_walkTo_6 22 rfl rfl
theorem dksX3_walkTo_8 : cX3_walkTo.data.toList.drop 186 = dktX3_walkTo_8 := dk_seg dksX3_walkTo_7 24 rfl rfl
theorem dX3_walkTo_0 : decode cX3_walkTo 0 = .ok (.iconst 4, 1) := dk_7 (dk_at dksX3_walkTo_0 0 rfl rfl)
theorem dX3_walkTo_1 : decode cX3_walkTo 1 = .ok (.iload_n 1, 1) := dk_27 (dk_at dksX3_walkTo_0 1 rfl rfl)
theorem dX3_walkTo_2 : decode cX3_walkTo 2 = .ok (.imul, 1) := dk_104 (dk_at dksX3_walkTo_0 2 rfl rfl)
theorem dX3_walkTo_3 : decode cX3_walkTo 3 = .ok (.iload_n 2, 1) := dk_28 (dk_at dksX3_walkTo_0 3 rfl rfl)
theorem dX3_walkTo_4 : decode cX3_walkTo 4 = .ok (.iadd, 1) := dk_96 (dk_at dksX3_walkTo_0 4 rfl rfl)
theorem dX3_walkTo_5 : decode cX3_walkTo 5 = .ok (.istore_n 3, 1) := dk_62 (dk_at dksX3_walkTo_0 5 rfl rfl)
theorem dX3_walkTo_6 : decode cX3_walkTo 6 = .ok (.aload_n 0, 1) := dk_42 (dk_at dksX3_walkTo_0 6 rfl rfl)
theorem dX3_walkTo_7 : decode cX3_walkTo 7 = .ok (.getfield 58, 3) := dk_180 0 58 (dk_at dksX3_walkTo_0 7 rfl rfl)
theorem dX3_walkTo_10 : decode cX3_walkTo 10 = .ok (.iload_n 3, 1) := dk_29 (dk_at dksX3_walkTo_0 10 rfl rfl)
theorem dX3_walkTo_11 : decode cX3_walkTo 11 = .ok (.aload_n 0, 1) := dk_42 (dk_at dksX3_walkTo_0 11 rfl rfl)
theorem dX3_walkTo_12 : decode cX3_walkTo 12 = .ok (.getfield 51, 3) := dk_180 0 51 (dk_at dksX3_walkTo_0 12 rfl rfl)
theorem dX3_walkTo_15 : decode cX3_walkTo 15 = .ok (.iload_n 3, 1) := dk_29 (dk_at dksX3_walkTo_0 15 rfl rfl)
theorem dX3_walkTo_16 : decode cX3_walkTo 16 = .ok (.iaload, 1) := dk_46 (dk_at dksX3_walkTo_0 16 rfl rfl)
theorem dX3_walkTo_17 : decode cX3_walkTo 17 = .ok (.iastore, 1) := dk_79 (dk_at dksX3_walkTo_0 17 rfl rfl)
theorem dX3_walkTo_18 : decode cX3_walkTo 18 = .ok (.aload_n 0, 1) := dk_42 (dk_at dksX3_walkTo_0 18 rfl rfl)
theorem dX3_walkTo_19 : decode cX3_walkTo 19 = .ok (.getfield 61, 3) := dk_180 0 61 (dk_at dksX3_walkTo_0 19 rfl rfl)
theorem dX3_walkTo_22 : decode cX3_walkTo 22 = .ok (.iload_n 3, 1) := dk_29 (dk_at dksX3_walkTo_0 22 rfl rfl)
theorem dX3_walkTo_23 : decode cX3_walkTo 23 = .ok (.aload_n 0, 1) := dk_42 (dk_at dksX3_walkTo_0 23 rfl rfl)
theorem dX3_walkTo_24 : decode cX3_walkTo 24 = .ok (.getfield 54, 3) := dk_180 0 54 (dk_at dksX3_walkTo_1 0 rfl rfl)
theorem dX3_walkTo_27 : decode cX3_walkTo 27 = .ok (.iload_n 3, 1) := dk_29 (dk_at dksX3_walkTo_1 3 rfl rfl)
theorem dX3_walkTo_28 : decode cX3_walkTo 28 = .ok (.laload, 1) := dk_47 (dk_at dksX3_walkTo_1 4 rfl rfl)
theorem dX3_walkTo_29 : decode cX3_walkTo 29 = .ok (.lastore, 1) := dk_80 (dk_at dksX3_walkTo_1 5 rfl rfl)
theorem dX3_walkTo_30 : decode cX3_walkTo 30 = .ok (.aload_n 0, 1) := dk_42 (dk_at dksX3_walkTo_1 6 rfl rfl)
theorem dX3_walkTo_31 : decode cX3_walkTo 31 = .ok (.getfield 64, 3) := dk_180 0 64 (dk_at dksX3_walkTo_1 7 rfl rfl)
theorem dX3_walkTo_34 : decode cX3_walkTo 34 = .ok (.iload_n 3, 1) := dk_29 (dk_at dksX3_walkTo_1 10 rfl rfl)
theorem dX3_walkTo_35 : decode cX3_walkTo 35 = .ok (.iload_n 2, 1) := dk_28 (dk_at dksX3_walkTo_1 11 rfl rfl)
theorem dX3_walkTo_36 : decode cX3_walkTo 36 = .ok (.iastore, 1) := dk_79 (dk_at dksX3_walkTo_1 12 rfl rfl)
theorem dX3_walkTo_37 : decode cX3_walkTo 37 = .ok (.iconst 0, 1) := dk_3 (dk_at dksX3_walkTo_1 13 rfl rfl)
theorem dX3_walkTo_38 : decode cX3_walkTo 38 = .ok (.istore 4, 2) := dk_54 4 (dk_at dksX3_walkTo_1 14 rfl rfl)
theorem dX3_walkTo_40 : decode cX3_walkTo 40 = .ok (.iload 4, 2) := dk_21 4 (dk_at dksX3_walkTo_1 16 rfl rfl)
theorem dX3_walkTo_42 : decode cX3_walkTo 42 = .ok (.aload_n 0, 1) := dk_42 (dk_at dksX3_walkTo_1 18 rfl rfl)
theorem dX3_walkTo_43 : decode cX3_walkTo 43 = .ok (.getfield 75, 3) := dk_180 0 75 (dk_at dksX3_walkTo_1 19 rfl rfl)
theorem dX3_walkTo_46 : decode cX3_walkTo 46 = .ok (.if_icmp .ge 160, 3) := dk_162 0 160 (dk_at dksX3_walkTo_2 0 rfl rfl)
theorem dX3_walkTo_49 : decode cX3_walkTo 49 = .ok (.iconst 4, 1) := dk_7 (dk_at dksX3_walkTo_2 3 rfl rfl)
theorem dX3_walkTo_50 : decode cX3_walkTo 50 = .ok (.iload_n 1, 1) := dk_27 (dk_at dksX3_walkTo_2 4 rfl rfl)
theorem dX3_walkTo_51 : decode cX3_walkTo 51 = .ok (.imul, 1) := dk_104 (dk_at dksX3_walkTo_2 5 rfl rfl)
theorem dX3_walkTo_52 : decode cX3_walkTo 52 = .ok (.aload_n 0, 1) := dk_42 (dk_at dksX3_walkTo_2 6 rfl rfl)
theorem dX3_walkTo_53 : decode cX3_walkTo 53 = .ok (.getfield 28, 3) := dk_180 0 28 (dk_at dksX3_walkTo_2 7 rfl rfl)
theorem dX3_walkTo_56 : decode cX3_walkTo 56 = .ok (.iload 4, 2) := dk_21 4 (dk_at dksX3_walkTo_2 10 rfl rfl)
theorem dX3_walkTo_58 : decode cX3_walkTo 58 = .ok (.iaload, 1) := dk_46 (dk_at dksX3_walkTo_2 12 rfl rfl)
theorem dX3_walkTo_59 : decode cX3_walkTo 59 = .ok (.iadd, 1) := dk_96 (dk_at dksX3_walkTo_2 13 rfl rfl)
theorem dX3_walkTo_60 : decode cX3_walkTo 60 = .ok (.istore 5, 2) := dk_54 5 (dk_at dksX3_walkTo_2 14 rfl rfl)
theorem dX3_walkTo_62 : decode cX3_walkTo 62 = .ok (.aload_n 0, 1) := dk_42 (dk_at dksX3_walkTo_2 16 rfl rfl)
theorem dX3_walkTo_63 : decode cX3_walkTo 63 = .ok (.getfield 37, 3) := dk_180 0 37 (dk_at dksX3_walkTo_2 17 rfl rfl)
theorem dX3_walkTo_66 : decode cX3_walkTo 66 = .ok (.iload 4, 2) := dk_21 4 (dk_at dksX3_walkTo_2 20 rfl rfl)
theorem dX3_walkTo_68 : decode cX3_walkTo 68 = .ok (.baload, 1) := dk_51 (dk_at dksX3_walkTo_2 22 rfl rfl)
theorem dX3_walkTo_69 : decode cX3_walkTo 69 = .ok (.ifCond .ne 131, 3) := dk_154 0 131 (dk_at dksX3_walkTo_3 0 rfl rfl)
theorem dX3_walkTo_72 : decode cX3_walkTo 72 = .ok (.aload_n 0, 1) := dk_42 (dk_at dksX3_walkTo_3 3 rfl rfl)
theorem dX3_walkTo_73 : decode cX3_walkTo 73 = .ok (.getfield 34, 3) := dk_180 0 34 (dk_at dksX3_walkTo_3 4 rfl rfl)
theorem dX3_walkTo_76 : decode cX3_walkTo 76 = .ok (.iload 4, 2) := dk_21 4 (dk_at dksX3_walkTo_3 7 rfl rfl)
theorem dX3_walkTo_78 : decode cX3_walkTo 78 = .ok (.iaload, 1) := dk_46 (dk_at dksX3_walkTo_3 9 rfl rfl)
theorem dX3_walkTo_79 : decode cX3_walkTo 79 = .ok (.iload_n 2, 1) := dk_28 (dk_at dksX3_walkTo_3 10 rfl rfl)
theorem dX3_walkTo_80 : decode cX3_walkTo 80 = .ok (.if_icmp .ne 120, 3) := dk_160 0 120 (dk_at dksX3_walkTo_3 11 rfl rfl)
theorem dX3_walkTo_83 : decode cX3_walkTo 83 = .ok (.aload_n 0, 1) := dk_42 (dk_at dksX3_walkTo_3 14 rfl rfl)
theorem dX3_walkTo_84 : decode cX3_walkTo 84 = .ok (.getfield 51, 3) := dk_180 0 51 (dk_at dksX3_walkTo_3 15 rfl rfl)
theorem dX3_walkTo_87 : decode cX3_walkTo 87 = .ok (.iload 5, 2) := dk_21 5 (dk_at dksX3_walkTo_3 18 rfl rfl)
theorem dX3_walkTo_89 : decode cX3_walkTo 89 = .ok (.iaload, 1) := dk_46 (dk_at dksX3_walkTo_3 20 rfl rfl)
theorem dX3_walkTo_90 : decode cX3_walkTo 90 = .ok (.ifCond .ge 6, 3) := dk_156 0 6 (dk_at dksX3_walkTo_3 21 rfl rfl)
theorem dX3_walkTo_93 : decode cX3_walkTo 93 = .ok (.goto 107, 3) := dk_167 0 107 (dk_at dksX3_walkTo_4 0 rfl rfl)
theorem dX3_walkTo_96 : decode cX3_walkTo 96 = .ok (.aload_n 0, 1) := dk_42 (dk_at dksX3_walkTo_4 3 rfl rfl)
theorem dX3_walkTo_97 : decode cX3_walkTo 97 = .ok (.getfield 51, 3) := dk_180 0 51 (dk_at dksX3_walkTo_4 4 rfl rfl)
theorem dX3_walkTo_100 : decode cX3_walkTo 100 = .ok (.iload 5, 2) := dk_21 5 (dk_at dksX3_walkTo_4 7 rfl rfl)
theorem dX3_walkTo_102 : decode cX3_walkTo 102 = .ok (.iaload, 1) := dk_46 (dk_at dksX3_walkTo_4 9 rfl rfl)
theorem dX3_walkTo_103 : decode cX3_walkTo 103 = .ok (.iconst 1, 1) := dk_4 (dk_at dksX3_walkTo_4 10 rfl rfl)
theorem dX3_walkTo_104 : decode cX3_walkTo 104 = .ok (.iadd, 1) := dk_96 (dk_at dksX3_walkTo_4 11 rfl rfl)
theorem dX3_walkTo_105 : decode cX3_walkTo 105 = .ok (.istore 6, 2) := dk_54 6 (dk_at dksX3_walkTo_4 12 rfl rfl)
theorem dX3_walkTo_107 : decode cX3_walkTo 107 = .ok (.aload_n 0, 1) := dk_42 (dk_at dksX3_walkTo_4 14 rfl rfl)
theorem dX3_walkTo_108 : decode cX3_walkTo 108 = .ok (.getfield 54, 3) := dk_180 0 54 (dk_at dksX3_walkTo_4 15 rfl rfl)
theorem dX3_walkTo_111 : decode cX3_walkTo 111 = .ok (.iload 5, 2) := dk_21 5 (dk_at dksX3_walkTo_4 18 rfl rfl)
theorem dX3_walkTo_113 : decode cX3_walkTo 113 = .ok (.laload, 1) := dk_47 (dk_at dksX3_walkTo_4 20 rfl rfl)
theorem dX3_walkTo_114 : decode cX3_walkTo 114 = .ok (.bipush 8, 2) := dk_16 8 (dk_at dksX3_walkTo_4 21 rfl rfl)
theorem dX3_walkTo_116 : decode cX3_walkTo 116 = .ok (.lshl, 1) := dk_121 (dk_at dksX3_walkTo_4 23 rfl rfl)
theorem dX3_walkTo_117 : decode cX3_walkTo 117 = .ok (.aload_n 0, 1) := dk_42 (dk_at dksX3_walkTo_5 0 rfl rfl)
theorem dX3_walkTo_118 : decode cX3_walkTo 118 = .ok (.getfield 31, 3) := dk_180 0 31 (dk_at dksX3_walkTo_5 1 rfl rfl)
theorem dX3_walkTo_121 : decode cX3_walkTo 121 = .ok (.iload 4, 2) := dk_21 4 (dk_at dksX3_walkTo_5 4 rfl rfl)
theorem dX3_walkTo_123 : decode cX3_walkTo 123 = .ok (.iaload, 1) := dk_46 (dk_at dksX3_walkTo_5 6 rfl rfl)
theorem dX3_walkTo_124 : decode cX3_walkTo 124 = .ok (.i2l, 1) := dk_133 (dk_at dksX3_walkTo_5 7 rfl rfl)
theorem dX3_walkTo_125 : decode cX3_walkTo 125 = .ok (.lor, 1) := dk_129 (dk_at dksX3_walkTo_5 8 rfl rfl)
theorem dX3_walkTo_126 : decode cX3_walkTo 126 = .ok (.lstore 7, 2) := dk_55 7 (dk_at dksX3_walkTo_5 9 rfl rfl)
theorem dX3_walkTo_128 : decode cX3_walkTo 128 = .ok (.aload_n 0, 1) := dk_42 (dk_at dksX3_walkTo_5 11 rfl rfl)
theorem dX3_walkTo_129 : decode cX3_walkTo 129 = .ok (.getfield 58, 3) := dk_180 0 58 (dk_at dksX3_walkTo_5 12 rfl rfl)
theorem dX3_walkTo_132 : decode cX3_walkTo 132 = .ok (.iload_n 3, 1) := dk_29 (dk_at dksX3_walkTo_5 15 rfl rfl)
theorem dX3_walkTo_133 : decode cX3_walkTo 133 = .ok (.iaload, 1) := dk_46 (dk_at dksX3_walkTo_5 16 rfl rfl)
theorem dX3_walkTo_134 : decode cX3_walkTo 134 = .ok (.ifCond .lt 37, 3) := dk_155 0 37 (dk_at dksX3_walkTo_5 17 rfl rfl)
theorem dX3_walkTo_137 : decode cX3_walkTo 137 = .ok (.iload 6, 2) := dk_21 6 (dk_at dksX3_walkTo_5 20 rfl rfl)
theorem dX3_walkTo_139 : decode cX3_walkTo 139 = .ok (.aload_n 0, 1) := dk_42 (dk_at dksX3_walkTo_5 22 rfl rfl)
theorem dX3_walkTo_140 : decode cX3_walkTo 140 = .ok (.getfield 58, 3) := dk_180 0 58 (dk_at dksX3_walkTo_6 0 rfl rfl)
theorem dX3_walkTo_143 : decode cX3_walkTo 143 = .ok (.iload_n 3, 1) := dk_29 (dk_at dksX3_walkTo_6 3 rfl rfl)
theorem dX3_walkTo_144 : decode cX3_walkTo 144 = .ok (.iaload, 1) := dk_46 (dk_at dksX3_walkTo_6 4 rfl rfl)
theorem dX3_walkTo_145 : decode cX3_walkTo 145 = .ok (.if_icmp .lt 26, 3) := dk_161 0 26 (dk_at dksX3_walkTo_6 5 rfl rfl)
theorem dX3_walkTo_148 : decode cX3_walkTo 148 = .ok (.iload 6, 2) := dk_21 6 (dk_at dksX3_walkTo_6 8 rfl rfl)
theorem dX3_walkTo_150 : decode cX3_walkTo 150 = .ok (.aload_n 0, 1) := dk_42 (dk_at dksX3_walkTo_6 10 rfl rfl)
theorem dX3_walkTo_151 : decode cX3_walkTo 151 = .ok (.getfield 58, 3) := dk_180 0 58 (dk_at dksX3_walkTo_6 11 rfl rfl)
theorem dX3_walkTo_154 : decode cX3_walkTo 154 = .ok (.iload_n 3, 1) := dk_29 (dk_at dksX3_walkTo_6 14 rfl rfl)
theorem dX3_walkTo_155 : decode cX3_walkTo 155 = .ok (.iaload, 1) := dk_46 (dk_at dksX3_walkTo_6 15 rfl rfl)
theorem dX3_walkTo_156 : decode cX3_walkTo 156 = .ok (.if_icmp .ne 44, 3) := dk_160 0 44 (dk_at dksX3_walkTo_6 16 rfl rfl)
theorem dX3_walkTo_159 : decode cX3_walkTo 159 = .ok (.lload 7, 2) := dk_22 7 (dk_at dksX3_walkTo_6 19 rfl rfl)
theorem dX3_walkTo_161 : decode cX3_walkTo 161 = .ok (.aload_n 0, 1) := dk_42 (dk_at dksX3_walkTo_6 21 rfl rfl)
theorem dX3_walkTo_162 : decode cX3_walkTo 162 = .ok (.getfield 61, 3) := dk_180 0 61 (dk_at dksX3_walkTo_7 0 rfl rfl)
theorem dX3_walkTo_165 : decode cX3_walkTo 165 = .ok (.iload_n 3, 1) := dk_29 (dk_at dksX3_walkTo_7 3 rfl rfl)
theorem dX3_walkTo_166 : decode cX3_walkTo 166 = .ok (.laload, 1) := dk_47 (dk_at dksX3_walkTo_7 4 rfl rfl)
theorem dX3_walkTo_167 : decode cX3_walkTo 167 = .ok (.lcmp, 1) := dk_148 (dk_at dksX3_walkTo_7 5 rfl rfl)
theorem dX3_walkTo_168 : decode cX3_walkTo 168 = .ok (.ifCond .ge 32, 3) := dk_156 0 32 (dk_at dksX3_walkTo_7 6 rfl rfl)
theorem dX3_walkTo_171 : decode cX3_walkTo 171 = .ok (.aload_n 0, 1) := dk_42 (dk_at dksX3_walkTo_7 9 rfl rfl)
theorem dX3_walkTo_172 : decode cX3_walkTo 172 = .ok (.getfield 58, 3) := dk_180 0 58 (dk_at dksX3_walkTo_7 10 rfl rfl)
theorem dX3_walkTo_175 : decode cX3_walkTo 175 = .ok (.iload_n 3, 1) := dk_29 (dk_at dksX3_walkTo_7 13 rfl rfl)
theorem dX3_walkTo_176 : decode cX3_walkTo 176 = .ok (.iload 6, 2) := dk_21 6 (dk_at dksX3_walkTo_7 14 rfl rfl)
theorem dX3_walkTo_178 : decode cX3_walkTo 178 = .ok (.iastore, 1) := dk_79 (dk_at dksX3_walkTo_7 16 rfl rfl)
theorem dX3_walkTo_179 : decode cX3_walkTo 179 = .ok (.aload_n 0, 1) := dk_42 (dk_at dksX3_walkTo_7 17 rfl rfl)
theorem dX3_walkTo_180 : decode cX3_walkTo 180 = .ok (.getfield 61, 3) := dk_180 0 61 (dk_at dksX3_walkTo_7 18 rfl rfl)
theorem dX3_walkTo_183 : decode cX3_walkTo 183 = .ok (.iload_n 3, 1) := dk_29 (dk_at dksX3_walkTo_7 21 rfl rfl)
theorem dX3_walkTo_184 : decode cX3_walkTo 184 = .ok (.lload 7, 2) := dk_22 7 (dk_at dksX3_walkTo_7 22 rfl rfl)
theorem dX3_walkTo_186 : decode cX3_walkTo 186 = .ok (.lastore, 1) := dk_80 (dk_at dksX3_walkTo_8 0 rfl rfl)
theorem dX3_walkTo_187 : decode cX3_walkTo 187 = .ok (.aload_n 0, 1) := dk_42 (dk_at dksX3_walkTo_8 1 rfl rfl)
theorem dX3_walkTo_188 : decode cX3_walkTo 188 = .ok (.getfield 64, 3) := dk_180 0 64 (dk_at dksX3_walkTo_8 2 rfl rfl)
theorem dX3_walkTo_191 : decode cX3_walkTo 191 = .ok (.iload_n 3, 1) := dk_29 (dk_at dksX3_walkTo_8 5 rfl rfl)
theorem dX3_walkTo_192 : decode cX3_walkTo 192 = .ok (.aload_n 0, 1) := dk_42 (dk_at dksX3_walkTo_8 6 rfl rfl)
theorem dX3_walkTo_193 : decode cX3_walkTo 193 = .ok (.getfield 28, 3) := dk_180 0 28 (dk_at dksX3_walkTo_8 7 rfl rfl)
theorem dX3_walkTo_196 : decode cX3_walkTo 196 = .ok (.iload 4, 2) := dk_21 4 (dk_at dksX3_walkTo_8 10 rfl rfl)
theorem dX3_walkTo_198 : decode cX3_walkTo 198 = .ok (.iaload, 1) := dk_46 (dk_at dksX3_walkTo_8 12 rfl rfl)
theorem dX3_walkTo_199 : decode cX3_walkTo 199 = .ok (.iastore, 1) := dk_79 (dk_at dksX3_walkTo_8 13 rfl rfl)
theorem dX3_walkTo_200 : decode cX3_walkTo 200 = .ok (.iinc 4 1, 3) := dk_132 4 1 (dk_at dksX3_walkTo_8 14 rfl rfl)
theorem dX3_walkTo_203 : decode cX3_walkTo 203 = .ok (.goto (-163), 3) := dk_167 255 93 (dk_at dksX3_walkTo_8 17 rfl rfl)
theorem dX3_walkTo_206 : decode cX3_walkTo 206 = .ok (.return_, 1) := dk_177 (dk_at dksX3_walkTo_8 20 rfl rfl)
abbrev cX3_isClashing : ByteArray := prog_12_method_17_code
def yX3_isClashing : MethodName := ⟨RX3, "isClashing", "()Z"⟩
def dkwX3_isClashing_3 : List UInt8 := [167, 255, 208, 3, 172]
abbrev dktX3_isClashing_3 : List UInt8 := dkwX3_isClashing_3 ++ []
def dkwX3_isClashing_2 : List UInt8 := [4, 28, 29, 182, 0, 118, 172, 42, 29, 182, 0, 111, 62, 167, 255, 228, 42, 28, 182, 0, 111, 61]
abbrev dktX3_isClashing_2 : List UInt8 := dkwX3_isClashing_2 ++ dktX3_isClashing_3
def dkwX3_isClashing_1 : List UInt8 := [162, 0, 49, 42, 28, 182, 0, 111, 62, 29, 27, 162, 0, 29, 42, 28, 29, 182, 0, 114, 153, 0, 11, 42]
abbrev dktX3_isClashing_1 : List UInt8 := dkwX3_isClashing_1 ++ dktX3_isClashing_2
def dkwX3_isClashing_0 : List UInt8 := [16, 100, 42, 180, 0, 75, 96, 60, 42, 180, 0, 71, 158, 0, 7, 3, 167, 0, 5, 16, 100, 61, 28, 27]
abbrev dktX3_isClashing_0 : List UInt8 := dkwX3_isClashing_0 ++ dktX3_isClashing_1
theorem dksX3_isClashing_0 : cX3_isClashing.data.toList.drop 0 = dktX3_isClashing_0 := by decide +kernel
theorem dksX3_isClashing_1 : cX3_isClashing.data.toList.drop 24 = dktX3_isClashing_1 := dk_seg dksX3_isClashing_0 24 rfl rfl
theorem dksX3_isClashing_2 : cX3_isClashing.data.toList.drop 48 = dktX3_isClashing_2 := dk_seg dksX3_isClashing_1 24 rfl rfl
theorem dksX3_isClashing_3 : cX3_isClashing.data.toList.drop 70 = dktX3_isClashing_3 := dk_seg dksX3_isClashing_2 22 rfl rfl
theorem dX3_isClashing_0 : decode cX3_isClashing 0 = .ok (.bipush 100, 2) := dk_16 100 (dk_at dksX3_isClashing_0 0 rfl rfl)
theorem dX3_isClashing_2 : decode cX3_isClashing 2 = .ok (.aload_n 0, 1) := dk_42 (dk_at dksX3_isClashing_0 2 rfl rfl)
theorem dX3_isClashing_3 : decode cX3_isClashing 3 = .ok (.getfield 75, 3) := dk_180 0 75 (dk_at dksX3_isClashing_0 3 rfl rfl)
theorem dX3_isClashing_6 : decode cX3_isClashing 6 = .ok (.iadd, 1) := dk_96 (dk_at dksX3_isClashing_0 6 rfl rfl)
theorem dX3_isClashing_7 : decode cX3_isClashing 7 = .ok (.istore_n 1, 1) := dk_60 (dk_at dksX3_isClashing_0 7 rfl rfl)
theorem dX3_isClashing_8 : decode cX3_isClashing 8 = .ok (.aload_n 0, 1) := dk_42 (dk_at dksX3_isClashing_0 8 rfl rfl)
theorem dX3_isClashing_9 : decode cX3_isClashing 9 = .ok (.getfield 71, 3) := dk_180 0 71 (dk_at dksX3_isClashing_0 9 rfl rfl)
theorem dX3_isClashing_12 : decode cX3_isClashing 12 = .ok (.ifCond .le 7, 3) := dk_158 0 7 (dk_at dksX3_isClashing_0 12 rfl rfl)
theorem dX3_isClashing_15 : decode cX3_isClashing 15 = .ok (.iconst 0, 1) := dk_3 (dk_at dksX3_isClashing_0 15 rfl rfl)
theorem dX3_isClashing_16 : decode cX3_isClashing 16 = .ok (.goto 5, 3) := dk_167 0 5 (dk_at dksX3_isClashing_0 16 rfl rfl)
theorem dX3_isClashing_19 : decode cX3_isClashing 19 = .ok (.bipush 100, 2) := dk_16 100 (dk_at dksX3_isClashing_0 19 rfl rfl)
theorem dX3_isClashing_21 : decode cX3_isClashing 21 = .ok (.istore_n 2, 1) := dk_61 (dk_at dksX3_isClashing_0 21 rfl rfl)
theorem dX3_isClashing_22 : decode cX3_isClashing 22 = .ok (.iload_n 2, 1) := dk_28 (dk_at dksX3_isClashing_0 22 rfl rfl)
theorem dX3_isClashing_23 : decode cX3_isClashing 23 = .ok (.iload_n 1, 1) := dk_27 (dk_at dksX3_isClashing_0 23 rfl rfl)
theorem dX3_isClashing_24 : decode cX3_isClashing 24 = .ok (.if_icmp .ge 49, 3) := dk_162 0 49 (dk_at dksX3_isClashing_1 0 rfl rfl)
theorem dX3_isClashing_27 : decode cX3_isClashing 27 = .ok (.aload_n 0, 1) := dk_42 (dk_at dksX3_isClashing_1 3 rfl rfl)
theorem dX3_isClashing_28 : decode cX3_isClashing 28 = .ok (.iload_n 2, 1) := dk_28 (dk_at dksX3_isClashing_1 4 rfl rfl)
theorem dX3_isClashing_29 : decode cX3_isClashing 29 = .ok (.invokevirtual 111, 3) := dk_182 0 111 (dk_at dksX3_isClashing_1 5 rfl rfl)
theorem dX3_isClashing_32 : decode cX3_isClashing 32 = .ok (.istore_n 3, 1) := dk_62 (dk_at dksX3_isClashing_1 8 rfl rfl)
theorem dX3_isClashing_33 : decode cX3_isClashing 33 = .ok (.iload_n 3, 1) := dk_29 (dk_at dksX3_isClashing_1 9 rfl rfl)
theorem dX3_isClashing_34 : decode cX3_isClashing 34 = .ok (.iload_n 1, 1) := dk_27 (dk_at dksX3_isClashing_1 10 rfl rfl)
theorem dX3_isClashing_35 : decode cX3_isClashing 35 = .ok (.if_icmp .ge 29, 3) := dk_162 0 29 (dk_at dksX3_isClashing_1 11 rfl rfl)
theorem dX3_isClashing_38 : decode cX3_isClashing 38 = .ok (.aload_n 0, 1) := dk_42 (dk_at dksX3_isClashing_1 14 rfl rfl)
theorem dX3_isClashing_39 : decode cX3_isClashing 39 = .ok (.iload_n 2, 1) := dk_28 (dk_at dksX3_isClashing_1 15 rfl rfl)
theorem dX3_isClashing_40 : decode cX3_isClashing 40 = .ok (.iload_n 3, 1) := dk_29 (dk_at dksX3_isClashing_1 16 rfl rfl)
theorem dX3_isClashing_41 : decode cX3_isClashing 41 = .ok (.invokevirtual 114, 3) := dk_182 0 114 (dk_at dksX3_isClashing_1 17 rfl rfl)
theorem dX3_isClashing_44 : decode cX3_isClashing 44 = .ok (.ifCond .eq 11, 3) := dk_153 0 11 (dk_at dksX3_isClashing_1 20 rfl rfl)
theorem dX3_isClashing_47 : decode cX3_isClashing 47 = .ok (.aload_n 0, 1) := dk_42 (dk_at dksX3_isClashing_1 23 rfl rfl)
theorem dX3_isClashing_48 : decode cX3_isClashing 48 = .ok (.iconst 1, 1) := dk_4 (dk_at dksX3_isClashing_2 0 rfl rfl)
theorem dX3_isClashing_49 : decode cX3_isClashing 49 = .ok (.iload_n 2, 1) := dk_28 (dk_at dksX3_isClashing_2 1 rfl rfl)
theorem dX3_isClashing_50 : decode cX3_isClashing 50 = .ok (.iload_n 3, 1) := dk_29 (dk_at dksX3_isClashing_2 2 rfl rfl)
theorem dX3_isClashing_51 : decode cX3_isClashing 51 = .ok (.invokevirtual 118, 3) := dk_182 0 118 (dk_at dksX3_isClashing_2 3 rfl rfl)
theorem dX3_isClashing_54 : decode cX3_isClashing 54 = .ok (.ireturn, 1) := dk_172 (dk_at dksX3_isClashing_2 6 rfl rfl)
theorem dX3_isClashing_55 : decode cX3_isClashing 55 = .ok (.aload_n 0, 1) := dk_42 (dk_at dksX3_isClashing_2 7 rfl rfl)
theorem dX3_isClashing_56 : decode cX3_isClashing 56 = .ok (.iload_n 3, 1) := dk_29 (dk_at dksX3_isClashing_2 8 rfl rfl)
theorem dX3_isClashing_57 : decode cX3_isClashing 57 = .ok (.invokevirtual 111, 3) := dk_182 0 111 (dk_at dksX3_isClashing_2 9 rfl rfl)
theorem dX3_isClashing_60 : decode cX3_isClashing 60 = .ok (.istore_n 3, 1) := dk_62 (dk_at dksX3_isClashing_2 12 rfl rfl)
theorem dX3_isClashing_61 : decode cX3_isClashing 61 = .ok (.goto (-28), 3) := dk_167 255 228 (dk_at dksX3_isClashing_2 13 rfl rfl)
theorem dX3_isClashing_64 : decode cX3_isClashing 64 = .ok (.aload_n 0, 1) := dk_42 (dk_at dksX3_isClashing_2 16 rfl rfl)
theorem dX3_isClashing_65 : decode cX3_isClashing 65 = .ok (.iload_n 2, 1) := dk_28 (dk_at dksX3_isClashing_2 17 rfl rfl)
theorem dX3_isClashing_66 : decode cX3_isClashing 66 = .ok (.invokevirtual 111, 3) := dk_182 0 111 (dk_at dksX3_isClashing_2 18 rfl rfl)
theorem dX3_isClashing_69 : decode cX3_isClashing 69 = .ok (.istore_n 2, 1) := dk_61 (dk_at dksX3_isClashing_2 21 rfl rfl)
theorem dX3_isClashing_70 : decode cX3_isClashing 70 = .ok (.goto (-48), 3) := dk_167 255 208 (dk_at dksX3_isClashing_3 0 rfl rfl)
theorem dX3_isClashing_73 : decode cX3_isClashing 73 = .ok (.iconst 0, 1) := dk_3 (dk_at dksX3_isClashing_3 3 rfl rfl)
theorem dX3_isClashing_74 : decode cX3_isClashing 74 = .ok (.ireturn, 1) := dk_172 (dk_at dksX3_isClashing_3 4 rfl rfl)
abbrev cX3_next : ByteArray := prog_12_method_16_code
def yX3_next : MethodName := ⟨RX3, "next", "(I)I"⟩
def dkwX3_next_0 : List UInt8 := [27, 4, 96, 42, 180, 0, 71, 160, 0, 8, 16, 100, 167, 0, 6, 27, 4, 96, 172]
abbrev dktX3_next_0 : List UInt8 := dkwX3_next_0 ++ []
theorem dksX3_next_0 : cX3_next.data.toList.drop 0 = dktX3_next_0 := by decide +kernel
theorem dX3_next_0 : decode cX3_next 0 = .ok (.iload_n 1, 1) := dk_27 (dk_at dksX3_next_0 0 rfl rfl)
theorem dX3_next_1 : decode cX3_next 1 = .ok (.iconst 1, 1) := dk_4 (dk_at dksX3_next_0 1 rfl rfl)
theorem dX3_next_2 : decode cX3_next 2 = .ok (.iadd, 1) := dk_96 (dk_at dksX3_next_0 2 rfl rfl)
theorem dX3_next_3 : decode cX3_next 3 = .ok (.aload_n 0, 1) := dk_42 (dk_at dksX3_next_0 3 rfl rfl)
theorem dX3_next_4 : decode cX3_next 4 = .ok (.getfield 71, 3) := dk_180 0 71 (dk_at dksX3_next_0 4 rfl rfl)
theorem dX3_next_7 : decode cX3_next 7 = .ok (.if_icmp .ne 8, 3) := dk_160 0 8 (dk_at dksX3_next_0 7 rfl rfl)
theorem dX3_next_10 : decode cX3_next 10 = .ok (.bipush 100, 2) := dk_16 100 (dk_at dksX3_next_0 10 rfl rfl)
theorem dX3_next_12 : decode cX3_next 12 = .ok (.goto 6, 3) := dk_167 0 6 (dk_at dksX3_next_0 12 rfl rfl)
theorem dX3_next_15 : decode cX3_next 15 = .ok (.iload_n 1, 1) := dk_27 (dk_at dksX3_next_0 15 rfl rfl)
theorem dX3_next_16 : decode cX3_next 16 = .ok (.iconst 1, 1) := dk_4 (dk_at dksX3_next_0 16 rfl rfl)
theorem dX3_next_17 : decode cX3_next 17 = .ok (.iadd, 1) := dk_96 (dk_at dksX3_next_0 17 rfl rfl)
theorem dX3_next_18 : decode cX3_next 18 = .ok (.ireturn, 1) := dk_172 (dk_at dksX3_next_0 18 rfl rfl)
abbrev cX3_clash : ByteArray := prog_12_method_14_code
def yX3_clash : MethodName := ⟨RX3, "clash", "(II)Z"⟩
def dkwX3_clash_2 : List UInt8 := [160, 0, 7, 4, 167, 0, 4, 3, 172]
abbrev dktX3_clash_2 : List UInt8 := dkwX3_clash_2 ++ []
def dkwX3_clash_1 : List UInt8 := [42, 28, 182, 0, 96, 160, 0, 24, 42, 27, 182, 0, 99, 29, 122, 42, 28, 182, 0, 99, 29, 122]
abbrev dktX3_clash_1 : List UInt8 := dkwX3_clash_1 ++ dktX3_clash_2
def dkwX3_clash_0 : List UInt8 := [16, 8, 6, 42, 27, 182, 0, 86, 42, 28, 182, 0, 86, 184, 0, 90, 100, 104, 62, 42, 27, 182, 0, 96]
abbrev dktX3_clash_0 : List UInt8 := dkwX3_clash_0 ++ dktX3_clash_1
theorem dksX3_clash_0 : cX3_clash.data.toList.drop 0 = dktX3_clash_0 := by decide +kernel
theorem dksX3_clash_1 : cX3_clash.data.toList.drop 24 = dktX3_clash_1 := dk_seg dksX3_clash_0 24 rfl rfl
theorem dksX3_clash_2 : cX3_clash.data.toList.drop 46 = dktX3_clash_2 := dk_seg dksX3_clash_1 22 rfl rfl
theorem dX3_clash_0 : decode cX3_clash 0 = .ok (.bipush 8, 2) := dk_16 8 (dk_at dksX3_clash_0 0 rfl rfl)
theorem dX3_clash_2 : decode cX3_clash 2 = .ok (.iconst 3, 1) := dk_6 (dk_at dksX3_clash_0 2 rfl rfl)
theorem dX3_clash_3 : decode cX3_clash 3 = .ok (.aload_n 0, 1) := dk_42 (dk_at dksX3_clash_0 3 rfl rfl)
theorem dX3_clash_4 : decode cX3_clash 4 = .ok (.iload_n 1, 1) := dk_27 (dk_at dksX3_clash_0 4 rfl rfl)
theorem dX3_clash_5 : decode cX3_clash 5 = .ok (.invokevirtual 86, 3) := dk_182 0 86 (dk_at dksX3_clash_0 5 rfl rfl)
theorem dX3_clash_8 : decode cX3_clash 8 = .ok (.aload_n 0, 1) := dk_42 (dk_at dksX3_clash_0 8 rfl rfl)
theorem dX3_clash_9 : decode cX3_clash 9 = .ok (.iload_n 2, 1) := dk_28 (dk_at dksX3_clash_0 9 rfl rfl)
theorem dX3_clash_10 : decode cX3_clash 10 = .ok (.invokevirtual 86, 3) := dk_182 0 86 (dk_at dksX3_clash_0 10 rfl rfl)
theorem dX3_clash_13 : decode cX3_clash 13 = .ok (.invokestatic 90, 3) := dk_184 0 90 (dk_at dksX3_clash_0 13 rfl rfl)
theorem dX3_clash_16 : decode cX3_clash 16 = .ok (.isub, 1) := dk_100 (dk_at dksX3_clash_0 16 rfl rfl)
theorem dX3_clash_17 : decode cX3_clash 17 = .ok (.imul, 1) := dk_104 (dk_at dksX3_clash_0 17 rfl rfl)
theorem dX3_clash_18 : decode cX3_clash 18 = .ok (.istore_n 3, 1) := dk_62 (dk_at dksX3_clash_0 18 rfl rfl)
theorem dX3_clash_19 : decode cX3_clash 19 = .ok (.aload_n 0, 1) := dk_42 (dk_at dksX3_clash_0 19 rfl rfl)
theorem dX3_clash_20 : decode cX3_clash 20 = .ok (.iload_n 1, 1) := dk_27 (dk_at dksX3_clash_0 20 rfl rfl)
theorem dX3_clash_21 : decode cX3_clash 21 = .ok (.invokevirtual 96, 3) := dk_182 0 96 (dk_at dksX3_clash_0 21 rfl rfl)
theorem dX3_clash_24 : decode cX3_clash 24 = .ok (.aload_n 0, 1) := dk_42 (dk_at dksX3_clash_1 0 rfl rfl)
theorem dX3_clash_25 : decode cX3_clash 25 = .ok (.iload_n 2, 1) := dk_28 (dk_at dksX3_clash_1 1 rfl rfl)
theorem dX3_clash_26 : decode cX3_clash 26 = .ok (.invokevirtual 96, 3) := dk_182 0 96 (dk_at dksX3_clash_1 2 rfl rfl)
theorem dX3_clash_29 : decode cX3_clash 29 = .ok (.if_icmp .ne 24, 3) := dk_160 0 24 (dk_at dksX3_clash_1 5 rfl rfl)
theorem dX3_clash_32 : decode cX3_clash 32 = .ok (.aload_n 0, 1) := dk_42 (dk_at dksX3_clash_1 8 rfl rfl)
theorem dX3_clash_33 : decode cX3_clash 33 = .ok (.iload_n 1, 1) := dk_27 (dk_at dksX3_clash_1 9 rfl rfl)
theorem dX3_clash_34 : decode cX3_clash 34 = .ok (.invokevirtual 99, 3) := dk_182 0 99 (dk_at dksX3_clash_1 10 rfl rfl)
theorem dX3_clash_37 : decode cX3_clash 37 = .ok (.iload_n 3, 1) := dk_29 (dk_at dksX3_clash_1 13 rfl rfl)
theorem dX3_clash_38 : decode cX3_clash 38 = .ok (.ishr, 1) := dk_122 (dk_at dksX3_clash_1 14 rfl rfl)
theorem dX3_clash_39 : decode cX3_clash 39 = .ok (.aload_n 0, 1) := dk_42 (dk_at dksX3_clash_1 15 rfl rfl)
theorem dX3_clash_40 : decode cX3_clash 40 = .ok (.iload_n 2, 1) := dk_28 (dk_at dksX3_clash_1 16 rfl rfl)
theorem dX3_clash_41 : decode cX3_clash 41 = .ok (.invokevirtual 99, 3) := dk_182 0 99 (dk_at dksX3_clash_1 17 rfl rfl)
theorem dX3_clash_44 : decode cX3_clash 44 = .ok (.iload_n 3, 1) := dk_29 (dk_at dksX3_clash_1 20 rfl rfl)
theorem dX3_clash_45 : decode cX3_clash 45 = .ok (.ishr, 1) := dk_122 (dk_at dksX3_clash_1 21 rfl rfl)
theorem dX3_clash_46 : decode cX3_clash 46 = .ok (.if_icmp .ne 7, 3) := dk_160 0 7 (dk_at dksX3_clash_2 0 rfl rfl)
theorem dX3_clash_49 : decode cX3_clash 49 = .ok (.iconst 1, 1) := dk_4 (dk_at dksX3_clash_2 3 rfl rfl)
theorem dX3_clash_50 : decode cX3_clash 50 = .ok (.goto 4, 3) := dk_167 0 4 (dk_at dksX3_clash_2 4 rfl rfl)
theorem dX3_clash_53 : decode cX3_clash 53 = .ok (.iconst 0, 1) := dk_3 (dk_at dksX3_clash_2 7 rfl rfl)
theorem dX3_clash_54 : decode cX3_clash 54 = .ok (.ireturn, 1) := dk_172 (dk_at dksX3_clash_2 8 rfl rfl)
abbrev cX3_lengthOf : ByteArray := prog_12_method_12_code
def yX3_lengthOf : MethodName := ⟨RX3, "lengthOf", "(I)I"⟩
def dkwX3_lengthOf_0 : List UInt8 := [27, 16, 100, 162, 0, 12, 42, 180, 0, 18, 27, 46, 167, 0, 4, 4, 172]
abbrev dktX3_lengthOf_0 : List UInt8 := dkwX3_lengthOf_0 ++ []
theorem dksX3_lengthOf_0 : cX3_lengthOf.data.toList.drop 0 = dktX3_lengthOf_0 := by decide +kernel
theorem dX3_lengthOf_0 : decode cX3_lengthOf 0 = .ok (.iload_n 1, 1) := dk_27 (dk_at dksX3_lengthOf_0 0 rfl rfl)
theorem dX3_lengthOf_1 : decode cX3_lengthOf 1 = .ok (.bipush 100, 2) := dk_16 100 (dk_at dksX3_lengthOf_0 1 rfl rfl)
theorem dX3_lengthOf_3 : decode cX3_lengthOf 3 = .ok (.if_icmp .ge 12, 3) := dk_162 0 12 (dk_at dksX3_lengthOf_0 3 rfl rfl)
theorem dX3_lengthOf_6 : decode cX3_lengthOf 6 = .ok (.aload_n 0, 1) := dk_42 (dk_at dksX3_lengthOf_0 6 rfl rfl)
theorem dX3_lengthOf_7 : decode cX3_lengthOf 7 = .ok (.getfield 18, 3) := dk_180 0 18 (dk_at dksX3_lengthOf_0 7 rfl rfl)
theorem dX3_lengthOf_10 : decode cX3_lengthOf 10 = .ok (.iload_n 1, 1) := dk_27 (dk_at dksX3_lengthOf_0 10 rfl rfl)
theorem dX3_lengthOf_11 : decode cX3_lengthOf 11 = .ok (.iaload, 1) := dk_46 (dk_at dksX3_lengthOf_0 11 rfl rfl)
theorem dX3_lengthOf_12 : decode cX3_lengthOf 12 = .ok (.goto 4, 3) := dk_167 0 4 (dk_at dksX3_lengthOf_0 12 rfl rfl)
theorem dX3_lengthOf_15 : decode cX3_lengthOf 15 = .ok (.iconst 1, 1) := dk_4 (dk_at dksX3_lengthOf_0 15 rfl rfl)
theorem dX3_lengthOf_16 : decode cX3_lengthOf 16 = .ok (.ireturn, 1) := dk_172 (dk_at dksX3_lengthOf_0 16 rfl rfl)
abbrev cX3_stateOf : ByteArray := prog_12_method_11_code
def yX3_stateOf : MethodName := ⟨RX3, "stateOf", "(I)I"⟩
def dkwX3_stateOf_1 : List UInt8 := [172]
abbrev dktX3_stateOf_1 : List UInt8 := dkwX3_stateOf_1 ++ []
def dkwX3_stateOf_0 : List UInt8 := [27, 16, 100, 162, 0, 12, 42, 180, 0, 9, 27, 46, 167, 0, 12, 42, 180, 0, 28, 27, 16, 100, 100, 46]
abbrev dktX3_stateOf_0 : List UInt8 := dkwX3_stateOf_0 ++ dktX3_stateOf_1
theorem dksX3_stateOf_0 : cX3_stateOf.data.toList.drop 0 = dktX3_stateOf_0 := by decide +kernel
theorem dksX3_stateOf_1 : cX3_stateOf.data.toList.drop 24 = dktX3_stateOf_1 := dk_seg dksX3_stateOf_0 24 rfl rfl
theorem dX3_stateOf_0 : decode cX3_stateOf 0 = .ok (.iload_n 1, 1) := dk_27 (dk_at dksX3_stateOf_0 0 rfl rfl)
theorem dX3_stateOf_1 : decode cX3_stateOf 1 = .ok (.bipush 100, 2) := dk_16 100 (dk_at dksX3_stateOf_0 1 rfl rfl)
theorem dX3_stateOf_3 : decode cX3_stateOf 3 = .ok (.if_icmp .ge 12, 3) := dk_162 0 12 (dk_at dksX3_stateOf_0 3 rfl rfl)
theorem dX3_stateOf_6 : decode cX3_stateOf 6 = .ok (.aload_n 0, 1) := dk_42 (dk_at dksX3_stateOf_0 6 rfl rfl)
theorem dX3_stateOf_7 : decode cX3_stateOf 7 = .ok (.getfield 9, 3) := dk_180 0 9 (dk_at dksX3_stateOf_0 7 rfl rfl)
theorem dX3_stateOf_10 : decode cX3_stateOf 10 = .ok (.iload_n 1, 1) := dk_27 (dk_at dksX3_stateOf_0 10 rfl rfl)
theorem dX3_stateOf_11 : decode cX3_stateOf 11 = .ok (.iaload, 1) := dk_46 (dk_at dksX3_stateOf_0 11 rfl rfl)
theorem dX3_stateOf_12 : decode cX3_stateOf 12 = .ok (.goto 12, 3) := dk_167 0 12 (dk_at dksX3_stateOf_0 12 rfl rfl)
theorem dX3_stateOf_15 : decode cX3_stateOf 15 = .ok (.aload_n 0, 1) := dk_42 (dk_at dksX3_stateOf_0 15 rfl rfl)
theorem dX3_stateOf_16 : decode cX3_stateOf 16 = .ok (.getfield 28, 3) := dk_180 0 28 (dk_at dksX3_stateOf_0 16 rfl rfl)
theorem dX3_stateOf_19 : decode cX3_stateOf 19 = .ok (.iload_n 1, 1) := dk_27 (dk_at dksX3_stateOf_0 19 rfl rfl)
theorem dX3_stateOf_20 : decode cX3_stateOf 20 = .ok (.bipush 100, 2) := dk_16 100 (dk_at dksX3_stateOf_0 20 rfl rfl)
theorem dX3_stateOf_22 : decode cX3_stateOf 22 = .ok (.isub, 1) := dk_100 (dk_at dksX3_stateOf_0 22 rfl rfl)
theorem dX3_stateOf_23 : decode cX3_stateOf 23 = .ok (.iaload, 1) := dk_46 (dk_at dksX3_stateOf_0 23 rfl rfl)
theorem dX3_stateOf_24 : decode cX3_stateOf 24 = .ok (.ireturn, 1) := dk_172 (dk_at dksX3_stateOf_1 0 rfl rfl)
abbrev cX3_keyOf : ByteArray := prog_12_method_13_code
def yX3_keyOf : MethodName := ⟨RX3, "keyOf", "(I)I"⟩
def dkwX3_keyOf_1 : List UInt8 := [167, 0, 15, 42, 180, 0, 31, 27, 16, 100, 100, 46, 16, 16, 120, 172]
abbrev dktX3_keyOf_1 : List UInt8 := dkwX3_keyOf_1 ++ []
def dkwX3_keyOf_0 : List UInt8 := [27, 16, 100, 162, 0, 24, 42, 180, 0, 15, 27, 46, 16, 8, 6, 42, 180, 0, 18, 27, 46, 100, 104, 120]
abbrev dktX3_keyOf_0 : List UInt8 := dkwX3_keyOf_0 ++ dktX3_keyOf_1
theorem dksX3_keyOf_0 : cX3_keyOf.data.toList.drop 0 = dktX3_keyOf_0 := by decide +kernel
theorem dksX3_keyOf_1 : cX3_keyOf.data.toList.drop 24 = dktX3_keyOf_1 := dk_seg dksX3_keyOf_0 24 rfl rfl
theorem dX3_keyOf_0 : decode cX3_keyOf 0 = .ok (.iload_n 1, 1) := dk_27 (dk_at dksX3_keyOf_0 0 rfl rfl)
theorem dX3_keyOf_1 : decode cX3_keyOf 1 = .ok (.bipush 100, 2) := dk_16 100 (dk_at dksX3_keyOf_0 1 rfl rfl)
theorem dX3_keyOf_3 : decode cX3_keyOf 3 = .ok (.if_icmp .ge 24, 3) := dk_162 0 24 (dk_at dksX3_keyOf_0 3 rfl rfl)
theorem dX3_keyOf_6 : decode cX3_keyOf 6 = .ok (.aload_n 0, 1) := dk_42 (dk_at dksX3_keyOf_0 6 rfl rfl)
theorem dX3_keyOf_7 : decode cX3_keyOf 7 = .ok (.getfield 15, 3) := dk_180 0 15 (dk_at dksX3_keyOf_0 7 rfl rfl)
theorem dX3_keyOf_10 : decode cX3_keyOf 10 = .ok (.iload_n 1, 1) := dk_27 (dk_at dksX3_keyOf_0 10 rfl rfl)
theorem dX3_keyOf_11 : decode cX3_keyOf 11 = .ok (.iaload, 1) := dk_46 (dk_at dksX3_keyOf_0 11 rfl rfl)
theorem dX3_keyOf_12 : decode cX3_keyOf 12 = .ok (.bipush 8, 2) := dk_16 8 (dk_at dksX3_keyOf_0 12 rfl rfl)
theorem dX3_keyOf_14 : decode cX3_keyOf 14 = .ok (.iconst 3, 1) := dk_6 (dk_at dksX3_keyOf_0 14 rfl rfl)
theorem dX3_keyOf_15 : decode cX3_keyOf 15 = .ok (.aload_n 0, 1) := dk_42 (dk_at dksX3_keyOf_0 15 rfl rfl)
theorem dX3_keyOf_16 : decode cX3_keyOf 16 = .ok (.getfield 18, 3) := dk_180 0 18 (dk_at dksX3_keyOf_0 16 rfl rfl)
theorem dX3_keyOf_19 : decode cX3_keyOf 19 = .ok (.iload_n 1, 1) := dk_27 (dk_at dksX3_keyOf_0 19 rfl rfl)
theorem dX3_keyOf_20 : decode cX3_keyOf 20 = .ok (.iaload, 1) := dk_46 (dk_at dksX3_keyOf_0 20 rfl rfl)
theorem dX3_keyOf_21 : decode cX3_keyOf 21 = .ok (.isub, 1) := dk_100 (dk_at dksX3_keyOf_0 21 rfl rfl)
theorem dX3_keyOf_22 : decode cX3_keyOf 22 = .ok (.imul, 1) := dk_104 (dk_at dksX3_keyOf_0 22 rfl rfl)
theorem dX3_keyOf_23 : decode cX3_keyOf 23 = .ok (.ishl, 1) := dk_120 (dk_at dksX3_keyOf_0 23 rfl rfl)
theorem dX3_keyOf_24 : decode cX3_keyOf 24 = .ok (.goto 15, 3) := dk_167 0 15 (dk_at dksX3_keyOf_1 0 rfl rfl)
theorem dX3_keyOf_27 : decode cX3_keyOf 27 = .ok (.aload_n 0, 1) := dk_42 (dk_at dksX3_keyOf_1 3 rfl rfl)
theorem dX3_keyOf_28 : decode cX3_keyOf 28 = .ok (.getfield 31, 3) := dk_180 0 31 (dk_at dksX3_keyOf_1 4 rfl rfl)
theorem dX3_keyOf_31 : decode cX3_keyOf 31 = .ok (.iload_n 1, 1) := dk_27 (dk_at dksX3_keyOf_1 7 rfl rfl)
theorem dX3_keyOf_32 : decode cX3_keyOf 32 = .ok (.bipush 100, 2) := dk_16 100 (dk_at dksX3_keyOf_1 8 rfl rfl)
theorem dX3_keyOf_34 : decode cX3_keyOf 34 = .ok (.isub, 1) := dk_100 (dk_at dksX3_keyOf_1 10 rfl rfl)
theorem dX3_keyOf_35 : decode cX3_keyOf 35 = .ok (.iaload, 1) := dk_46 (dk_at dksX3_keyOf_1 11 rfl rfl)
theorem dX3_keyOf_36 : decode cX3_keyOf 36 = .ok (.bipush 16, 2) := dk_16 16 (dk_at dksX3_keyOf_1 12 rfl rfl)
theorem dX3_keyOf_38 : decode cX3_keyOf 38 = .ok (.ishl, 1) := dk_120 (dk_at dksX3_keyOf_1 14 rfl rfl)
theorem dX3_keyOf_39 : decode cX3_keyOf 39 = .ok (.ireturn, 1) := dk_172 (dk_at dksX3_keyOf_1 15 rfl rfl)
abbrev cX3_breaks : ByteArray := prog_12_method_15_code
def yX3_breaks : MethodName := ⟨RX3, "breaks", "(III)Z"⟩
def dkwX3_breaks_0 : List UInt8 := [42, 27, 181, 0, 102, 42, 28, 181, 0, 105, 42, 29, 181, 0, 108, 4, 172]
abbrev dktX3_breaks_0 : List UInt8 := dkwX3_breaks_0 ++ []
theorem dksX3_breaks_0 : cX3_breaks.data.toList.drop 0 = dktX3_breaks_0 := by decide +kernel
theorem dX3_breaks_0 : decode cX3_breaks 0 = .ok (.aload_n 0, 1) := dk_42 (dk_at dksX3_breaks_0 0 rfl rfl)
theorem dX3_breaks_1 : decode cX3_breaks 1 = .ok (.iload_n 1, 1) := dk_27 (dk_at dksX3_breaks_0 1 rfl rfl)
theorem dX3_breaks_2 : decode cX3_breaks 2 = .ok (.putfield 102, 3) := dk_181 0 102 (dk_at dksX3_breaks_0 2 rfl rfl)
theorem dX3_breaks_5 : decode cX3_breaks 5 = .ok (.aload_n 0, 1) := dk_42 (dk_at dksX3_breaks_0 5 rfl rfl)
theorem dX3_breaks_6 : decode cX3_breaks 6 = .ok (.iload_n 2, 1) := dk_28 (dk_at dksX3_breaks_0 6 rfl rfl)
theorem dX3_breaks_7 : decode cX3_breaks 7 = .ok (.putfield 105, 3) := dk_181 0 105 (dk_at dksX3_breaks_0 7 rfl rfl)
theorem dX3_breaks_10 : decode cX3_breaks 10 = .ok (.aload_n 0, 1) := dk_42 (dk_at dksX3_breaks_0 10 rfl rfl)
theorem dX3_breaks_11 : decode cX3_breaks 11 = .ok (.iload_n 3, 1) := dk_29 (dk_at dksX3_breaks_0 11 rfl rfl)
theorem dX3_breaks_12 : decode cX3_breaks 12 = .ok (.putfield 108, 3) := dk_181 0 108 (dk_at dksX3_breaks_0 12 rfl rfl)
theorem dX3_breaks_15 : decode cX3_breaks 15 = .ok (.iconst 1, 1) := dk_4 (dk_at dksX3_breaks_0 15 rfl rfl)
theorem dX3_breaks_16 : decode cX3_breaks 16 = .ok (.ireturn, 1) := dk_172 (dk_at dksX3_breaks_0 16 rfl rfl)
abbrev cX3_isDoubtful : ByteArray := prog_12_method_18_code
def yX3_isDoubtful : MethodName := ⟨RX3, "isDoubtful", "()Z"⟩
def dkwX3_isDoubtful_5 : List UInt8 := [167, 0, 4, 3, 172]
abbrev dktX3_isDoubtful_5 : List UInt8 := dkwX3_isDoubtful_5 ++ []
def dkwX3_isDoubtful_4 : List UInt8 := [60, 132, 2, 1, 167, 255, 161, 27, 155, 0, 17, 42, 5, 27, 3, 182, 0, 118, 153, 0, 7, 4]
abbrev dktX3_isDoubtful_4 : List UInt8 := dkwX3_isDoubtful_4 ++ dktX3_isDoubtful_5
def dkwX3_isDoubtful_3 : List UInt8 := [27, 155, 0, 13, 42, 180, 0, 21, 28, 46, 27, 162, 0, 12, 42, 180, 0, 21, 28, 46, 167, 0, 4, 27]
abbrev dktX3_isDoubtful_3 : List UInt8 := dkwX3_isDoubtful_3 ++ dktX3_isDoubtful_4
def dkwX3_isDoubtful_2 : List UInt8 := [21, 4, 51, 153, 0, 7, 4, 167, 0, 4, 3, 96, 62, 132, 4, 1, 167, 255, 210, 29, 4, 159, 0, 26]
abbrev dktX3_isDoubtful_2 : List UInt8 := dkwX3_isDoubtful_2 ++ dktX3_isDoubtful_3
def dkwX3_isDoubtful_1 : List UInt8 := [162, 0, 43, 29, 42, 180, 0, 21, 21, 4, 46, 42, 180, 0, 21, 28, 46, 160, 0, 17, 42, 180, 0, 24]
abbrev dktX3_isDoubtful_1 : List UInt8 := dkwX3_isDoubtful_1 ++ dktX3_isDoubtful_2
def dkwX3_isDoubtful_0 : List UInt8 := [2, 60, 3, 61, 28, 42, 180, 0, 71, 162, 0, 93, 3, 62, 3, 54, 4, 21, 4, 42, 180, 0, 71]
abbrev dktX3_isDoubtful_0 : List UInt8 := dkwX3_isDoubtful_0 ++ dktX3_isDoubtful_1
theorem dksX3_isDoubtful_0 : cX3_isDoubtful.data.toList.drop 0 = dktX3_isDoubtful_0 := by decide +kernel
theorem dksX3_isDoubtful_1 : cX3_isDoubtful.data.toList.drop 23 = dktX3_isDoubtful_1 := dk_seg dksX3_isDoubtful_0 23 rfl rfl
theorem dksX3_isDoubtful_2 : cX3_isDoubtful.data.toList.drop 47 = dktX3_isDoubtful_2 := dk_seg dksX3_isDoubtful_1 24 rfl rfl
theorem dksX3_isDoubtful_3 : cX3_isDoubtful.data.toList.drop 71 = dktX3_isDoubtful_3 := dk_seg dksX3_isDoubtful_2 24 rfl rfl
theorem dksX3_isDoubtful_4 : cX3_isDoubtful.data.toList.drop 95 = dktX3_isDoubtful_4 := dk_seg dksX3_isDoubtful_3 24 rfl rfl
theorem dksX3_isDoubtful_5 : cX3_isDoubtful.data.toList.drop 117 = dktX3_isDoubtful_5 := dk_seg dksX3_isDoubtful_4 22 rfl rfl
theorem dX3_isDoubtful_0 : decode cX3_isDoubtful 0 = .ok (.iconst (-1), 1) := dk_2 (dk_at dksX3_isDoubtful_0 0 rfl rfl)
theorem dX3_isDoubtful_1 : decode cX3_isDoubtful 1 = .ok (.istore_n 1, 1) := dk_60 (dk_at dksX3_isDoubtful_0 1 rfl rfl)
theorem dX3_isDoubtful_2 : decode cX3_isDoubtful 2 = .ok (.iconst 0, 1) := dk_3 (dk_at dksX3_isDoubtful_0 2 rfl rfl)
theorem dX3_isDoubtful_3 : decode cX3_isDoubtful 3 = .ok (.istore_n 2, 1) := dk_61 (dk_at dksX3_isDoubtful_0 3 rfl rfl)
theorem dX3_isDoubtful_4 : decode cX3_isDoubtful 4 = .ok (.iload_n 2, 1) := dk_28 (dk_at dksX3_isDoubtful_0 4 rfl rfl)
theorem dX3_isDoubtful_5 : decode cX3_isDoubtful 5 = .ok (.aload_n 0, 1) := dk_42 (dk_at dksX3_isDoubtful_0 5 rfl rfl)
theorem dX3_isDoubtful_6 : decode cX3_isDoubtful 6 = .ok (.getfield 71, 3) := dk_180 0 71 (dk_at dksX3_isDoubtful_0 6 rfl rfl)
theorem dX3_isDoubtful_9 : decode cX3_isDoubtful 9 = .ok (.if_icmp .ge 93, 3) := dk_162 0 93 (dk_at dksX3_isDoubtful_0 9 rfl rfl)
theorem dX3_isDoubtful_12 : decode cX3_isDoubtful 12 = .ok (.iconst 0, 1) := dk_3 (dk_at dksX3_isDoubtful_0 12 rfl rfl)
theorem dX3_isDoubtful_13 : decode cX3_isDoubtful 13 = .ok (.istore_n 3, 1) := dk_62 (dk_at dksX3_isDoubtful_0 13 rfl rfl)
theorem dX3_isDoubtful_14 : decode cX3_isDoubtful 14 = .ok (.iconst 0, 1) := dk_3 (dk_at dksX3_isDoubtful_0 14 rfl rfl)
theorem dX3_isDoubtful_15 : decode cX3_isDoubtful 15 = .ok (.istore 4, 2) := dk_54 4 (dk_at dksX3_isDoubtful_0 15 rfl rfl)
theorem dX3_isDoubtful_17 : decode cX3_isDoubtful 17 = .ok (.iload 4, 2) := dk_21 4 (dk_at dksX3_isDoubtful_0 17 rfl rfl)
theorem dX3_isDoubtful_19 : decode cX3_isDoubtful 19 = .ok (.aload_n 0, 1) := dk_42 (dk_at dksX3_isDoubtful_0 19 rfl rfl)
theorem dX3_isDoubtful_20 : decode cX3_isDoubtful 20 = .ok (.getfield 71, 3) := dk_180 0 71 (dk_at dksX3_isDoubtful_0 20 rfl rfl)
theorem dX3_isDoubtful_23 : decode cX3_isDoubtful 23 = .ok (.if_icmp .ge 43, 3) := dk_162 0 43 (dk_at dksX3_isDoubtful_1 0 rfl rfl)
theorem dX3_isDoubtful_26 : decode cX3_isDoubtful 26 = .ok (.iload_n 3, 1) := dk_29 (dk_at dksX3_isDoubtful_1 3 rfl rfl)
theorem dX3_isDoubtful_27 : decode cX3_isDoubtful 27 = .ok (.aload_n 0, 1) := dk_42 (dk_at dksX3_isDoubtful_1 4 rfl rfl)
theorem dX3_isDoubtful_28 : decode cX3_isDoubtful 28 = .ok (.getfield 21, 3) := dk_180 0 21 (dk_at dksX3_isDoubtful_1 5 rfl rfl)
theorem dX3_isDoubtful_31 : decode cX3_isDoubtful 31 = .ok (.iload 4, 2) := dk_21 4 (dk_at dksX3_isDoubtful_1 8 rfl rfl)
theorem dX3_isDoubtful_33 : decode cX3_isDoubtful 33 = .ok (.iaload, 1) := dk_46 (dk_at dksX3_isDoubtful_1 10 rfl rfl)
theorem dX3_isDoubtful_34 : decode cX3_isDoubtful 34 = .ok (.aload_n 0, 1) := dk_42 (dk_at dksX3_isDoubtful_1 11 rfl rfl)
theorem dX3_isDoubtful_35 : decode cX3_isDoubtful 35 = .ok (.getfield 21, 3) := dk_180 0 21 (dk_at dksX3_isDoubtful_1 12 rfl rfl)
theorem dX3_isDoubtful_38 : decode cX3_isDoubtful 38 = .ok (.iload_n 2, 1) := dk_28 (dk_at dksX3_isDoubtful_1 15 rfl rfl)
theorem dX3_isDoubtful_39 : decode cX3_isDoubtful 39 = .ok (.iaload, 1) := dk_46 (dk_at dksX3_isDoubtful_1 16 rfl rfl)
theorem dX3_isDoubtful_40 : decode cX3_isDoubtful 40 = .ok (.if_icmp .ne 17, 3) := dk_160 0 17 (dk_at dksX3_isDoubtful_1 17 rfl rfl)
theorem dX3_isDoubtful_43 : decode cX3_isDoubtful 43 = .ok (.aload_n 0, 1) := dk_42 (dk_at dksX3_isDoubtful_1 20 rfl rfl)
theorem dX3_isDoubtful_44 : decode cX3_isDoubtful 44 = .ok (.getfield 24, 3) := dk_180 0 24 (dk_at dksX3_isDoubtful_1 21 rfl rfl)
theorem dX3_isDoubtful_47 : decode cX3_isDoubtful 47 = .ok (.iload 4, 2) := dk_21 4 (dk_at dksX3_isDoubtful_2 0 rfl rfl)
theorem dX3_isDoubtful_49 : decode cX3_isDoubtful 49 = .ok (.baload, 1) := dk_51 (dk_at dksX3_isDoubtful_2 2 rfl rfl)
theorem dX3_isDoubtful_50 : decode cX3_isDoubtful 50 = .ok (.ifCond .eq 7, 3) := dk_153 0 7 (dk_at dksX3_isDoubtful_2 3 rfl rfl)
theorem dX3_isDoubtful_53 : decode cX3_isDoubtful 53 = .ok (.iconst 1, 1) := dk_4 (dk_at dksX3_isDoubtful_2 6 rfl rfl)
theorem dX3_isDoubtful_54 : decode cX3_isDoubtful 54 = .ok (.goto 4, 3) := dk_167 0 4 (dk_at dksX3_isDoubtful_2 7 rfl rfl)
theorem dX3_isDoubtful_57 : decode cX3_isDoubtful 57 = .ok (.iconst 0, 1) := dk_3 (dk_at dksX3_isDoubtful_2 10 rfl rfl)
theorem dX3_isDoubtful_58 : decode cX3_isDoubtful 58 = .ok (.iadd, 1) := dk_96 (dk_at dksX3_isDoubtful_2 11 rfl rfl)
theorem dX3_isDoubtful_59 : decode cX3_isDoubtful 59 = .ok (.istore_n 3, 1) := dk_62 (dk_at dksX3_isDoubtful_2 12 rfl rfl)
theorem dX3_isDoubtful_60 : decode cX3_isDoubtful 60 = .ok (.iinc 4 1, 3) := dk_132 4 1 (dk_at dksX3_isDoubtful_2 13 rfl rfl)
theorem dX3_isDoubtful_63 : decode cX3_isDoubtful 63 = .ok (.goto (-46), 3) := dk_167 255 210 (dk_at dksX3_isDoubtful_2 16 rfl rfl)
theorem dX3_isDoubtful_66 : decode cX3_isDoubtful 66 = .ok (.iload_n 3, 1) := dk_29 (dk_at dksX3_isDoubtful_2 19 rfl rfl)
theorem dX3_isDoubtful_67 : decode cX3_isDoubtful 67 = .ok (.iconst 1, 1) := dk_4 (dk_at dksX3_isDoubtful_2 20 rfl rfl)
theorem dX3_isDoubtful_68 : decode cX3_isDoubtful 68 = .ok (.if_icmp .eq 26, 3) := dk_159 0 26 (dk_at dksX3_isDoubtful_2 21 rfl rfl)
theorem dX3_isDoubtful_71 : decode cX3_isDoubtful 71 = .ok (.iload_n 1, 1) := dk_27 (dk_at dksX3_isDoubtful_3 0 rfl rfl)
theorem dX3_isDoubtful_72 : decode cX3_isDoubtful 72 = .ok (.ifCond .lt 13, 3) := dk_155 0 13 (dk_at dksX3_isDoubtful_3 1 rfl rfl)
theorem dX3_isDoubtful_75 : decode cX3_isDoubtful 75 = .ok (.aload_n 0, 1) := dk_42 (dk_at dksX3_isDoubtful_3 4 rfl rfl)
theorem dX3_isDoubtful_76 : decode cX3_isDoubtful 76 = .ok (.getfield 21, 3) := dk_180 0 21 (dk_at dksX3_isDoubtful_3 5 rfl rfl)
theorem dX3_isDoubtful_79 : decode cX3_isDoubtful 79 = .ok (.iload_n 2, 1) := dk_28 (dk_at dksX3_isDoubtful_3 8 rfl rfl)
theorem dX3_isDoubtful_80 : decode cX3_isDoubtful 80 = .ok (.iaload, 1) := dk_46 (dk_at dksX3_isDoubtful_3 9 rfl rfl)
theorem dX3_isDoubtful_81 : decode cX3_isDoubtful 81 = .ok (.iload_n 1, 1) := dk_27 (dk_at dksX3_isDoubtful_3 10 rfl rfl)
theorem dX3_isDoubtful_82 : decode cX3_isDoubtful 82 = .ok (.if_icmp .ge 12, 3) := dk_162 0 12 (dk_at dksX3_isDoubtful_3 11 rfl rfl)
theorem dX3_isDoubtful_85 : decode cX3_isDoubtful 85 = .ok (.aload_n 0, 1) := dk_42 (dk_at dksX3_isDoubtful_3 14 rfl rfl)
theorem dX3_isDoubtful_86 : decode cX3_isDoubtful 86 = .ok (.getfield 21, 3) := dk_180 0 21 (dk_at dksX3_isDoubtful_3 15 rfl rfl)
theorem dX3_isDoubtful_89 : decode cX3_isDoubtful 89 = .ok (.iload_n 2, 1) := dk_28 (dk_at dksX3_isDoubtful_3 18 rfl rfl)
theorem dX3_isDoubtful_90 : decode cX3_isDoubtful 90 = .ok (.iaload, 1) := dk_46 (dk_at dksX3_isDoubtful_3 19 rfl rfl)
theorem dX3_isDoubtful_91 : decode cX3_isDoubtful 91 = .ok (.goto 4, 3) := dk_167 0 4 (dk_at dksX3_isDoubtful_3 20 rfl rfl)
theorem dX3_isDoubtful_94 : decode cX3_isDoubtful 94 = .ok (.iload_n 1, 1) := dk_27 (dk_at dksX3_isDoubtful_3 23 rfl rfl)
theorem dX3_isDoubtful_95 : decode cX3_isDoubtful 95 = .ok (.istore_n 1, 1) := dk_60 (dk_at dksX3_isDoubtful_4 0 rfl rfl)
theorem dX3_isDoubtful_96 : decode cX3_isDoubtful 96 = .ok (.iinc 2 1, 3) := dk_132 2 1 (dk_at dksX3_isDoubtful_4 1 rfl rfl)
theorem dX3_isDoubtful_99 : decode cX3_isDoubtful 99 = .ok (.goto (-95), 3) := dk_167 255 161 (dk_at dksX3_isDoubtful_4 4 rfl rfl)
theorem dX3_isDoubtful_102 : decode cX3_isDoubtful 102 = .ok (.iload_n 1, 1) := dk_27 (dk_at dksX3_isDoubtful_4 7 rfl rfl)
theorem dX3_isDoubtful_103 : decode cX3_isDoubtful 103 = .ok (.ifCond .lt 17, 3) := dk_155 0 17 (dk_at dksX3_isDoubtful_4 8 rfl rfl)
theorem dX3_isDoubtful_106 : decode cX3_isDoubtful 106 = .ok (.aload_n 0, 1) := dk_42 (dk_at dksX3_isDoubtful_4 11 rfl rfl)
theorem dX3_isDoubtful_107 : decode cX3_isDoubtful 107 = .ok (.iconst 2, 1) := dk_5 (dk_at dksX3_isDoubtful_4 12 rfl rfl)
theorem dX3_isDoubtful_108 : decode cX3_isDoubtful 108 = .ok (.iload_n 1, 1) := dk_27 (dk_at dksX3_isDoubtful_4 13 rfl rfl)
theorem dX3_isDoubtful_109 : decode cX3_isDoubtful 109 = .ok (.iconst 0, 1) := dk_3 (dk_at dksX3_isDoubtful_4 14 rfl rfl)
theorem dX3_isDoubtful_110 : decode cX3_isDoubtful 110 = .ok (.invokevirtual 118, 3) := dk_182 0 118 (dk_at dksX3_isDoubtful_4 15 rfl rfl)
theorem dX3_isDoubtful_113 : decode cX3_isDoubtful 113 = .ok (.ifCond .eq 7, 3) := dk_153 0 7 (dk_at dksX3_isDoubtful_4 18 rfl rfl)
theorem dX3_isDoubtful_116 : decode cX3_isDoubtful 116 = .ok (.iconst 1, 1) := dk_4 (dk_at dksX3_isDoubtful_4 21 rfl rfl)
theorem dX3_isDoubtful_117 : decode cX3_isDoubtful 117 = .ok (.goto 4, 3) := dk_167 0 4 (dk_at dksX3_isDoubtful_5 0 rfl rfl)
theorem dX3_isDoubtful_120 : decode cX3_isDoubtful 120 = .ok (.iconst 0, 1) := dk_3 (dk_at dksX3_isDoubtful_5 3 rfl rfl)
theorem dX3_isDoubtful_121 : decode cX3_isDoubtful 121 = .ok (.ireturn, 1) := dk_172 (dk_at dksX3_isDoubtful_5 4 rfl rfl)
abbrev cX3_isStuck : ByteArray := prog_12_method_20_code
def yX3_isStuck : MethodName := ⟨RX3, "isStuck", "()Z"⟩
def dkwX3_isStuck_1 : List UInt8 := [156, 0, 11, 42, 6, 27, 3, 182, 0, 118, 172, 132, 1, 1, 167, 255, 221, 3, 172]
abbrev dktX3_isStuck_1 : List UInt8 := dkwX3_isStuck_1 ++ []
def dkwX3_isStuck_0 : List UInt8 := [3, 60, 27, 7, 162, 0, 36, 42, 27, 182, 0, 122, 153, 0, 22, 42, 180, 0, 51, 7, 27, 104, 46]
abbrev dktX3_isStuck_0 : List UInt8 := dkwX3_isStuck_0 ++ dktX3_isStuck_1
theorem dksX3_isStuck_0 : cX3_isStuck.data.toList.drop 0 = dktX3_isStuck_0 := by decide +kernel
theorem dksX3_isStuck_1 : cX3_isStuck.data.toList.drop 23 = dktX3_isStuck_1 := dk_seg dksX3_isStuck_0 23 rfl rfl
theorem dX3_isStuck_0 : decode cX3_isStuck 0 = .ok (.iconst 0, 1) := dk_3 (dk_at dksX3_isStuck_0 0 rfl rfl)
theorem dX3_isStuck_1 : decode cX3_isStuck 1 = .ok (.istore_n 1, 1) := dk_60 (dk_at dksX3_isStuck_0 1 rfl rfl)
theorem dX3_isStuck_2 : decode cX3_isStuck 2 = .ok (.iload_n 1, 1) := dk_27 (dk_at dksX3_isStuck_0 2 rfl rfl)
theorem dX3_isStuck_3 : decode cX3_isStuck 3 = .ok (.iconst 4, 1) := dk_7 (dk_at dksX3_isStuck_0 3 rfl rfl)
theorem dX3_isStuck_4 : decode cX3_isStuck 4 = .ok (.if_icmp .ge 36, 3) := dk_162 0 36 (dk_at dksX3_isStuck_0 4 rfl rfl)
theorem dX3_isStuck_7 : decode cX3_isStuck 7 = .ok (.aload_n 0, 1) := dk_42 (dk_at dksX3_isStuck_0 7 rfl rfl)
theorem dX3_isStuck_8 : decode cX3_isStuck 8 = .ok (.iload_n 1, 1) := dk_27 (dk_at dksX3_isStuck_0 8 rfl rfl)
theorem dX3_isStuck_9 : decode cX3_isStuck 9 = .ok (.invokevirtual 122, 3) := dk_182 0 122 (dk_at dksX3_isStuck_0 9 rfl rfl)
theorem dX3_isStuck_12 : decode cX3_isStuck 12 = .ok (.ifCond .eq 22, 3) := dk_153 0 22 (dk_at dksX3_isStuck_0 12 rfl rfl)
theorem dX3_isStuck_15 : decode cX3_isStuck 15 = .ok (.aload_n 0, 1) := dk_42 (dk_at dksX3_isStuck_0 15 rfl rfl)
theorem dX3_isStuck_16 : decode cX3_isStuck 16 = .ok (.getfield 51, 3) := dk_180 0 51 (dk_at dksX3_isStuck_0 16 rfl rfl)
theorem dX3_isStuck_19 : decode cX3_isStuck 19 = .ok (.iconst 4, 1) := dk_7 (dk_at dksX3_isStuck_0 19 rfl rfl)
theorem dX3_isStuck_20 : decode cX3_isStuck 20 = .ok (.iload_n 1, 1) := dk_27 (dk_at dksX3_isStuck_0 20 rfl rfl)
theorem dX3_isStuck_21 : decode cX3_isStuck 21 = .ok (.imul, 1) := dk_104 (dk_at dksX3_isStuck_0 21 rfl rfl)
theorem dX3_isStuck_22 : decode cX3_isStuck 22 = .ok (.iaload, 1) := dk_46 (dk_at dksX3_isStuck_0 22 rfl rfl)
theorem dX3_isStuck_23 : decode cX3_isStuck 23 = .ok (.ifCond .ge 11, 3) := dk_156 0 11 (dk_at dksX3_isStuck_1 0 rfl rfl)
theorem dX3_isStuck_26 : decode cX3_isStuck 26 = .ok (.aload_n 0, 1) := dk_42 (dk_at dksX3_isStuck_1 3 rfl rfl)
theorem dX3_isStuck_27 : decode cX3_isStuck 27 = .ok (.iconst 3, 1) := dk_6 (dk_at dksX3_isStuck_1 4 rfl rfl)
theorem dX3_isStuck_28 : decode cX3_isStuck 28 = .ok (.iload_n 1, 1) := dk_27 (dk_at dksX3_isStuck_1 5 rfl rfl)
theorem dX3_isStuck_29 : decode cX3_isStuck 29 = .ok (.iconst 0, 1) := dk_3 (dk_at dksX3_isStuck_1 6 rfl rfl)
theorem dX3_isStuck_30 : decode cX3_isStuck 30 = .ok (.invokevirtual 118, 3) := dk_182 0 118 (dk_at dksX3_isStuck_1 7 rfl rfl)
theorem dX3_isStuck_33 : decode cX3_isStuck 33 = .ok (.ireturn, 1) := dk_172 (dk_at dksX3_isStuck_1 10 rfl rfl)
theorem dX3_isStuck_34 : decode cX3_isStuck 34 = .ok (.iinc 1 1, 3) := dk_132 1 1 (dk_at dksX3_isStuck_1 11 rfl rfl)
theorem dX3_isStuck_37 : decode cX3_isStuck 37 = .ok (.goto (-35), 3) := dk_167 255 221 (dk_at dksX3_isStuck_1 14 rfl rfl)
theorem dX3_isStuck_40 : decode cX3_isStuck 40 = .ok (.iconst 0, 1) := dk_3 (dk_at dksX3_isStuck_1 17 rfl rfl)
theorem dX3_isStuck_41 : decode cX3_isStuck 41 = .ok (.ireturn, 1) := dk_172 (dk_at dksX3_isStuck_1 18 rfl rfl)
abbrev cX3_isReached : ByteArray := prog_12_method_19_code
def yX3_isReached : MethodName := ⟨RX3, "isReached", "(I)Z"⟩
def dkwX3_isReached_0 : List UInt8 := [42, 180, 0, 51, 27, 46, 155, 0, 7, 4, 167, 0, 4, 3, 172]
abbrev dktX3_isReached_0 : List UInt8 := dkwX3_isReached_0 ++ []
theorem dksX3_isReached_0 : cX3_isReached.data.toList.drop 0 = dktX3_isReached_0 := by decide +kernel
theorem dX3_isReached_0 : decode cX3_isReached 0 = .ok (.aload_n 0, 1) := dk_42 (dk_at dksX3_isReached_0 0 rfl rfl)
theorem dX3_isReached_1 : decode cX3_isReached 1 = .ok (.getfield 51, 3) := dk_180 0 51 (dk_at dksX3_isReached_0 1 rfl rfl)
theorem dX3_isReached_4 : decode cX3_isReached 4 = .ok (.iload_n 1, 1) := dk_27 (dk_at dksX3_isReached_0 4 rfl rfl)
theorem dX3_isReached_5 : decode cX3_isReached 5 = .ok (.iaload, 1) := dk_46 (dk_at dksX3_isReached_0 5 rfl rfl)
theorem dX3_isReached_6 : decode cX3_isReached 6 = .ok (.ifCond .lt 7, 3) := dk_155 0 7 (dk_at dksX3_isReached_0 6 rfl rfl)
theorem dX3_isReached_9 : decode cX3_isReached 9 = .ok (.iconst 1, 1) := dk_4 (dk_at dksX3_isReached_0 9 rfl rfl)
theorem dX3_isReached_10 : decode cX3_isReached 10 = .ok (.goto 4, 3) := dk_167 0 4 (dk_at dksX3_isReached_0 10 rfl rfl)
theorem dX3_isReached_13 : decode cX3_isReached 13 = .ok (.iconst 0, 1) := dk_3 (dk_at dksX3_isReached_0 13 rfl rfl)
theorem dX3_isReached_14 : decode cX3_isReached 14 = .ok (.ireturn, 1) := dk_172 (dk_at dksX3_isReached_0 14 rfl rfl)
abbrev cX3_isFar : ByteArray := prog_12_method_21_code
def yX3_isFar : MethodName := ⟨RX3, "isFar", "()Z"⟩
def dkwX3_isFar_2 : List UInt8 := [172]
abbrev dktX3_isFar_2 : List UInt8 := dkwX3_isFar_2 ++ []
def dkwX3_isFar_1 : List UInt8 := [180, 0, 9, 27, 46, 46, 156, 0, 11, 42, 7, 27, 3, 182, 0, 118, 172, 132, 1, 1, 167, 255, 214, 3]
abbrev dktX3_isFar_1 : List UInt8 := dkwX3_isFar_1 ++ dktX3_isFar_2
def dkwX3_isFar_0 : List UInt8 := [3, 60, 27, 42, 180, 0, 71, 162, 0, 40, 42, 180, 0, 24, 27, 51, 153, 0, 25, 42, 180, 0, 58, 42]
abbrev dktX3_isFar_0 : List UInt8 := dkwX3_isFar_0 ++ dktX3_isFar_1
theorem dksX3_isFar_0 : cX3_isFar.data.toList.drop 0 = dktX3_isFar_0 := by decide +kernel
theorem dksX3_isFar_1 : cX3_isFar.data.toList.drop 24 = dktX3_isFar_1 := dk_seg dksX3_isFar_0 24 rfl rfl
theorem dksX3_isFar_2 : cX3_isFar.data.toList.drop 48 = dktX3_isFar_2 := dk_seg dksX3_isFar_1 24 rfl rfl
theorem dX3_isFar_0 : decode cX3_isFar 0 = .ok (.iconst 0, 1) := dk_3 (dk_at dksX3_isFar_0 0 rfl rfl)
theorem dX3_isFar_1 : decode cX3_isFar 1 = .ok (.istore_n 1, 1) := dk_60 (dk_at dksX3_isFar_0 1 rfl rfl)
theorem dX3_isFar_2 : decode cX3_isFar 2 = .ok (.iload_n 1, 1) := dk_27 (dk_at dksX3_isFar_0 2 rfl rfl)
theorem dX3_isFar_3 : decode cX3_isFar 3 = .ok (.aload_n 0, 1) := dk_42 (dk_at dksX3_isFar_0 3 rfl rfl)
theorem dX3_isFar_4 : decode cX3_isFar 4 = .ok (.getfield 71, 3) := dk_180 0 71 (dk_at dksX3_isFar_0 4 rfl rfl)
theorem dX3_isFar_7 : decode cX3_isFar 7 = .ok (.if_icmp .ge 40, 3) := dk_162 0 40 (dk_at dksX3_isFar_0 7 rfl rfl)
theorem dX3_isFar_10 : decode cX3_isFar 10 = .ok (.aload_n 0, 1) := dk_42 (dk_at dksX3_isFar_0 10 rfl rfl)
theorem dX3_isFar_11 : decode cX3_isFar 11 = .ok (.getfield 24, 3) := dk_180 0 24 (dk_at dksX3_isFar_0 11 rfl rfl)
theorem dX3_isFar_14 : decode cX3_isFar 14 = .ok (.iload_n 1, 1) := dk_27 (dk_at dksX3_isFar_0 14 rfl rfl)
theorem dX3_isFar_15 : decode cX3_isFar 15 = .ok (.baload, 1) := dk_51 (dk_at dksX3_isFar_0 15 rfl rfl)
theorem dX3_isFar_16 : decode cX3_isFar 16 = .ok (.ifCond .eq 25, 3) := dk_153 0 25 (dk_at dksX3_isFar_0 16 rfl rfl)
theorem dX3_isFar_19 : decode cX3_isFar 19 = .ok (.aload_n 0, 1) := dk_42 (dk_at dksX3_isFar_0 19 rfl rfl)
theorem dX3_isFar_20 : decode cX3_isFar 20 = .ok (.getfield 58, 3) := dk_180 0 58 (dk_at dksX3_isFar_0 20 rfl rfl)
theorem dX3_isFar_23 : decode cX3_isFar 23 = .ok (.aload_n 0, 1) := dk_42 (dk_at dksX3_isFar_0 23 rfl rfl)
theorem dX3_isFar_24 : decode cX3_isFar 24 = .ok (.getfield 9, 3) := dk_180 0 9 (dk_at dksX3_isFar_1 0 rfl rfl)
theorem dX3_isFar_27 : decode cX3_isFar 27 = .ok (.iload_n 1, 1) := dk_27 (dk_at dksX3_isFar_1 3 rfl rfl)
theorem dX3_isFar_28 : decode cX3_isFar 28 = .ok (.iaload, 1) := dk_46 (dk_at dksX3_isFar_1 4 rfl rfl)
theorem dX3_isFar_29 : decode cX3_isFar 29 = .ok (.iaload, 1) := dk_46 (dk_at dksX3_isFar_1 5 rfl rfl)
theorem dX3_isFar_30 : decode cX3_isFar 30 = .ok (.ifCond .ge 11, 3) := dk_156 0 11 (dk_at dksX3_isFar_1 6 rfl rfl)
theorem dX3_isFar_33 : decode cX3_isFar 33 = .ok (.aload_n 0, 1) := dk_42 (dk_at dksX3_isFar_1 9 rfl rfl)
theorem dX3_isFar_34 : decode cX3_isFar 34 = .ok (.iconst 4, 1) := dk_7 (dk_at dksX3_isFar_1 10 rfl rfl)
theorem dX3_isFar_35 : decode cX3_isFar 35 = .ok (.iload_n 1, 1) := dk_27 (dk_at dksX3_isFar_1 11 rfl rfl)
theorem dX3_isFar_36 : decode cX3_isFar 36 = .ok (.iconst 0, 1) := dk_3 (dk_at dksX3_isFar_1 12 rfl rfl)
theorem dX3_isFar_37 : decode cX3_isFar 37 = .ok (.invokevirtual 118, 3) := dk_182 0 118 (dk_at dksX3_isFar_1 13 rfl rfl)
theorem dX3_isFar_40 : decode cX3_isFar 40 = .ok (.ireturn, 1) := dk_172 (dk_at dksX3_isFar_1 16 rfl rfl)
theorem dX3_isFar_41 : decode cX3_isFar 41 = .ok (.iinc 1 1, 3) := dk_132 1 1 (dk_at dksX3_isFar_1 17 rfl rfl)
theorem dX3_isFar_44 : decode cX3_isFar 44 = .ok (.goto (-42), 3) := dk_167 255 214 (dk_at dksX3_isFar_1 20 rfl rfl)
theorem dX3_isFar_47 : decode cX3_isFar 47 = .ok (.iconst 0, 1) := dk_3 (dk_at dksX3_isFar_1 23 rfl rfl)
theorem dX3_isFar_48 : decode cX3_isFar 48 = .ok (.ireturn, 1) := dk_172 (dk_at dksX3_isFar_2 0 rfl rfl)
abbrev cX3_close : ByteArray := prog_12_method_26_code
def yX3_close : MethodName := ⟨RX3, "close", "()V"⟩
def dkwX3_close_10 : List UInt8 := [132, 1, 1, 167, 255, 165, 177]
abbrev dktX3_close_10 : List UInt8 := dkwX3_close_10 ++ []
def dkwX3_close_9 : List UInt8 := [132, 2, 255, 167, 255, 213, 42, 180, 0, 48, 28, 27, 79, 42, 89, 180, 0, 150, 4, 96, 181, 0, 150]
abbrev dktX3_close_9 : List UInt8 := dkwX3_close_9 ++ dktX3_close_10
def dkwX3_close_8 : List UInt8 := [46, 42, 180, 0, 21, 27, 46, 164, 0, 23, 42, 180, 0, 48, 28, 42, 180, 0, 48, 28, 4, 100, 46, 79]
abbrev dktX3_close_8 : List UInt8 := dkwX3_close_8 ++ dktX3_close_9
def dkwX3_close_7 : List UInt8 := [167, 0, 71, 42, 180, 0, 150, 61, 28, 158, 0, 45, 42, 180, 0, 21, 42, 180, 0, 48, 28, 4, 100, 46]
abbrev dktX3_close_7 : List UInt8 := dkwX3_close_7 ++ dktX3_close_8
def dkwX3_close_6 : List UInt8 := [42, 3, 181, 0, 150, 3, 60, 27, 42, 180, 0, 71, 162, 0, 89, 42, 180, 0, 24, 27, 51, 154, 0, 6]
abbrev dktX3_close_6 : List UInt8 := dkwX3_close_6 ++ dktX3_close_7
def dkwX3_close_5 : List UInt8 := [28, 50, 29, 27, 79, 42, 180, 0, 45, 28, 92, 46, 4, 96, 79, 42, 27, 182, 0, 111, 60, 167, 255, 157]
abbrev dktX3_close_5 : List UInt8 := dkwX3_close_5 ++ dktX3_close_6
def dkwX3_close_4 : List UInt8 := [28, 50, 29, 42, 180, 0, 42, 28, 50, 29, 4, 100, 46, 79, 132, 3, 255, 167, 255, 209, 42, 180, 0, 42]
abbrev dktX3_close_4 : List UInt8 := dkwX3_close_4 ++ dktX3_close_5
def dkwX3_close_3 : List UInt8 := [180, 0, 42, 28, 50, 29, 4, 100, 46, 182, 0, 99, 42, 27, 182, 0, 99, 164, 0, 27, 42, 180, 0, 42]
abbrev dktX3_close_3 : List UInt8 := dkwX3_close_3 ++ dktX3_close_4
def dkwX3_close_2 : List UInt8 := [96, 162, 0, 94, 42, 27, 182, 0, 96, 61, 42, 180, 0, 45, 28, 46, 62, 29, 158, 0, 49, 42, 42]
abbrev dktX3_close_2 : List UInt8 := dkwX3_close_2 ++ dktX3_close_3
def dkwX3_close_1 : List UInt8 := [167, 255, 241, 42, 180, 0, 71, 158, 0, 7, 3, 167, 0, 5, 16, 100, 60, 27, 16, 100, 42, 180, 0, 75]
abbrev dktX3_close_1 : List UInt8 := dkwX3_close_1 ++ dktX3_close_2
def dkwX3_close_0 : List UInt8 := [42, 4, 181, 0, 67, 3, 60, 27, 7, 162, 0, 16, 42, 180, 0, 45, 27, 3, 79, 132, 1, 1]
abbrev dktX3_close_0 : List UInt8 := dkwX3_close_0 ++ dktX3_close_1
theorem dksX3_close_0 : cX3_close.data.toList.drop 0 = dktX3_close_0 := by decide +kernel
theorem dksX3_close_1 : cX3_close.data.toList.drop 22 = dktX3_close_1 := dk_seg dksX3_close_0 22 rfl rfl
theorem dksX3_close_2 : cX3_close.data.toList.drop 46 = dktX3_close_2 := dk_seg dksX3_close_1 24 rfl rfl
theorem dksX3_close_3 : cX3_close.data.toList.drop 69 = dktX3_close_3 := dk_seg dksX3_close_2 23 rfl rfl
theorem dksX3_close_4 : cX3_close.data.toList.drop 93 = dktX3_close_4 := dk_seg dksX3_close_3 24 rfl rfl
theorem dksX3_close_5 : cX3_close.data.toList.drop 117 = dktX3_close_5 := dk_seg dksX3_close_4 24 rfl rfl
theorem dksX3_close_6 : cX3_close.data.toList.drop 141 = dktX3_close_6 := dk_seg dksX3_close_5 24 rfl rfl
theorem dksX3_close_7 : cX3_close.data.toList.drop 165 = dktX3_close_7 := dk_seg dksX3_close_6 24 rfl rfl
theorem dksX3_close_8 : cX3_close.data.toList.drop 189 = dktX3_close_8 := dk_seg dksX3_close_7 24 rfl rfl
theorem dksX3_close_9 : cX3_close.data.toList.drop 213 = dktX3_close_9 := dk_seg dksX3_close_8 24 rfl rfl
theorem dksX3_close_10 : cX3_close.data.toList.drop 236 = dktX3_close_10 := dk_seg dksX3_close_9 23 rfl rfl
theorem dX3_close_0 : decode cX3_close 0 = .ok (.aload_n 0, 1) := dk_42 (dk_at dksX3_close_0 0 rfl rfl)
theorem dX3_close_1 : decode cX3_close 1 = .ok (.iconst 1, 1) := dk_4 (dk_at dksX3_close_0 1 rfl rfl)
theorem dX3_close_2 : decode cX3_close 2 = .ok (.putfield 67, 3) := dk_181 0 67 (dk_at dksX3_close_0 2 rfl rfl)
theorem dX3_close_5 : decode cX3_close 5 = .ok (.iconst 0, 1) := dk_3 (dk_at dksX3_close_0 5 rfl rfl)
theorem dX3_close_6 : decode cX3_close 6 = .ok (.istore_n 1, 1) := dk_60 (dk_at dksX3_close_0 6 rfl rfl)
theorem dX3_close_7 : decode cX3_close 7 = .ok (.iload_n 1, 1) := dk_27 (dk_at dksX3_close_0 7 rfl rfl)
theorem dX3_close_8 : decode cX3_close 8 = .ok (.iconst 4, 1) := dk_7 (dk_at dksX3_close_0 8 rfl rfl)
theorem dX3_close_9 : decode cX3_close 9 = .ok (.if_icmp .ge 16, 3) := dk_162 0 16 (dk_at dksX3_close_0 9 rfl rfl)
theorem dX3_close_12 : decode cX3_close 12 = .ok (.aload_n 0, 1) := dk_42 (dk_at dksX3_close_0 12 rfl rfl)
theorem dX3_close_13 : decode cX3_close 13 = .ok (.getfield 45, 3) := dk_180 0 45 (dk_at dksX3_close_0 13 rfl rfl)
theorem dX3_close_16 : decode cX3_close 16 = .ok (.iload_n 1, 1) := dk_27 (dk_at dksX3_close_0 16 rfl rfl)
theorem dX3_close_17 : decode cX3_close 17 = .ok (.iconst 0, 1) := dk_3 (dk_at dksX3_close_0 17 rfl rfl)
theorem dX3_close_18 : decode cX3_close 18 = .ok (.iastore, 1) := dk_79 (dk_at dksX3_close_0 18 rfl rfl)
theorem dX3_close_19 : decode cX3_close 19 = .ok (.iinc 1 1, 3) := dk_132 1 1 (dk_at dksX3_close_0 19 rfl rfl)
theorem dX3_close_22 : decode cX3_close 22 = .ok (.goto (-15), 3) := dk_167 255 241 (dk_at dksX3_close_1 0 rfl rfl)
theorem dX3_close_25 : decode cX3_close 25 = .ok (.aload_n 0, 1) := dk_42 (dk_at dksX3_close_1 3 rfl rfl)
theorem dX3_close_26 : decode cX3_close 26 = .ok (.getfield 71, 3) := dk_180 0 71 (dk_at dksX3_close_1 4 rfl rfl)
theorem dX3_close_29 : decode cX3_close 29 = .ok (.ifCond .le 7, 3) := dk_158 0 7 (dk_at dksX3_close_1 7 rfl rfl)
theorem dX3_close_32 : decode cX3_close 32 = .ok (.iconst 0, 1) := dk_3 (dk_at dksX3_close_1 10 rfl rfl)
theorem dX3_close_33 : decode cX3_close 33 = .ok (.goto 5, 3) := dk_167 0 5 (dk_at dksX3_close_1 11 rfl rfl)
theorem dX3_close_36 : decode cX3_close 36 = .ok (.bipush 100, 2) := dk_16 100 (dk_at dksX3_close_1 14 rfl rfl)
theorem dX3_close_38 : decode cX3_close 38 = .ok (.istore_n 1, 1) := dk_60 (dk_at dksX3_close_1 16 rfl rfl)
theorem dX3_close_39 : decode cX3_close 39 = .ok (.iload_n 1, 1) := dk_27 (dk_at dksX3_close_1 17 rfl rfl)
theorem dX3_close_40 : decode cX3_close 40 = .ok (.bipush 100, 2) := dk_16 100 (dk_at dksX3_close_1 18 rfl rfl)
theorem dX3_close_42 : decode cX3_close 42 = .ok (.aload_n 0, 1) := dk_42 (dk_at dksX3_close_1 20 rfl rfl)
theorem dX3_close_43 : decode cX3_close 43 = .ok (.getfield 75, 3) := dk_180 0 75 (dk_at dksX3_close_1 21 rfl rfl)
theorem dX3_close_46 : decode cX3_close 46 = .ok (.iadd, 1) := dk_96 (dk_at dksX3_close_2 0 rfl rfl)
theorem dX3_close_47 : decode cX3_close 47 = .ok (.if_icmp .ge 94, 3) := dk_162 0 94 (dk_at dksX3_close_2 1 rfl rfl)
theorem dX3_close_50 : decode cX3_close 50 = .ok (.aload_n 0, 1) := dk_42 (dk_at dksX3_close_2 4 rfl rfl)
theorem dX3_close_51 : decode cX3_close 51 = .ok (.iload_n 1, 1) := dk_27 (dk_at dksX3_close_2 5 rfl rfl)
theorem dX3_close_52 : decode cX3_close 52 = .ok (.invokevirtual 96, 3) := dk_182 0 96 (dk_at dksX3_close_2 6 rfl rfl)
theorem dX3_close_55 : decode cX3_close 55 = .ok (.istore_n 2, 1) := dk_61 (dk_at dksX3_close_2 9 rfl rfl)
theorem dX3_close_56 : decode cX3_close 56 = .ok (.aload_n 0, 1) := dk_42 (dk_at dksX3_close_2 10 rfl rfl)
theorem dX3_close_57 : decode cX3_close 57 = .ok (.getfield 45, 3) := dk_180 0 45 (dk_at dksX3_close_2 11 rfl rfl)
theorem dX3_close_60 : decode cX3_close 60 = .ok (.iload_n 2, 1) := dk_28 (dk_at dksX3_close_2 14 rfl rfl)
theorem dX3_close_61 : decode cX3_close 61 = .ok (.iaload, 1) := dk_46 (dk_at dksX3_close_2 15 rfl rfl)
theorem dX3_close_62 : decode cX3_close 62 = .ok (.istore_n 3, 1) := dk_62 (dk_at dksX3_close_2 16 rfl rfl)
theorem dX3_close_63 : decode cX3_close 63 = .ok (.iload_n 3, 1) := dk_29 (dk_at dksX3_close_2 17 rfl rfl)
theorem dX3_close_64 : decode cX3_close 64 = .ok (.ifCond .le 49, 3) := dk_158 0 49 (dk_at dksX3_close_2 18 rfl rfl)
theorem dX3_close_67 : decode cX3_close 67 = .ok (.aload_n 0, 1) := dk_42 (dk_at dksX3_close_2 21 rfl rfl)
theorem dX3_close_68 : decode cX3_close 68 = .ok (.aload_n 0, 1) := dk_42 (dk_at dksX3_close_2 22 rfl rfl)
theorem dX3_close_69 : decode cX3_close 69 = .ok (.getfield 42, 3) := dk_180 0 42 (dk_at dksX3_close_3 0 rfl rfl)
theorem dX3_close_72 : decode cX3_close 72 = .ok (.iload_n 2, 1) := dk_28 (dk_at dksX3_close_3 3 rfl rfl)
theorem dX3_close_73 : decode cX3_close 73 = .ok (.aaload, 1) := dk_50 (dk_at dksX3_close_3 4 rfl rfl)
theorem dX3_close_74 : decode cX3_close 74 = .ok (.iload_n 3, 1) := dk_29 (dk_at dksX3_close_3 5 rfl rfl)
theorem dX3_close_75 : decode cX3_close 75 = .ok (.iconst 1, 1) := dk_4 (dk_at dksX3_close_3 6 rfl rfl)
theorem dX3_close_76 : decode cX3_close 76 = .ok (.isub, 1) := dk_100 (dk_at dksX3_close_3 7 rfl rfl)
theorem dX3_close_77 : decode cX3_close 77 = .ok (.iaload, 1) := dk_46 (dk_at dksX3_close_3 8 rfl rfl)
theorem dX3_close_78 : decode cX3_close 78 = .ok (.invokevirtual 99, 3) := dk_182 0 99 (dk_at dksX3_close_3 9 rfl rfl)
theorem dX3_close_81 : decode cX3_close 81 = .ok (.aload_n 0, 1) := dk_42 (dk_at dksX3_close_3 12 rfl rfl)
theorem dX3_close_82 : decode cX3_close 82 = .ok (.iload_n 1, 1) := dk_27 (dk_at dksX3_close_3 13 rfl rfl)
theorem dX3_close_83 : decode cX3_close 83 = .ok (.invokevirtual 99, 3) := dk_182 0 99 (dk_at dksX3_close_3 14 rfl rfl)
theorem dX3_close_86 : decode cX3_close 86 = .ok (.if_icmp .le 27, 3) := dk_164 0 27 (dk_at dksX3_close_3 17 rfl rfl)
theorem dX3_close_89 : decode cX3_close 89 = .ok (.aload_n 0, 1) := dk_42 (dk_at dksX3_close_3 20 rfl rfl)
theorem dX3_close_90 : decode cX3_close 90 = .ok (.getfield 42, 3) := dk_180 0 42 (dk_at dksX3_close_3 21 rfl rfl)
theorem dX3_close_93 : decode cX3_close 93 = .ok (.iload_n 2, 1) := dk_28 (dk_at dksX3_close_4 0 rfl rfl)
theorem dX3_close_94 : decode cX3_close 94 = .ok (.aaload, 1) := dk_50 (dk_at dksX3_close_4 1 rfl rfl)
theorem dX3_close_95 : decode cX3_close 95 = .ok (.iload_n 3, 1) := dk_29 (dk_at dksX3_close_4 2 rfl rfl)
theorem dX3_close_96 : decode cX3_close 96 = .ok (.aload_n 0, 1) := dk_42 (dk_at dksX3_close_4 3 rfl rfl)
theorem dX3_close_97 : decode cX3_close 97 = .ok (.getfield 42, 3) := dk_180 0 42 (dk_at dksX3_close_4 4 rfl rfl)
theorem dX3_close_100 : decode cX3_close 100 = .ok (.iload_n 2, 1) := dk_28 (dk_at dksX3_close_4 7 rfl rfl)
theorem dX3_close_101 : decode cX3_close 101 = .ok (.aaload, 1) := dk_50 (dk_at dksX3_close_4 8 rfl rfl)
theorem dX3_close_102 : decode cX3_close 102 = .ok (.iload_n 3, 1) := dk_29 (dk_at dksX3_close_4 9 rfl rfl)
theorem dX3_close_103 : decode cX3_close 103 = .ok (.iconst 1, 1) := dk_4 (dk_at dksX3_close_4 10 rfl rfl)
theorem dX3_close_104 : decode cX3_close 104 = .ok (.isub, 1) := dk_100 (dk_at dksX3_close_4 11 rfl rfl)
theorem dX3_close_105 : decode cX3_close 105 = .ok (.iaload, 1) := dk_46 (dk_at dksX3_close_4 12 rfl rfl)
theorem dX3_close_106 : decode cX3_close 106 = .ok (.iastore, 1) := dk_79 (dk_at dksX3_close_4 13 rfl rfl)
theorem dX3_close_107 : decode cX3_close 107 = .ok (.iinc 3 (-1), 3) := dk_132 3 255 (dk_at dksX3_close_4 14 rfl rfl)
theorem dX3_close_110 : decode cX3_close 110 = .ok (.goto (-47), 3) := dk_167 255 209 (dk_at dksX3_close_4 17 rfl rfl)
theorem dX3_close_113 : decode cX3_close 113 = .ok (.aload_n 0, 1) := dk_42 (dk_at dksX3_close_4 20 rfl rfl)
theorem dX3_close_114 : decode cX3_close 114 = .ok (.getfield 42, 3) := dk_180 0 42 (dk_at dksX3_close_4 21 rfl rfl)
theorem dX3_close_117 : decode cX3_close 117 = .ok (.iload_n 2, 1) := dk_28 (dk_at dksX3_close_5 0 rfl rfl)
theorem dX3_close_118 : decode cX3_close 118 = .ok (.aaload, 1) := dk_50 (dk_at dksX3_close_5 1 rfl rfl)
theorem dX3_close_119 : decode cX3_close 119 = .ok (.iload_n 3, 1) := dk_29 (dk_at dksX3_close_5 2 rfl rfl)
theorem dX3_close_120 : decode cX3_close 120 = .ok (.iload_n 1, 1) := dk_27 (dk_at dksX3_close_5 3 rfl rfl)
theorem dX3_close_121 : decode cX3_close 121 = .ok (.iastore, 1) := dk_79 (dk_at dksX3_close_5 4 rfl rfl)
theorem dX3_close_122 : decode cX3_close 122 = .ok (.aload_n 0, 1) := dk_42 (dk_at dksX3_close_5 5 rfl rfl)
theorem dX3_close_123 : decode cX3_close 123 = .ok (.getfield 45, 3) := dk_180 0 45 (dk_at dksX3_close_5 6 rfl rfl)
theorem dX3_close_126 : decode cX3_close 126 = .ok (.iload_n 2, 1) := dk_28 (dk_at dksX3_close_5 9 rfl rfl)
theorem dX3_close_127 : decode cX3_close 127 = .ok (.dup2, 1) := dk_92 (dk_at dksX3_close_5 10 rfl rfl)
theorem dX3_close_128 : decode cX3_close 128 = .ok (.iaload, 1) := dk_46 (dk_at dksX3_close_5 11 rfl rfl)
theorem dX3_close_129 : decode cX3_close 129 = .ok (.iconst 1, 1) := dk_4 (dk_at dksX3_close_5 12 rfl rfl)
theorem dX3_close_130 : decode cX3_close 130 = .ok (.iadd, 1) := dk_96 (dk_at dksX3_close_5 13 rfl rfl)
theorem dX3_close_131 : decode cX3_close 131 = .ok (.iastore, 1) := dk_79 (dk_at dksX3_close_5 14 rfl rfl)
theorem dX3_close_132 : decode cX3_close 132 = .ok (.aload_n 0, 1) := dk_42 (dk_at dksX3_close_5 15 rfl rfl)
theorem dX3_close_133 : decode cX3_close 133 = .ok (.iload_n 1, 1) := dk_27 (dk_at dksX3_close_5 16 rfl rfl)
theorem dX3_close_134 : decode cX3_close 134 = .ok (.invokevirtual 111, 3) := dk_182 0 111 (dk_at dksX3_close_5 17 rfl rfl)
theorem dX3_close_137 : decode cX3_close 137 = .ok (.istore_n 1, 1) := dk_60 (dk_at dksX3_close_5 20 rfl rfl)
theorem dX3_close_138 : decode cX3_close 138 = .ok (.goto (-99), 3) := dk_167 255 157 (dk_at dksX3_close_5 21 rfl rfl)
theorem dX3_close_141 : decode cX3_close 141 = .ok (.aload_n 0, 1) := dk_42 (dk_at dksX3_close_6 0 rfl rfl)
theorem dX3_close_142 : decode cX3_close 142 = .ok (.iconst 0, 1) := dk_3 (dk_at dksX3_close_6 1 rfl rfl)
theorem dX3_close_143 : decode cX3_close 143 = .ok (.putfield 150, 3) := dk_181 0 150 (dk_at dksX3_close_6 2 rfl rfl)
theorem dX3_close_146 : decode cX3_close 146 = .ok (.iconst 0, 1) := dk_3 (dk_at dksX3_close_6 5 rfl rfl)
theorem dX3_close_147 : decode cX3_close 147 = .ok (.istore_n 1, 1) := dk_60 (dk_at dksX3_close_6 6 rfl rfl)
theorem dX3_close_148 : decode cX3_close 148 = .ok (.iload_n 1, 1) := dk_27 (dk_at dksX3_close_6 7 rfl rfl)
theorem dX3_close_149 : decode cX3_close 149 = .ok (.aload_n 0, 1) := dk_42 (dk_at dksX3_close_6 8 rfl rfl)
theorem dX3_close_150 : decode cX3_close 150 = .ok (.getfield 71, 3) := dk_180 0 71 (dk_at dksX3_close_6 9 rfl rfl)
theorem dX3_close_153 : decode cX3_close 153 = .ok (.if_icmp .ge 89, 3) := dk_162 0 89 (dk_at dksX3_close_6 12 rfl rfl)
theorem dX3_close_156 : decode cX3_close 156 = .ok (.aload_n 0, 1) := dk_42 (dk_at dksX3_close_6 15 rfl rfl)
theorem dX3_close_157 : decode cX3_close 157 = .ok (.getfield 24, 3) := dk_180 0 24 (dk_at dksX3_close_6 16 rfl rfl)
theorem dX3_close_160 : decode cX3_close 160 = .ok (.iload_n 1, 1) := dk_27 (dk_at dksX3_close_6 19 rfl rfl)
theorem dX3_close_161 : decode cX3_close 161 = .ok (.baload, 1) := dk_51 (dk_at dksX3_close_6 20 rfl rfl)
theorem dX3_close_162 : decode cX3_close 162 = .ok (.ifCond .ne 6, 3) := dk_154 0 6 (dk_at dksX3_close_6 21 rfl rfl)
theorem dX3_close_165 : decode cX3_close 165 = .ok (.goto 71, 3) := dk_167 0 71 (dk_at dksX3_close_7 0 rfl rfl)
theorem dX3_close_168 : decode cX3_close 168 = .ok (.aload_n 0, 1) := dk_42 (dk_at dksX3_close_7 3 rfl rfl)
theorem dX3_close_169 : decode cX3_close 169 = .ok (.getfield 150, 3) := dk_180 0 150 (dk_at dksX3_close_7 4 rfl rfl)
theorem dX3_close_172 : decode cX3_close 172 = .ok (.istore_n 2, 1) := dk_61 (dk_at dksX3_close_7 7 rfl rfl)
theorem dX3_close_173 : decode cX3_close 173 = .ok (.iload_n 2, 1) := dk_28 (dk_at dksX3_close_7 8 rfl rfl)
theorem dX3_close_174 : decode cX3_close 174 = .ok (.ifCond .le 45, 3) := dk_158 0 45 (dk_at dksX3_close_7 9 rfl rfl)
theorem dX3_close_177 : decode cX3_close 177 = .ok (.aload_n 0, 1) := dk_42 (dk_at dksX3_close_7 12 rfl rfl)
theorem dX3_close_178 : decode cX3_close 178 = .ok (.getfield 21, 3) := dk_180 0 21 (dk_at dksX3_close_7 13 rfl rfl)
theorem dX3_close_181 : decode cX3_close 181 = .ok (.aload_n 0, 1) := dk_42 (dk_at dksX3_close_7 16 rfl rfl)
theorem dX3_close_182 : decode cX3_close 182 = .ok (.getfield 48, 3) := dk_180 0 48 (dk_at dksX3_close_7 17 rfl rfl)
theorem dX3_close_185 : decode cX3_close 185 = .ok (.iload_n 2, 1) := dk_28 (dk_at dksX3_close_7 20 rfl rfl)
theorem dX3_close_186 : decode cX3_close 186 = .ok (.iconst 1, 1) := dk_4 (dk_at dksX3_close_7 21 rfl rfl)
theorem dX3_close_187 : decode cX3_close 187 = .ok (.isub, 1) := dk_100 (dk_at dksX3_close_7 22 rfl rfl)
theorem dX3_close_188 : decode cX3_close 188 = .ok (.iaload, 1) := dk_46 (dk_at dksX3_close_7 23 rfl rfl)
theorem dX3_close_189 : decode cX3_close 189 = .ok (.iaload, 1) := dk_46 (dk_at dksX3_close_8 0 rfl rfl)
theorem dX3_close_190 : decode cX3_close 190 = .ok (.aload_n 0, 1) := dk_42 (dk_at dksX3_close_8 1 rfl rfl)
theorem dX3_close_191 : decode cX3_close 191 = .ok (.getfield 21, 3) := dk_180 0 21 (dk_at dksX3_close_8 2 rfl rfl)
theorem dX3_close_194 : decode cX3_close 194 = .ok (.iload_n 1, 1) := dk_27 (dk_at dksX3_close_8 5 rfl rfl)
theorem dX3_close_195 : decode cX3_close 195 = .ok (.iaload, 1) := dk_46 (dk_at dksX3_close_8 6 rfl rfl)
theorem dX3_close_196 : decode cX3_close 196 = .ok (.if_icmp .le 23, 3) := dk_164 0 23 (dk_at dksX3_close_8 7 rfl rfl)
theorem dX3_close_199 : decode cX3_close 199 = .ok (.aload_n 0, 1) := dk_42 (dk_at dksX3_close_8 10 rfl rfl)
theorem dX3_close_200 : decode cX3_close 200 = .ok (.getfield 48, 3) := dk_180 0 48 (dk_at dksX3_close_8 11 rfl rfl)
theorem dX3_close_203 : decode cX3_close 203 = .ok (.iload_n 2, 1) := dk_28 (dk_at dksX3_close_8 14 rfl rfl)
theorem dX3_close_204 : decode cX3_close 204 = .ok (.aload_n 0, 1) := dk_42 (dk_at dksX3_close_8 15 rfl rfl)
theorem dX3_close_205 : decode cX3_close 205 = .ok (.getfield 48, 3) := dk_180 0 48 (dk_at dksX3_close_8 16 rfl rfl)
theorem dX3_close_208 : decode cX3_close 208 = .ok (.iload_n 2, 1) := dk_28 (dk_at dksX3_close_8 19 rfl rfl)
theorem dX3_close_209 : decode cX3_close 209 = .ok (.iconst 1, 1) := dk_4 (dk_at dksX3_close_8 20 rfl rfl)
theorem dX3_close_210 : decode cX3_close 210 = .ok (.isub, 1) := dk_100 (dk_at dksX3_close_8 21 rfl rfl)
theorem dX3_close_211 : decode cX3_close 211 = .ok (.iaload, 1) := dk_46 (dk_at dksX3_close_8 22 rfl rfl)
theorem dX3_close_212 : decode cX3_close 212 = .ok (.iastore, 1) := dk_79 (dk_at dksX3_close_8 23 rfl rfl)
theorem dX3_close_213 : decode cX3_close 213 = .ok (.iinc 2 (-1), 3) := dk_132 2 255 (dk_at dksX3_close_9 0 rfl rfl)
theorem dX3_close_216 : decode cX3_close 216 = .ok (.goto (-43), 3) := dk_167 255 213 (dk_at dksX3_close_9 3 rfl rfl)
theorem dX3_close_219 : decode cX3_close 219 = .ok (.aload_n 0, 1) := dk_42 (dk_at dksX3_close_9 6 rfl rfl)
theorem dX3_close_220 : decode cX3_close 220 = .ok (.getfield 48, 3) := dk_180 0 48 (dk_at dksX3_close_9 7 rfl rfl)
theorem dX3_close_223 : decode cX3_close 223 = .ok (.iload_n 2, 1) := dk_28 (dk_at dksX3_close_9 10 rfl rfl)
theorem dX3_close_224 : decode cX3_close 224 = .ok (.iload_n 1, 1) := dk_27 (dk_at dksX3_close_9 11 rfl rfl)
theorem dX3_close_225 : decode cX3_close 225 = .ok (.iastore, 1) := dk_79 (dk_at dksX3_close_9 12 rfl rfl)
theorem dX3_close_226 : decode cX3_close 226 = .ok (.aload_n 0, 1) := dk_42 (dk_at dksX3_close_9 13 rfl rfl)
theorem dX3_close_227 : decode cX3_close 227 = .ok (.dup, 1) := dk_89 (dk_at dksX3_close_9 14 rfl rfl)
theorem dX3_close_228 : decode cX3_close 228 = .ok (.getfield 150, 3) := dk_180 0 150 (dk_at dksX3_close_9 15 rfl rfl)
theorem dX3_close_231 : decode cX3_close 231 = .ok (.iconst 1, 1) := dk_4 (dk_at dksX3_close_9 18 rfl rfl)
theorem dX3_close_232 : decode cX3_close 232 = .ok (.iadd, 1) := dk_96 (dk_at dksX3_close_9 19 rfl rfl)
theorem dX3_close_233 : decode cX3_close 233 = .ok (.putfield 150, 3) := dk_181 0 150 (dk_at dksX3_close_9 20 rfl rfl)
theorem dX3_close_236 : decode cX3_close 236 = .ok (.iinc 1 1, 3) := dk_132 1 1 (dk_at dksX3_close_10 0 rfl rfl)
theorem dX3_close_239 : decode cX3_close 239 = .ok (.goto (-91), 3) := dk_167 255 165 (dk_at dksX3_close_10 3 rfl rfl)
theorem dX3_close_242 : decode cX3_close 242 = .ok (.return_, 1) := dk_177 (dk_at dksX3_close_10 6 rfl rfl)
abbrev cX3_kind : ByteArray := prog_12_method_2_code
def yX3_kind : MethodName := ⟨RX3, "kind", "()I"⟩
theorem dX3_kind_0 : decode cX3_kind 0 = .ok (.iconst 0, 1) := by decide +kernel
theorem dX3_kind_1 : decode cX3_kind 1 = .ok (.ireturn, 1) := by decide +kernel
abbrev cX3_isClosed : ByteArray := prog_12_method_3_code
def yX3_isClosed : MethodName := ⟨RX3, "isClosed", "()Z"⟩
theorem dX3_isClosed_0 : decode cX3_isClosed 0 = .ok (.aload_n 0, 1) := by decide +kernel
theorem dX3_isClosed_1 : decode cX3_isClosed 1 = .ok (.getfield 67, 3) := by decide +kernel
theorem dX3_isClosed_4 : decode cX3_isClosed 4 = .ok (.ireturn, 1) := by decide +kernel
abbrev cX3_code : ByteArray := prog_12_method_30_code
def yX3_code : MethodName := ⟨RX3, "code", "(I)J"⟩
def dkwX3_code_1 : List UInt8 := [16, 32, 121, 42, 180, 0, 15, 28, 46, 133, 129, 173]
abbrev dktX3_code_1 : List UInt8 := dkwX3_code_1 ++ []
def dkwX3_code_0 : List UInt8 := [42, 27, 182, 0, 165, 61, 28, 156, 0, 9, 20, 0, 168, 167, 0, 21, 42, 180, 0, 18, 28, 46, 133]
abbrev dktX3_code_0 : List UInt8 := dkwX3_code_0 ++ dktX3_code_1
theorem dksX3_code_0 : cX3_code.data.toList.drop 0 = dktX3_code_0 := by decide +kernel
theorem dksX3_code_1 : cX3_code.data.toList.drop 23 = dktX3_code_1 := dk_seg dksX3_code_0 23 rfl rfl
theorem dX3_code_0 : decode cX3_code 0 = .ok (.aload_n 0, 1) := dk_42 (dk_at dksX3_code_0 0 rfl rfl)
theorem dX3_code_1 : decode cX3_code 1 = .ok (.iload_n 1, 1) := dk_27 (dk_at dksX3_code_0 1 rfl rfl)
theorem dX3_code_2 : decode cX3_code 2 = .ok (.invokevirtual 165, 3) := dk_182 0 165 (dk_at dksX3_code_0 2 rfl rfl)
theorem dX3_code_5 : decode cX3_code 5 = .ok (.istore_n 2, 1) := dk_61 (dk_at dksX3_code_0 5 rfl rfl)
theorem dX3_code_6 : decode cX3_code 6 = .ok (.iload_n 2, 1) := dk_28 (dk_at dksX3_code_0 6 rfl rfl)
theorem dX3_code_7 : decode cX3_code 7 = .ok (.ifCond .ge 9, 3) := dk_156 0 9 (dk_at dksX3_code_0 7 rfl rfl)
theorem dX3_code_10 : decode cX3_code 10 = .ok (.ldc2_w 168, 3) := dk_20 0 168 (dk_at dksX3_code_0 10 rfl rfl)
theorem dX3_code_13 : decode cX3_code 13 = .ok (.goto 21, 3) := dk_167 0 21 (dk_at dksX3_code_0 13 rfl rfl)
theorem dX3_code_16 : decode cX3_code 16 = .ok (.aload_n 0, 1) := dk_42 (dk_at dksX3_code_0 16 rfl rfl)
theorem dX3_code_17 : decode cX3_code 17 = .ok (.getfield 18, 3) := dk_180 0 18 (dk_at dksX3_code_0 17 rfl rfl)
theorem dX3_code_20 : decode cX3_code 20 = .ok (.iload_n 2, 1) := dk_28 (dk_at dksX3_code_0 20 rfl rfl)
theorem dX3_code_21 : decode cX3_code 21 = .ok (.iaload, 1) := dk_46 (dk_at dksX3_code_0 21 rfl rfl)
theorem dX3_code_22 : decode cX3_code 22 = .ok (.i2l, 1) := dk_133 (dk_at dksX3_code_0 22 rfl rfl)
theorem dX3_code_23 : decode cX3_code 23 = .ok (.bipush 32, 2) := dk_16 32 (dk_at dksX3_code_1 0 rfl rfl)
theorem dX3_code_25 : decode cX3_code 25 = .ok (.lshl, 1) := dk_121 (dk_at dksX3_code_1 2 rfl rfl)
theorem dX3_code_26 : decode cX3_code 26 = .ok (.aload_n 0, 1) := dk_42 (dk_at dksX3_code_1 3 rfl rfl)
theorem dX3_code_27 : decode cX3_code 27 = .ok (.getfield 15, 3) := dk_180 0 15 (dk_at dksX3_code_1 4 rfl rfl)
theorem dX3_code_30 : decode cX3_code 30 = .ok (.iload_n 2, 1) := dk_28 (dk_at dksX3_code_1 7 rfl rfl)
theorem dX3_code_31 : decode cX3_code 31 = .ok (.iaload, 1) := dk_46 (dk_at dksX3_code_1 8 rfl rfl)
theorem dX3_code_32 : decode cX3_code 32 = .ok (.i2l, 1) := dk_133 (dk_at dksX3_code_1 9 rfl rfl)
theorem dX3_code_33 : decode cX3_code 33 = .ok (.lor, 1) := dk_129 (dk_at dksX3_code_1 10 rfl rfl)
theorem dX3_code_34 : decode cX3_code 34 = .ok (.lreturn, 1) := dk_173 (dk_at dksX3_code_1 11 rfl rfl)
abbrev cX3_entryOf : ByteArray := prog_12_method_29_code
def yX3_entryOf : MethodName := ⟨RX3, "entryOf", "(I)I"⟩
def dkwX3_entryOf_1 : List UInt8 := [46, 27, 160, 0, 12, 42, 180, 0, 48, 28, 46, 167, 0, 4, 2, 172]
abbrev dktX3_entryOf_1 : List UInt8 := dkwX3_entryOf_1 ++ []
def dkwX3_entryOf_0 : List UInt8 := [42, 27, 182, 0, 162, 61, 28, 42, 180, 0, 150, 162, 0, 27, 42, 180, 0, 21, 42, 180, 0, 48, 28, 46]
abbrev dktX3_entryOf_0 : List UInt8 := dkwX3_entryOf_0 ++ dktX3_entryOf_1
theorem dksX3_entryOf_0 : cX3_entryOf.data.toList.drop 0 = dktX3_entryOf_0 := by decide +kernel
theorem dksX3_entryOf_1 : cX3_entryOf.data.toList.drop 24 = dktX3_entryOf_1 := dk_seg dksX3_entryOf_0 24 rfl rfl
theorem dX3_entryOf_0 : decode cX3_entryOf 0 = .ok (.aload_n 0, 1) := dk_42 (dk_at dksX3_entryOf_0 0 rfl rfl)
theorem dX3_entryOf_1 : decode cX3_entryOf 1 = .ok (.iload_n 1, 1) := dk_27 (dk_at dksX3_entryOf_0 1 rfl rfl)
theorem dX3_entryOf_2 : decode cX3_entryOf 2 = .ok (.invokevirtual 162, 3) := dk_182 0 162 (dk_at dksX3_entryOf_0 2 rfl rfl)
theorem dX3_entryOf_5 : decode cX3_entryOf 5 = .ok (.istore_n 2, 1) := dk_61 (dk_at dksX3_entryOf_0 5 rfl rfl)
theorem dX3_entryOf_6 : decode cX3_entryOf 6 = .ok (.iload_n 2, 1) := dk_28 (dk_at dksX3_entryOf_0 6 rfl rfl)
theorem dX3_entryOf_7 : decode cX3_entryOf 7 = .ok (.aload_n 0, 1) := dk_42 (dk_at dksX3_entryOf_0 7 rfl rfl)
theorem dX3_entryOf_8 : decode cX3_entryOf 8 = .ok (.getfield 150, 3) := dk_180 0 150 (dk_at dksX3_entryOf_0 8 rfl rfl)
theorem dX3_entryOf_11 : decode cX3_entryOf 11 = .ok (.if_icmp .ge 27, 3) := dk_162 0 27 (dk_at dksX3_entryOf_0 11 rfl rfl)
theorem dX3_entryOf_14 : decode cX3_entryOf 14 = .ok (.aload_n 0, 1) := dk_42 (dk_at dksX3_entryOf_0 14 rfl rfl)
theorem dX3_entryOf_15 : decode cX3_entryOf 15 = .ok (.getfield 21, 3) := dk_180 0 21 (dk_at dksX3_entryOf_0 15 rfl rfl)
theorem dX3_entryOf_18 : decode cX3_entryOf 18 = .ok (.aload_n 0, 1) := dk_42 (dk_at dksX3_entryOf_0 18 rfl rfl)
theorem dX3_entryOf_19 : decode cX3_entryOf 19 = .ok (.getfield 48, 3) := dk_180 0 48 (dk_at dksX3_entryOf_0 19 rfl rfl)
theorem dX3_entryOf_22 : decode cX3_entryOf 22 = .ok (.iload_n 2, 1) := dk_28 (dk_at dksX3_entryOf_0 22 rfl rfl)
theorem dX3_entryOf_23 : decode cX3_entryOf 23 = .ok (.iaload, 1) := dk_46 (dk_at dksX3_entryOf_0 23 rfl rfl)
theorem dX3_entryOf_24 : decode cX3_entryOf 24 = .ok (.iaload, 1) := dk_46 (dk_at dksX3_entryOf_1 0 rfl rfl)
theorem dX3_entryOf_25 : decode cX3_entryOf 25 = .ok (.iload_n 1, 1) := dk_27 (dk_at dksX3_entryOf_1 1 rfl rfl)
theorem dX3_entryOf_26 : decode cX3_entryOf 26 = .ok (.if_icmp .ne 12, 3) := dk_160 0 12 (dk_at dksX3_entryOf_1 2 rfl rfl)
theorem dX3_entryOf_29 : decode cX3_entryOf 29 = .ok (.aload_n 0, 1) := dk_42 (dk_at dksX3_entryOf_1 5 rfl rfl)
theorem dX3_entryOf_30 : decode cX3_entryOf 30 = .ok (.getfield 48, 3) := dk_180 0 48 (dk_at dksX3_entryOf_1 6 rfl rfl)
theorem dX3_entryOf_33 : decode cX3_entryOf 33 = .ok (.iload_n 2, 1) := dk_28 (dk_at dksX3_entryOf_1 9 rfl rfl)
theorem dX3_entryOf_34 : decode cX3_entryOf 34 = .ok (.iaload, 1) := dk_46 (dk_at dksX3_entryOf_1 10 rfl rfl)
theorem dX3_entryOf_35 : decode cX3_entryOf 35 = .ok (.goto 4, 3) := dk_167 0 4 (dk_at dksX3_entryOf_1 11 rfl rfl)
theorem dX3_entryOf_38 : decode cX3_entryOf 38 = .ok (.iconst (-1), 1) := dk_2 (dk_at dksX3_entryOf_1 14 rfl rfl)
theorem dX3_entryOf_39 : decode cX3_entryOf 39 = .ok (.ireturn, 1) := dk_172 (dk_at dksX3_entryOf_1 15 rfl rfl)
abbrev cX3_below : ByteArray := prog_12_method_28_code
def yX3_below : MethodName := ⟨RX3, "below", "(I)I"⟩
def dkwX3_below_2 : List UInt8 := [167, 255, 217, 28, 172]
abbrev dktX3_below_2 : List UInt8 := dkwX3_below_2 ++ []
def dkwX3_below_1 : List UInt8 := [180, 0, 48, 21, 4, 46, 46, 27, 162, 0, 11, 21, 4, 4, 96, 61, 167, 0, 6, 21, 4, 62]
abbrev dktX3_below_1 : List UInt8 := dkwX3_below_1 ++ dktX3_below_2
def dkwX3_below_0 : List UInt8 := [3, 61, 42, 180, 0, 150, 62, 28, 29, 162, 0, 40, 28, 29, 96, 4, 124, 54, 4, 42, 180, 0, 21, 42]
abbrev dktX3_below_0 : List UInt8 := dkwX3_below_0 ++ dktX3_below_1
theorem dksX3_below_0 : cX3_below.data.toList.drop 0 = dktX3_below_0 := by decide +kernel
theorem dksX3_below_1 : cX3_below.data.toList.drop 24 = dktX3_below_1 := dk_seg dksX3_below_0 24 rfl rfl
theorem dksX3_below_2 : cX3_below.data.toList.drop 46 = dktX3_below_2 := dk_seg dksX3_below_1 22 rfl rfl
theorem dX3_below_0 : decode cX3_below 0 = .ok (.iconst 0, 1) := dk_3 (dk_at dksX3_below_0 0 rfl rfl)
theorem dX3_below_1 : decode cX3_below 1 = .ok (.istore_n 2, 1) := dk_61 (dk_at dksX3_below_0 1 rfl rfl)
theorem dX3_below_2 : decode cX3_below 2 = .ok (.aload_n 0, 1) := dk_42 (dk_at dksX3_below_0 2 rfl rfl)
theorem dX3_below_3 : decode cX3_below 3 = .ok (.getfield 150, 3) := dk_180 0 150 (dk_at dksX3_below_0 3 rfl rfl)
theorem dX3_below_6 : decode cX3_below 6 = .ok (.istore_n 3, 1) := dk_62 (dk_at dksX3_below_0 6 rfl rfl)
theorem dX3_below_7 : decode cX3_below 7 = .ok (.iload_n 2, 1) := dk_28 (dk_at dksX3_below_0 7 rfl rfl)
theorem dX3_below_8 : decode cX3_below 8 = .ok (.iload_n 3, 1) := dk_29 (dk_at dksX3_below_0 8 rfl rfl)
theorem dX3_below_9 : decode cX3_below 9 = .ok (.if_icmp .ge 40, 3) := dk_162 0 40 (dk_at dksX3_below_0 9 rfl rfl)
theorem dX3_below_12 : decode cX3_below 12 = .ok (.iload_n 2, 1) := dk_28 (dk_at dksX3_below_0 12 rfl rfl)
theorem dX3_below_13 : decode cX3_below 13 = .ok (.iload_n 3, 1) := dk_29 (dk_at dksX3_below_0 13 rfl rfl)
theorem dX3_below_14 : decode cX3_below 14 = .ok (.iadd, 1) := dk_96 (dk_at dksX3_below_0 14 rfl rfl)
theorem dX3_below_15 : decode cX3_below 15 = .ok (.iconst 1, 1) := dk_4 (dk_at dksX3_below_0 15 rfl rfl)
theorem dX3_below_16 : decode cX3_below 16 = .ok (.iushr, 1) := dk_124 (dk_at dksX3_below_0 16 rfl rfl)
theorem dX3_below_17 : decode cX3_below 17 = .ok (.istore 4, 2) := dk_54 4 (dk_at dksX3_below_0 17 rfl rfl)
theorem dX3_below_19 : decode cX3_below 19 = .ok (.aload_n 0, 1) := dk_42 (dk_at dksX3_below_0 19 rfl rfl)
theorem dX3_below_20 : decode cX3_below 20 = .ok (.getfield 21, 3) := dk_180 0 21 (dk_at dksX3_below_0 20 rfl rfl)
theorem dX3_below_23 : decode cX3_below 23 = .ok (.aload_n 0, 1) := dk_42 (dk_at dksX3_below_0 23 rfl rfl)
theorem dX3_below_24 : decode cX3_below 24 = .ok (.getfield 48, 3) := dk_180 0 48 (dk_at dksX3_below_1 0 rfl rfl)
theorem dX3_below_27 : decode cX3_below 27 = .ok (.iload 4, 2) := dk_21 4 (dk_at dksX3_below_1 3 rfl rfl)
theorem dX3_below_29 : decode cX3_below 29 = .ok (.iaload, 1) := dk_46 (dk_at dksX3_below_1 5 rfl rfl)
theorem dX3_below_30 : decode cX3_below 30 = .ok (.iaload, 1) := dk_46 (dk_at dksX3_below_1 6 rfl rfl)
theorem dX3_below_31 : decode cX3_below 31 = .ok (.iload_n 1, 1) := dk_27 (dk_at dksX3_below_1 7 rfl rfl)
theorem dX3_below_32 : decode cX3_below 32 = .ok (.if_icmp .ge 11, 3) := dk_162 0 11 (dk_at dksX3_below_1 8 rfl rfl)
theorem dX3_below_35 : decode cX3_below 35 = .ok (.iload 4, 2) := dk_21 4 (dk_at dksX3_below_1 11 rfl rfl)
theorem dX3_below_37 : decode cX3_below 37 = .ok (.iconst 1, 1) := dk_4 (dk_at dksX3_below_1 13 rfl rfl)
theorem dX3_below_38 : decode cX3_below 38 = .ok (.iadd, 1) := dk_96 (dk_at dksX3_below_1 14 rfl rfl)
theorem dX3_below_39 : decode cX3_below 39 = .ok (.istore_n 2, 1) := dk_61 (dk_at dksX3_below_1 15 rfl rfl)
theorem dX3_below_40 : decode cX3_below 40 = .ok (.goto 6, 3) := dk_167 0 6 (dk_at dksX3_below_1 16 rfl rfl)
theorem dX3_below_43 : decode cX3_below 43 = .ok (.iload 4, 2) := dk_21 4 (dk_at dksX3_below_1 19 rfl rfl)
theorem dX3_below_45 : decode cX3_below 45 = .ok (.istore_n 3, 1) := dk_62 (dk_at dksX3_below_1 21 rfl rfl)
theorem dX3_below_46 : decode cX3_below 46 = .ok (.goto (-39), 3) := dk_167 255 217 (dk_at dksX3_below_2 0 rfl rfl)
theorem dX3_below_49 : decode cX3_below 49 = .ok (.iload_n 2, 1) := dk_28 (dk_at dksX3_below_2 3 rfl rfl)
theorem dX3_below_50 : decode cX3_below 50 = .ok (.ireturn, 1) := dk_172 (dk_at dksX3_below_2 4 rfl rfl)
abbrev cX3_match : ByteArray := prog_12_method_27_code
def yX3_match : MethodName := ⟨RX3, "match", "(II[II)I"⟩
def dkwX3_match_11 : List UInt8 := [181, 0, 159, 21, 10, 172]
abbrev dktX3_match_11 : List UInt8 := dkwX3_match_11 ++ []
def dkwX3_match_10 : List UInt8 := [180, 0, 34, 21, 9, 16, 100, 100, 46, 181, 0, 156, 42, 42, 180, 0, 37, 21, 9, 16, 100, 100, 51]
abbrev dktX3_match_10 : List UInt8 := dkwX3_match_10 ++ dktX3_match_11
def dkwX3_match_9 : List UInt8 := [180, 0, 21, 21, 9, 46, 167, 0, 4, 2, 181, 0, 153, 21, 9, 16, 100, 161, 0, 31, 42, 42]
abbrev dktX3_match_9 : List UInt8 := dkwX3_match_9 ++ dktX3_match_10
def dkwX3_match_8 : List UInt8 := [161, 0, 5, 3, 172, 21, 10, 21, 4, 164, 0, 5, 2, 172, 42, 21, 9, 16, 100, 162, 0, 13, 42]
abbrev dktX3_match_8 : List UInt8 := dkwX3_match_8 ++ dktX3_match_9
def dkwX3_match_7 : List UInt8 := [182, 0, 99, 21, 11, 122, 21, 6, 21, 11, 122, 160, 0, 15, 28, 7, 159, 0, 12, 21, 9, 16, 100]
abbrev dktX3_match_7 : List UInt8 := dkwX3_match_7 ++ dktX3_match_8
def dkwX3_match_6 : List UInt8 := [182, 0, 86, 54, 10, 16, 8, 6, 21, 10, 21, 4, 184, 0, 90, 100, 104, 54, 11, 42, 21, 9]
abbrev dktX3_match_6 : List UInt8 := dkwX3_match_6 ++ dktX3_match_7
def dkwX3_match_5 : List UInt8 := [21, 7, 154, 0, 5, 3, 172, 42, 180, 0, 42, 21, 5, 50, 21, 7, 4, 100, 46, 54, 9, 42, 21, 9]
abbrev dktX3_match_5 : List UInt8 := dkwX3_match_5 ++ dktX3_match_6
def dkwX3_match_4 : List UInt8 := [182, 0, 99, 21, 6, 163, 0, 12, 21, 9, 4, 96, 54, 7, 167, 0, 7, 21, 9, 54, 8, 167, 255, 208]
abbrev dktX3_match_4 : List UInt8 := dkwX3_match_4 ++ dktX3_match_5
def dkwX3_match_3 : List UInt8 := [162, 0, 47, 21, 7, 21, 8, 96, 4, 124, 54, 9, 42, 42, 180, 0, 42, 21, 5, 50, 21, 9, 46]
abbrev dktX3_match_3 : List UInt8 := dkwX3_match_3 ++ dktX3_match_4
def dkwX3_match_2 : List UInt8 := [54, 6, 132, 7, 1, 167, 255, 222, 3, 54, 7, 42, 180, 0, 45, 21, 5, 46, 54, 8, 21, 7, 21, 8]
abbrev dktX3_match_2 : List UInt8 := dkwX3_match_2 ++ dktX3_match_3
def dkwX3_match_1 : List UInt8 := [21, 6, 16, 8, 120, 21, 7, 21, 4, 162, 0, 10, 45, 21, 7, 46, 167, 0, 6, 17, 0, 255, 128]
abbrev dktX3_match_1 : List UInt8 := dkwX3_match_1 ++ dktX3_match_2
def dkwX3_match_0 : List UInt8 := [28, 7, 160, 0, 7, 27, 167, 0, 4, 28, 54, 5, 3, 54, 6, 3, 54, 7, 21, 7, 6, 162, 0, 34]
abbrev dktX3_match_0 : List UInt8 := dkwX3_match_0 ++ dktX3_match_1
theorem dksX3_match_0 : cX3_match.data.toList.drop 0 = dktX3_match_0 := by decide +kernel
theorem dksX3_match_1 : cX3_match.data.toList.drop 24 = dktX3_match_1 := dk_seg dksX3_match_0 24 rfl rfl
theorem dksX3_match_2 : cX3_match.data.toList.drop 47 = dktX3_match_2 := dk_seg dksX3_match_1 23 rfl rfl
theorem dksX3_match_3 : cX3_match.data.toList.drop 71 = dktX3_match_3 := dk_seg dksX3_match_2 24 rfl rfl
theorem dksX3_match_4 : cX3_match.data.toList.drop 94 = dktX3_match_4 := dk_seg dksX3_match_3 23 rfl rfl
theorem dksX3_match_5 : cX3_match.data.toList.drop 118 = dktX3_match_5 := dk_seg dksX3_match_4 24 rfl rfl
theorem dksX3_match_6 : cX3_match.data.toList.drop 142 = dktX3_match_6 := dk_seg dksX3_match_5 24 rfl rfl
theorem dksX3_match_7 : cX3_match.data.toList.drop 164 = dktX3_match_7 := dk_seg dksX3_match_6 22 rfl rfl
theorem dksX3_match_8 : cX3_match.data.toList.drop 187 = dktX3_match_8 := dk_seg dksX3_match_7 23 rfl rfl
theorem dksX3_match_9 : cX3_match.data.toList.drop 210 = dktX3_match_9 := dk_seg dksX3_match_8 23 rfl rfl
theorem dksX3_match_10 : cX3_match.data.toList.drop 232 = dktX3_match_10 := dk_seg dksX3_match_9 22 rfl rfl
theorem dksX3_match_11 : cX3_match.data.toList.drop 255 = dktX3_match_11 := dk_seg dksX3_match_10 23 rfl rfl
theorem dX3_match_0 : decode cX3_match 0 = .ok (.iload_n 2, 1) := dk_28 (dk_at dksX3_match_0 0 rfl rfl)
theorem dX3_match_1 : decode cX3_match 1 = .ok (.iconst 4, 1) := dk_7 (dk_at dksX3_match_0 1 rfl rfl)
theorem dX3_match_2 : decode cX3_match 2 = .ok (.if_icmp .ne 7, 3) := dk_160 0 7 (dk_at dksX3_match_0 2 rfl rfl)
theorem dX3_match_5 : decode cX3_match 5 = .ok (.iload_n 1, 1) := dk_27 (dk_at dksX3_match_0 5 rfl rfl)
theorem dX3_match_6 : decode cX3_match 6 = .ok (.goto 4, 3) := dk_167 0 4 (dk_at dksX3_match_0 6 rfl rfl)
theorem dX3_match_9 : decode cX3_match 9 = .ok (.iload_n 2, 1) := dk_28 (dk_at dksX3_match_0 9 rfl rfl)
theorem dX3_match_10 : decode cX3_match 10 = .ok (.istore 5, 2) := dk_54 5 (dk_at dksX3_match_0 10 rfl rfl)
theorem dX3_match_12 : decode cX3_match 12 = .ok (.iconst 0, 1) := dk_3 (dk_at dksX3_match_0 12 rfl rfl)
theorem dX3_match_13 : decode cX3_match 13 = .ok (.istore 6, 2) := dk_54 6 (dk_at dksX3_match_0 13 rfl rfl)
theorem dX3_match_15 : decode cX3_match 15 = .ok (.iconst 0, 1) := dk_3 (dk_at dksX3_match_0 15 rfl rfl)
theorem dX3_match_16 : decode cX3_match 16 = .ok (.istore 7, 2) := dk_54 7 (dk_at dksX3_match_0 16 rfl rfl)
theorem dX3_match_18 : decode cX3_match 18 = .ok (.iload 7, 2) := dk_21 7 (dk_at dksX3_match_0 18 rfl rfl)
theorem dX3_match_20 : decode cX3_match 20 = .ok (.iconst 3, 1) := dk_6 (dk_at dksX3_match_0 20 rfl rfl)
theorem dX3_match_21 : decode cX3_match 21 = .ok (.if_icmp .ge 34, 3) := dk_162 0 34 (dk_at dksX3_match_0 21 rfl rfl)
theorem dX3_match_24 : decode cX3_match 24 = .ok (.iload 6, 2) := dk_21 6 (dk_at dksX3_match_1 0 rfl rfl)
theorem dX3_match_26 : decode cX3_match 26 = .ok (.bipush 8, 2) := dk_16 8 (dk_at dksX3_match_1 2 rfl rfl)
theorem dX3_match_28 : decode cX3_match 28 = .ok (.ishl, 1) := dk_120 (dk_at dksX3_match_1 4 rfl rfl)
theorem dX3_match_29 : decode cX3_match 29 = .ok (.iload 7, 2) := dk_21 7 (dk_at dksX3_match_1 5 rfl rfl)
theorem dX3_match_31 : decode cX3_match 31 = .ok (.iload 4, 2) := dk_21 4 (dk_at dksX3_match_1 7 rfl rfl)
theorem dX3_match_33 : decode cX3_match 33 = .ok (.if_icmp .ge 10, 3) := dk_162 0 10 (dk_at dksX3_match_1 9 rfl rfl)
theorem dX3_match_36 : decode cX3_match 36 = .ok (.aload_n 3, 1) := dk_45 (dk_at dksX3_match_1 12 rfl rfl)
theorem dX3_match_37 : decode cX3_match 37 = .ok (.iload 7, 2) := dk_21 7 (dk_at dksX3_match_1 13 rfl rfl)
theorem dX3_match_39 : decode cX3_match 39 = .ok (.iaload, 1) := dk_46 (dk_at dksX3_match_1 15 rfl rfl)
theorem dX3_match_40 : decode cX3_match 40 = .ok (.goto 6, 3) := dk_167 0 6 (dk_at dksX3_match_1 16 rfl rfl)
theorem dX3_match_43 : decode cX3_match 43 = .ok (.sipush 255, 3) := dk_17 0 255 (dk_at dksX3_match_1 19 rfl rfl)
theorem dX3_match_46 : decode cX3_match 46 = .ok (.ior, 1) := dk_128 (dk_at dksX3_match_1 22 rfl rfl)
theorem dX3_match_47 : decode cX3_match 47 = .ok (.istore 6, 2) := dk_54 6 (dk_at dksX3_match_2 0 rfl rfl)
theorem dX3_match_49 : decode cX3_match 49 = .ok (.iinc 7 1, 3) := dk_132 7 1 (dk_at dksX3_match_2 2 rfl rfl)
theorem dX3_match_52 : decode cX3_match 52 = .ok (.goto (-34), 3) := dk_167 255 222 (dk_at dksX3_match_2 5 rfl rfl)
theorem dX3_match_55 : decode cX3_match 55 = .ok (.iconst 0, 1) := dk_3 (dk_at dksX3_match_2 8 rfl rfl)
theorem dX3_match_56 : decode cX3_match 56 = .ok (.istore 7, 2) := dk_54 7 (dk_at dksX3_match_2 9 rfl rfl)
theorem dX3_match_58 : decode cX3_match 58 = .ok (.aload_n 0, 1) := dk_42 (dk_at dksX3_match_2 11 rfl rfl)
theorem dX3_match_59 : decode cX3_match 59 = .ok (.getfield 45, 3) := dk_180 0 45 (dk_at dksX3_match_2 12 rfl rfl)
theorem dX3_match_62 : decode cX3_match 62 = .ok (.iload 5, 2) := dk_21 5 (dk_at dksX3_match_2 15 rfl rfl)
theorem dX3_match_64 : decode cX3_match 64 = .ok (.iaload, 1) := dk_46 (dk_at dksX3_match_2 17 rfl rfl)
theorem dX3_match_65 : decode cX3_match 65 = .ok (.istore 8, 2) := dk_54 8 (dk_at dksX3_match_2 18 rfl rfl)
theorem dX3_match_67 : decode cX3_match 67 = .ok (.iload 7, 2) := dk_21 7 (dk_at dksX3_match_2 20 rfl rfl)
theorem dX3_match_69 : decode cX3_match 69 = .ok (.iload 8, 2) := dk_21 8 (dk_at dksX3_match_2 22 rfl rfl)
theorem dX3_match_71 : decode cX3_match 71 = .ok (.if_icmp .ge 47, 3) := dk_162 0 47 (dk_at dksX3_match_3 0 rfl rfl)
theorem dX3_match_74 : decode cX3_match 74 = .ok (.iload 7, 2) := dk_21 7 (dk_at dksX3_match_3 3 rfl rfl)
theorem dX3_match_76 : decode cX3_match 76 = .ok (.iload 8, 2) := dk_21 8 (dk_at dksX3_match_3 5 rfl rfl)
theorem dX3_match_78 : decode cX3_match 78 = .ok (.iadd, 1) := dk_96 (dk_at dksX3_match_3 7 rfl rfl)
theorem dX3_match_79 : decode cX3_match 79 = .ok (.iconst 1, 1) := dk_4 (dk_at dksX3_match_3 8 rfl rfl)
theorem dX3_match_80 : decode cX3_match 80 = .ok (.iushr, 1) := dk_124 (dk_at dksX3_match_3 9 rfl rfl)
theorem dX3_match_81 : decode cX3_match 81 = .ok (.istore 9, 2) := dk_54 9 (dk_at dksX3_match_3 10 rfl rfl)
theorem dX3_match_83 : decode cX3_match 83 = .ok (.aload_n 0, 1) := dk_42 (dk_at dksX3_match_3 12 rfl rfl)
theorem dX3_match_84 : decode cX3_match 84 = .ok (.aload_n 0, 1) := dk_42 (dk_at dksX3_match_3 13 rfl rfl)
theorem dX3_match_85 : decode cX3_match 85 = .ok (.getfield 42, 3) := dk_180 0 42 (dk_at dksX3_match_3 14 rfl rfl)
theorem dX3_match_88 : decode cX3_match 88 = .ok (.iload 5, 2) := dk_21 5 (dk_at dksX3_match_3 17 rfl rfl)
theorem dX3_match_90 : decode cX3_match 90 = .ok (.aaload, 1) := dk_50 (dk_at dksX3_match_3 19 rfl rfl)
theorem dX3_match_91 : decode cX3_match 91 = .ok (.iload 9, 2) := dk_21 9 (dk_at dksX3_match_3 20 rfl rfl)
theorem dX3_match_93 : decode cX3_match 93 = .ok (.iaload, 1) := dk_46 (dk_at dksX3_match_3 22 rfl rfl)
theorem dX3_match_94 : decode cX3_match 94 = .ok (.invokevirtual 99, 3) := dk_182 0 99 (dk_at dksX3_match_4 0 rfl rfl)
theorem dX3_match_97 : decode cX3_match 97 = .ok (.iload 6, 2) := dk_21 6 (dk_at dksX3_match_4 3 rfl rfl)
theorem dX3_match_99 : decode cX3_match 99 = .ok (.if_icmp .gt 12, 3) := dk_163 0 12 (dk_at dksX3_match_4 5 rfl rfl)
theorem dX3_match_102 : decode cX3_match 102 = .ok (.iload 9, 2) := dk_21 9 (dk_at dksX3_match_4 8 rfl rfl)
theorem dX3_match_104 : decode cX3_match 104 = .ok (.iconst 1, 1) := dk_4 (dk_at dksX3_match_4 10 rfl rfl)
theorem dX3_match_105 : decode cX3_match 105 = .ok (.iadd, 1) := dk_96 (dk_at dksX3_match_4 11 rfl rfl)
theorem dX3_match_106 : decode cX3_match 106 = .ok (.istore 7, 2) := dk_54 7 (dk_at dksX3_match_4 12 rfl rfl)
theorem dX3_match_108 : decode cX3_match 108 = .ok (.goto 7, 3) := dk_167 0 7 (dk_at dksX3_match_4 14 rfl rfl)
theorem dX3_match_111 : decode cX3_match 111 = .ok (.iload 9, 2) := dk_21 9 (dk_at dksX3_match_4 17 rfl rfl)
theorem dX3_match_113 : decode cX3_match 113 = .ok (.istore 8, 2) := dk_54 8 (dk_at dksX3_match_4 19 rfl rfl)
theorem dX3_match_115 : decode cX3_match 115 = .ok (.goto (-48), 3) := dk_167 255 208 (dk_at dksX3_match_4 21 rfl rfl)
theorem dX3_match_118 : decode cX3_match 118 = .ok (.iload 7, 2) := dk_21 7 (dk_at dksX3_match_5 0 rfl rfl)
theorem dX3_match_120 : decode cX3_match 120 = .ok (.ifCond .ne 5, 3) := dk_154 0 5 (dk_at dksX3_match_5 2 rfl rfl)
theorem dX3_match_123 : decode cX3_match 123 = .ok (.iconst 0, 1) := dk_3 (dk_at dksX3_match_5 5 rfl rfl)
theorem dX3_match_124 : decode cX3_match 124 = .ok (.ireturn, 1) := dk_172 (dk_at dksX3_match_5 6 rfl rfl)
theorem dX3_match_125 : decode cX3_match 125 = .ok (.aload_n 0, 1) := dk_42 (dk_at dksX3_match_5 7 rfl rfl)
theorem dX3_match_126 : decode cX3_match 126 = .ok (.getfield 42, 3) := dk_180 0 42 (dk_at dksX3_match_5 8 rfl rfl)
theorem dX3_match_129 : decode cX3_match 129 = .ok (.iload 5, 2) := dk_21 5 (dk_at dksX3_match_5 11 rfl rfl)
theorem dX3_match_131 : decode cX3_match 131 = .ok (.aaload, 1) := dk_50 (dk_at dksX3_match_5 13 rfl rfl)
theorem dX3_match_132 : decode cX3_match 132 = .ok (.iload 7, 2) := dk_21 7 (dk_at dksX3_match_5 14 rfl rfl)
theorem dX3_match_134 : decode cX3_match 134 = .ok (.iconst 1, 1) := dk_4 (dk_at dksX3_match_5 16 rfl rfl)
theorem dX3_match_135 : decode cX3_match 135 = .ok (.isub, 1) := dk_100 (dk_at dksX3_match_5 17 rfl rfl)
theorem dX3_match_136 : decode cX3_match 136 = .ok (.iaload, 1) := dk_46 (dk_at dksX3_match_5 18 rfl rfl)
theorem dX3_match_137 : decode cX3_match 137 = .ok (.istore 9, 2) := dk_54 9 (dk_at dksX3_match_5 19 rfl rfl)
theorem dX3_match_139 : decode cX3_match 139 = .ok (.aload_n 0, 1) := dk_42 (dk_at dksX3_match_5 21 rfl rfl)
theorem dX3_match_140 : decode cX3_match 140 = .ok (.iload 9, 2) := dk_21 9 (dk_at dksX3_match_5 22 rfl rfl)
theorem dX3_match_142 : decode cX3_match 142 = .ok (.invokevirtual 86, 3) := dk_182 0 86 (dk_at dksX3_match_6 0 rfl rfl)
theorem dX3_match_145 : decode cX3_match 145 = .ok (.istore 10, 2) := dk_54 10 (dk_at dksX3_match_6 3 rfl rfl)
theorem dX3_match_147 : decode cX3_match 147 = .ok (.bipush 8, 2) := dk_16 8 (dk_at dksX3_match_6 5 rfl rfl)
theorem dX3_match_149 : decode cX3_match 149 = .ok (.iconst 3, 1) := dk_6 (dk_at dksX3_match_6 7 rfl rfl)
theorem dX3_match_150 : decode cX3_match 150 = .ok (.iload 10, 2) := dk_21 10 (dk_at dksX3_match_6 8 rfl rfl)
theorem dX3_match_152 : decode cX3_match 152 = .ok (.iload 4, 2) := dk_21 4 (dk_at dksX3_match_6 10 rfl rfl)
theorem dX3_match_154 : decode cX3_match 154 = .ok (.invokestatic 90, 3) := dk_184 0 90 (dk_at dksX3_match_6 12 rfl rfl)
theorem dX3_match_157 : decode cX3_match 157 = .ok (.isub, 1) := dk_100 (dk_at dksX3_match_6 15 rfl rfl)
theorem dX3_match_158 : decode cX3_match 158 = .ok (.imul, 1) := dk_104 (dk_at dksX3_match_6 16 rfl rfl)
theorem dX3_match_159 : decode cX3_match 159 = .ok (.istore 11, 2) := dk_54 11 (dk_at dksX3_match_6 17 rfl rfl)
theorem dX3_match_161 : decode cX3_match 161 = .ok (.aload_n 0, 1) := dk_42 (dk_at dksX3_match_6 19 rfl rfl)
theorem dX3_match_162 : decode cX3_match 162 = .ok (.iload 9, 2) := dk_21 9 (dk_at dksX3_match_6 20 rfl rfl)
theorem dX3_match_164 : decode cX3_match 164 = .ok (.invokevirtual 99, 3) := dk_182 0 99 (dk_at dksX3_match_7 0 rfl rfl)
theorem dX3_match_167 : decode cX3_match 167 = .ok (.iload 11, 2) := dk_21 11 (dk_at dksX3_match_7 3 rfl rfl)
theorem dX3_match_169 : decode cX3_match 169 = .ok (.ishr, 1) := dk_122 (dk_at dksX3_match_7 5 rfl rfl)
theorem dX3_match_170 : decode cX3_match 170 = .ok (.iload 6, 2) := dk_21 6 (dk_at dksX3_match_7 6 rfl rfl)
theorem dX3_match_172 : decode cX3_match 172 = .ok (.iload 11, 2) := dk_21 11 (dk_at dksX3_match_7 8 rfl rfl)
theorem dX3_match_174 : decode cX3_match 174 = .ok (.ishr, 1) := dk_122 (dk_at dksX3_match_7 10 rfl rfl)
theorem dX3_match_175 : decode cX3_match 175 = .ok (.if_icmp .ne 15, 3) := dk_160 0 15 (dk_at dksX3_match_7 11 rfl rfl)
theorem dX3_match_178 : decode cX3_match 178 = .ok (.iload_n 2, 1) := dk_28 (dk_at dksX3_match_7 14 rfl rfl)
theorem dX3_match_179 : decode cX3_match 179 = .ok (.iconst 4, 1) := dk_7 (dk_at dksX3_match_7 15 rfl rfl)
theorem dX3_match_180 : decode cX3_match 180 = .ok (.if_icmp .eq 12, 3) := dk_159 0 12 (dk_at dksX3_match_7 16 rfl rfl)
theorem dX3_match_183 : decode cX3_match 183 = .ok (.iload 9, 2) := dk_21 9 (dk_at dksX3_match_7 19 rfl rfl)
theorem dX3_match_185 : decode cX3_match 185 = .ok (.bipush 100, 2) := dk_16 100 (dk_at dksX3_match_7 21 rfl rfl)
theorem dX3_match_187 : decode cX3_match 187 = .ok (.if_icmp .lt 5, 3) := dk_161 0 5 (dk_at dksX3_match_8 0 rfl rfl)
theorem dX3_match_190 : decode cX3_match 190 = .ok (.iconst 0, 1) := dk_3 (dk_at dksX3_match_8 3 rfl rfl)
theorem dX3_match_191 : decode cX3_match 191 = .ok (.ireturn, 1) := dk_172 (dk_at dksX3_match_8 4 rfl rfl)
theorem dX3_match_192 : decode cX3_match 192 = .ok (.iload 10, 2) := dk_21 10 (dk_at dksX3_match_8 5 rfl rfl)
theorem dX3_match_194 : decode cX3_match 194 = .ok (.iload 4, 2) := dk_21 4 (dk_at dksX3_match_8 7 rfl rfl)
theorem dX3_match_196 : decode cX3_match 196 = .ok (.if_icmp .le 5, 3) := dk_164 0 5 (dk_at dksX3_match_8 9 rfl rfl)
theorem dX3_match_199 : decode cX3_match 199 = .ok (.iconst (-1), 1) := dk_2 (dk_at dksX3_match_8 12 rfl rfl)
theorem dX3_match_200 : decode cX3_match 200 = .ok (.ireturn, 1) := dk_172 (dk_at dksX3_match_8 13 rfl rfl)
theorem dX3_match_201 : decode cX3_match 201 = .ok (.aload_n 0, 1) := dk_42 (dk_at dksX3_match_8 14 rfl rfl)
theorem dX3_match_202 : decode cX3_match 202 = .ok (.iload 9, 2) := dk_21 9 (dk_at dksX3_match_8 15 rfl rfl)
theorem dX3_match_204 : decode cX3_match 204 = .ok (.bipush 100, 2) := dk_16 100 (dk_at dksX3_match_8 17 rfl rfl)
theorem dX3_match_206 : decode cX3_match 206 = .ok (.if_icmp .ge 13, 3) := dk_162 0 13 (dk_at dksX3_match_8 19 rfl rfl)
theorem dX3_match_209 : decode cX3_match 209 = .ok (.aload_n 0, 1) := dk_42 (dk_at dksX3_match_8 22 rfl rfl)
theorem dX3_match_210 : decode cX3_match 210 = .ok (.getfield 21, 3) := dk_180 0 21 (dk_at dksX3_match_9 0 rfl rfl)
theorem dX3_match_213 : decode cX3_match 213 = .ok (.iload 9, 2) := dk_21 9 (dk_at dksX3_match_9 3 rfl rfl)
theorem dX3_match_215 : decode cX3_match 215 = .ok (.iaload, 1) := dk_46 (dk_at dksX3_match_9 5 rfl rfl)
theorem dX3_match_216 : decode cX3_match 216 = .ok (.goto 4, 3) := dk_167 0 4 (dk_at dksX3_match_9 6 rfl rfl)
theorem dX3_match_219 : decode cX3_match 219 = .ok (.iconst (-1), 1) := dk_2 (dk_at dksX3_match_9 9 rfl rfl)
theorem dX3_match_220 : decode cX3_match 220 = .ok (.putfield 153, 3) := dk_181 0 153 (dk_at dksX3_match_9 10 rfl rfl)
theorem dX3_match_223 : decode cX3_match 223 = .ok (.iload 9, 2) := dk_21 9 (dk_at dksX3_match_9 13 rfl rfl)
theorem dX3_match_225 : decode cX3_match 225 = .ok (.bipush 100, 2) := dk_16 100 (dk_at dksX3_match_9 15 rfl rfl)
theorem dX3_match_227 : decode cX3_match 227 = .ok (.if_icmp .lt 31, 3) := dk_161 0 31 (dk_at dksX3_match_9 17 rfl rfl)
theorem dX3_match_230 : decode cX3_match 230 = .ok (.aload_n 0, 1) := dk_42 (dk_at dksX3_match_9 20 rfl rfl)
theorem dX3_match_231 : decode cX3_match 231 = .ok (.aload_n 0, 1) := dk_42 (dk_at dksX3_match_9 21 rfl rfl)
theorem dX3_match_232 : decode cX3_match 232 = .ok (.getfield 34, 3) := dk_180 0 34 (dk_at dksX3_match_10 0 rfl rfl)
theorem dX3_match_235 : decode cX3_match 235 = .ok (.iload 9, 2) := dk_21 9 (dk_at dksX3_match_10 3 rfl rfl)
theorem dX3_match_237 : decode cX3_match 237 = .ok (.bipush 100, 2) := dk_16 100 (dk_at dksX3_match_10 5 rfl rfl)
theorem dX3_match_239 : decode cX3_match 239 = .ok (.isub, 1) := dk_100 (dk_at dksX3_match_10 7 rfl rfl)
theorem dX3_match_240 : decode cX3_match 240 = .ok (.iaload, 1) := dk_46 (dk_at dksX3_match_10 8 rfl rfl)
theorem dX3_match_241 : decode cX3_match 241 = .ok (.putfield 156, 3) := dk_181 0 156 (dk_at dksX3_match_10 9 rfl rfl)
theorem dX3_match_244 : decode cX3_match 244 = .ok (.aload_n 0, 1) := dk_42 (dk_at dksX3_match_10 12 rfl rfl)
theorem dX3_match_245 : decode cX3_match 245 = .ok (.aload_n 0, 1) := dk_42 (dk_at dksX3_match_10 13 rfl rfl)
theorem dX3_match_246 : decode cX3_match 246 = .ok (.getfield 37, 3) := dk_180 0 37 (dk_at dksX3_match_10 14 rfl rfl)
theorem dX3_match_249 : decode cX3_match 249 = .ok (.iload 9, 2) := dk_21 9 (dk_at dksX3_match_10 17 rfl rfl)
theorem dX3_match_251 : decode cX3_match 251 = .ok (.bipush 100, 2) := dk_16 100 (dk_at dksX3_match_10 19 rfl rfl)
theorem dX3_match_253 : decode cX3_match 253 = .ok (.isub, 1) := dk_100 (dk_at dksX3_match_10 21 rfl rfl)
theorem dX3_match_254 : decode cX3_match 254 = .ok (.baload, 1) := dk_51 (dk_at dksX3_match_10 22 rfl rfl)
theorem dX3_match_255 : decode cX3_match 255 = .ok (.putfield 159, 3) := dk_181 0 159 (dk_at dksX3_match_11 0 rfl rfl)
theorem dX3_match_258 : decode cX3_match 258 = .ok (.iload 10, 2) := dk_21 10 (dk_at dksX3_match_11 3 rfl rfl)
theorem dX3_match_260 : decode cX3_match 260 = .ok (.ireturn, 1) := dk_172 (dk_at dksX3_match_11 5 rfl rfl)
abbrev cX3_way : ByteArray := prog_12_method_31_code
def yX3_way : MethodName := ⟨RX3, "way", "(II)J"⟩
def dkwX3_way_1 : List UInt8 := [121, 42, 180, 0, 61, 29, 47, 129, 173]
abbrev dktX3_way_1 : List UInt8 := dkwX3_way_1 ++ []
def dkwX3_way_0 : List UInt8 := [7, 27, 104, 42, 180, 0, 9, 42, 28, 182, 0, 165, 46, 96, 62, 42, 180, 0, 58, 29, 46, 133, 16, 32]
abbrev dktX3_way_0 : List UInt8 := dkwX3_way_0 ++ dktX3_way_1
theorem dksX3_way_0 : cX3_way.data.toList.drop 0 = dktX3_way_0 := by decide +kernel
theorem dksX3_way_1 : cX3_way.data.toList.drop 24 = dktX3_way_1 := dk_seg dksX3_way_0 24 rfl rfl
theorem dX3_way_0 : decode cX3_way 0 = .ok (.iconst 4, 1) := dk_7 (dk_at dksX3_way_0 0 rfl rfl)
theorem dX3_way_1 : decode cX3_way 1 = .ok (.iload_n 1, 1) := dk_27 (dk_at dksX3_way_0 1 rfl rfl)
theorem dX3_way_2 : decode cX3_way 2 = .ok (.imul, 1) := dk_104 (dk_at dksX3_way_0 2 rfl rfl)
theorem dX3_way_3 : decode cX3_way 3 = .ok (.aload_n 0, 1) := dk_42 (dk_at dksX3_way_0 3 rfl rfl)
theorem dX3_way_4 : decode cX3_way 4 = .ok (.getfield 9, 3) := dk_180 0 9 (dk_at dksX3_way_0 4 rfl rfl)
theorem dX3_way_7 : decode cX3_way 7 = .ok (.aload_n 0, 1) := dk_42 (dk_at dksX3_way_0 7 rfl rfl)
theorem dX3_way_8 : decode cX3_way 8 = .ok (.iload_n 2, 1) := dk_28 (dk_at dksX3_way_0 8 rfl rfl)
theorem dX3_way_9 : decode cX3_way 9 = .ok (.invokevirtual 165, 3) := dk_182 0 165 (dk_at dksX3_way_0 9 rfl rfl)
theorem dX3_way_12 : decode cX3_way 12 = .ok (.iaload, 1) := dk_46 (dk_at dksX3_way_0 12 rfl rfl)
theorem dX3_way_13 : decode cX3_way 13 = .ok (.iadd, 1) := dk_96 (dk_at dksX3_way_0 13 rfl rfl)
theorem dX3_way_14 : decode cX3_way 14 = .ok (.istore_n 3, 1) := dk_62 (dk_at dksX3_way_0 14 rfl rfl)
theorem dX3_way_15 : decode cX3_way 15 = .ok (.aload_n 0, 1) := dk_42 (dk_at dksX3_way_0 15 rfl rfl)
theorem dX3_way_16 : decode cX3_way 16 = .ok (.getfield 58, 3) := dk_180 0 58 (dk_at dksX3_way_0 16 rfl rfl)
theorem dX3_way_19 : decode cX3_way 19 = .ok (.iload_n 3, 1) := dk_29 (dk_at dksX3_way_0 19 rfl rfl)
theorem dX3_way_20 : decode cX3_way 20 = .ok (.iaload, 1) := dk_46 (dk_at dksX3_way_0 20 rfl rfl)
theorem dX3_way_21 : decode cX3_way 21 = .ok (.i2l, 1) := dk_133 (dk_at dksX3_way_0 21 rfl rfl)
theorem dX3_way_22 : decode cX3_way 22 = .ok (.bipush 32, 2) := dk_16 32 (dk_at dksX3_way_0 22 rfl rfl)
theorem dX3_way_24 : decode cX3_way 24 = .ok (.lshl, 1) := dk_121 (dk_at dksX3_way_1 0 rfl rfl)
theorem dX3_way_25 : decode cX3_way 25 = .ok (.aload_n 0, 1) := dk_42 (dk_at dksX3_way_1 1 rfl rfl)
theorem dX3_way_26 : decode cX3_way 26 = .ok (.getfield 61, 3) := dk_180 0 61 (dk_at dksX3_way_1 2 rfl rfl)
theorem dX3_way_29 : decode cX3_way 29 = .ok (.iload_n 3, 1) := dk_29 (dk_at dksX3_way_1 5 rfl rfl)
theorem dX3_way_30 : decode cX3_way 30 = .ok (.laload, 1) := dk_47 (dk_at dksX3_way_1 6 rfl rfl)
theorem dX3_way_31 : decode cX3_way 31 = .ok (.lor, 1) := dk_129 (dk_at dksX3_way_1 7 rfl rfl)
theorem dX3_way_32 : decode cX3_way 32 = .ok (.lreturn, 1) := dk_173 (dk_at dksX3_way_1 8 rfl rfl)
abbrev cX3_behind : ByteArray := prog_12_method_32_code
def yX3_behind : MethodName := ⟨RX3, "behind", "(II)I"⟩
def dkwX3_behind_0 : List UInt8 := [42, 180, 0, 64, 7, 27, 104, 42, 180, 0, 9, 42, 28, 182, 0, 165, 46, 96, 46, 172]
abbrev dktX3_behind_0 : List UInt8 := dkwX3_behind_0 ++ []
theorem dksX3_behind_0 : cX3_behind.data.toList.drop 0 = dktX3_behind_0 := by decide +kernel
theorem dX3_behind_0 : decode cX3_behind 0 = .ok (.aload_n 0, 1) := dk_42 (dk_at dksX3_behind_0 0 rfl rfl)
theorem dX3_behind_1 : decode cX3_behind 1 = .ok (.getfield 64, 3) := dk_180 0 64 (dk_at dksX3_behind_0 1 rfl rfl)
theorem dX3_behind_4 : decode cX3_behind 4 = .ok (.iconst 4, 1) := dk_7 (dk_at dksX3_behind_0 4 rfl rfl)
theorem dX3_behind_5 : decode cX3_behind 5 = .ok (.iload_n 1, 1) := dk_27 (dk_at dksX3_behind_0 5 rfl rfl)
theorem dX3_behind_6 : decode cX3_behind 6 = .ok (.imul, 1) := dk_104 (dk_at dksX3_behind_0 6 rfl rfl)
theorem dX3_behind_7 : decode cX3_behind 7 = .ok (.aload_n 0, 1) := dk_42 (dk_at dksX3_behind_0 7 rfl rfl)
theorem dX3_behind_8 : decode cX3_behind 8 = .ok (.getfield 9, 3) := dk_180 0 9 (dk_at dksX3_behind_0 8 rfl rfl)
theorem dX3_behind_11 : decode cX3_behind 11 = .ok (.aload_n 0, 1) := dk_42 (dk_at dksX3_behind_0 11 rfl rfl)
theorem dX3_behind_12 : decode cX3_behind 12 = .ok (.iload_n 2, 1) := dk_28 (dk_at dksX3_behind_0 12 rfl rfl)
theorem dX3_behind_13 : decode cX3_behind 13 = .ok (.invokevirtual 165, 3) := dk_182 0 165 (dk_at dksX3_behind_0 13 rfl rfl)
theorem dX3_behind_16 : decode cX3_behind 16 = .ok (.iaload, 1) := dk_46 (dk_at dksX3_behind_0 16 rfl rfl)
theorem dX3_behind_17 : decode cX3_behind 17 = .ok (.iadd, 1) := dk_96 (dk_at dksX3_behind_0 17 rfl rfl)
theorem dX3_behind_18 : decode cX3_behind 18 = .ok (.iaload, 1) := dk_46 (dk_at dksX3_behind_0 18 rfl rfl)
theorem dX3_behind_19 : decode cX3_behind 19 = .ok (.ireturn, 1) := dk_172 (dk_at dksX3_behind_0 19 rfl rfl)
abbrev cX3_end : ByteArray := prog_12_method_33_code
def yX3_end : MethodName := ⟨RX3, "end", "(I)J"⟩
def dkwX3_end_0 : List UInt8 := [42, 180, 0, 51, 7, 27, 104, 46, 133, 16, 32, 121, 42, 180, 0, 54, 7, 27, 104, 47, 129, 173]
abbrev dktX3_end_0 : List UInt8 := dkwX3_end_0 ++ []
theorem dksX3_end_0 : cX3_end.data.toList.drop 0 = dktX3_end_0 := by decide +kernel
theorem dX3_end_0 : decode cX3_end 0 = .ok (.aload_n 0, 1) := dk_42 (dk_at dksX3_end_0 0 rfl rfl)
theorem dX3_end_1 : decode cX3_end 1 = .ok (.getfield 51, 3) := dk_180 0 51 (dk_at dksX3_end_0 1 rfl rfl)
theorem dX3_end_4 : decode cX3_end 4 = .ok (.iconst 4, 1) := dk_7 (dk_at dksX3_end_0 4 rfl rfl)
theorem dX3_end_5 : decode cX3_end 5 = .ok (.iload_n 1, 1) := dk_27 (dk_at dksX3_end_0 5 rfl rfl)
theorem dX3_end_6 : decode cX3_end 6 = .ok (.imul, 1) := dk_104 (dk_at dksX3_end_0 6 rfl rfl)
theorem dX3_end_7 : decode cX3_end 7 = .ok (.iaload, 1) := dk_46 (dk_at dksX3_end_0 7 rfl rfl)
theorem dX3_end_8 : decode cX3_end 8 = .ok (.i2l, 1) := dk_133 (dk_at dksX3_end_0 8 rfl rfl)
theorem dX3_end_9 : decode cX3_end 9 = .ok (.bipush 32, 2) := dk_16 32 (dk_at dksX3_end_0 9 rfl rfl)
theorem dX3_end_11 : decode cX3_end 11 = .ok (.lshl, 1) := dk_121 (dk_at dksX3_end_0 11 rfl rfl)
theorem dX3_end_12 : decode cX3_end 12 = .ok (.aload_n 0, 1) := dk_42 (dk_at dksX3_end_0 12 rfl rfl)
theorem dX3_end_13 : decode cX3_end 13 = .ok (.getfield 54, 3) := dk_180 0 54 (dk_at dksX3_end_0 13 rfl rfl)
theorem dX3_end_16 : decode cX3_end 16 = .ok (.iconst 4, 1) := dk_7 (dk_at dksX3_end_0 16 rfl rfl)
theorem dX3_end_17 : decode cX3_end 17 = .ok (.iload_n 1, 1) := dk_27 (dk_at dksX3_end_0 17 rfl rfl)
theorem dX3_end_18 : decode cX3_end 18 = .ok (.imul, 1) := dk_104 (dk_at dksX3_end_0 18 rfl rfl)
theorem dX3_end_19 : decode cX3_end 19 = .ok (.laload, 1) := dk_47 (dk_at dksX3_end_0 19 rfl rfl)
theorem dX3_end_20 : decode cX3_end 20 = .ok (.lor, 1) := dk_129 (dk_at dksX3_end_0 20 rfl rfl)
theorem dX3_end_21 : decode cX3_end 21 = .ok (.lreturn, 1) := dk_173 (dk_at dksX3_end_0 21 rfl rfl)
abbrev cX3_coverage : ByteArray := prog_12_method_34_code
def yX3_coverage : MethodName := ⟨RX3, "coverage", "(II)I"⟩
def dkwX3_coverage_0 : List UInt8 := [42, 28, 4, 96, 182, 0, 162, 42, 27, 182, 0, 162, 100, 172]
abbrev dktX3_coverage_0 : List UInt8 := dkwX3_coverage_0 ++ []
theorem dksX3_coverage_0 : cX3_coverage.data.toList.drop 0 = dktX3_coverage_0 := by decide +kernel
theorem dX3_coverage_0 : decode cX3_coverage 0 = .ok (.aload_n 0, 1) := dk_42 (dk_at dksX3_coverage_0 0 rfl rfl)
theorem dX3_coverage_1 : decode cX3_coverage 1 = .ok (.iload_n 2, 1) := dk_28 (dk_at dksX3_coverage_0 1 rfl rfl)
theorem dX3_coverage_2 : decode cX3_coverage 2 = .ok (.iconst 1, 1) := dk_4 (dk_at dksX3_coverage_0 2 rfl rfl)
theorem dX3_coverage_3 : decode cX3_coverage 3 = .ok (.iadd, 1) := dk_96 (dk_at dksX3_coverage_0 3 rfl rfl)
theorem dX3_coverage_4 : decode cX3_coverage 4 = .ok (.invokevirtual 162, 3) := dk_182 0 162 (dk_at dksX3_coverage_0 4 rfl rfl)
theorem dX3_coverage_7 : decode cX3_coverage 7 = .ok (.aload_n 0, 1) := dk_42 (dk_at dksX3_coverage_0 7 rfl rfl)
theorem dX3_coverage_8 : decode cX3_coverage 8 = .ok (.iload_n 1, 1) := dk_27 (dk_at dksX3_coverage_0 8 rfl rfl)
theorem dX3_coverage_9 : decode cX3_coverage 9 = .ok (.invokevirtual 162, 3) := dk_182 0 162 (dk_at dksX3_coverage_0 9 rfl rfl)
theorem dX3_coverage_12 : decode cX3_coverage 12 = .ok (.isub, 1) := dk_100 (dk_at dksX3_coverage_0 12 rfl rfl)
theorem dX3_coverage_13 : decode cX3_coverage 13 = .ok (.ireturn, 1) := dk_172 (dk_at dksX3_coverage_0 13 rfl rfl)
theorem q103 : (Jvm.Cond.initialized "CodeExchange$Table") ∈ lw_all := lw_g (lw_at lw_m1 7 rfl) rfl
theorem q215 : (Jvm.Cond.instantiable "CodeExchange$Table" (27 : Nat)) ∈ lw_all := lw_g (lw_at lw_m1 119 rfl) rfl
theorem q217 : (Jvm.Cond.instanceMethod ({ cls := "CodeExchange$Table", name := "<init>", desc := "()V" } : Jvm.MethodName)) ∈ lw_all := lw_g (lw_at lw_m1 121 rfl) rfl
theorem q218 : (Jvm.Cond.code ({ cls := "CodeExchange$Table", name := "<init>", desc := "()V" } : Jvm.MethodName) prog_12_method_1_code (1 : Nat) (Option.none : Option Jvm.ClassFile.FieldType)) ∈ lw_all := lw_g (lw_at lw_m1 122 rfl) rfl
theorem q219 : (Jvm.Cond.methodLinkNest "CodeExchange$Table" (3 : Nat) ({ cls := "CodeExchange$Page", name := "<init>", desc := "()V" } : Jvm.MethodName) "CodeExchange") ∈ lw_tbl := lw_at lw_m1 123 rfl
theorem q223 : (Jvm.Cond.classLink "CodeExchange$Table" (40 : Nat) "[[I") ∈ lw_all := lw_g (lw_at lw_m1 127 rfl) rfl
theorem q225 : (Jvm.Cond.fieldLink "CodeExchange$Table" (67 : Nat) "CodeExchange$Table" "closed" "Z") ∈ lw_all := lw_g (lw_at lw_m1 129 rfl) rfl
theorem q227 : (Jvm.Cond.fieldLink "CodeExchange$Table" (71 : Nat) "CodeExchange$Table" "entries" "I") ∈ lw_all := lw_g (lw_at lw_m1 131 rfl) rfl
theorem q229 : (Jvm.Cond.fieldLink "CodeExchange$Table" (9 : Nat) "CodeExchange$Table" "state" "[I") ∈ lw_all := lw_g (lw_at lw_m1 133 rfl) rfl
theorem q231 : (Jvm.Cond.fieldLink "CodeExchange$Table" (15 : Nat) "CodeExchange$Table" "bytes" "[I") ∈ lw_all := lw_g (lw_at lw_m1 135 rfl) rfl
theorem q233 : (Jvm.Cond.fieldLink "CodeExchange$Table" (18 : Nat) "CodeExchange$Table" "length" "[I") ∈ lw_all := lw_g (lw_at lw_m1 137 rfl) rfl
theorem q235 : (Jvm.Cond.fieldLink "CodeExchange$Table" (21 : Nat) "CodeExchange$Table" "point" "[I") ∈ lw_all := lw_g (lw_at lw_m1 139 rfl) rfl
theorem q237 : (Jvm.Cond.fieldLink "CodeExchange$Table" (24 : Nat) "CodeExchange$Table" "preferred" "[Z") ∈ lw_all := lw_g (lw_at lw_m1 141 rfl) rfl
theorem q239 : (Jvm.Cond.fieldLink "CodeExchange$Table" (75 : Nat) "CodeExchange$Table" "shifts" "I") ∈ lw_all := lw_g (lw_at lw_m1 143 rfl) rfl
theorem q241 : (Jvm.Cond.fieldLink "CodeExchange$Table" (28 : Nat) "CodeExchange$Table" "from" "[I") ∈ lw_all := lw_g (lw_at lw_m1 145 rfl) rfl
theorem q243 : (Jvm.Cond.fieldLink "CodeExchange$Table" (31 : Nat) "CodeExchange$Table" "by" "[I") ∈ lw_all := lw_g (lw_at lw_m1 147 rfl) rfl
theorem q245 : (Jvm.Cond.fieldLink "CodeExchange$Table" (34 : Nat) "CodeExchange$Table" "to" "[I") ∈ lw_all := lw_g (lw_at lw_m1 149 rfl) rfl
theorem q247 : (Jvm.Cond.fieldLink "CodeExchange$Table" (37 : Nat) "CodeExchange$Table" "sticky" "[Z") ∈ lw_all := lw_g (lw_at lw_m1 151 rfl) rfl
theorem q249 : (Jvm.Cond.fieldLink "CodeExchange$Table" (42 : Nat) "CodeExchange$Table" "sorted" "[[I") ∈ lw_all := lw_g (lw_at lw_m1 153 rfl) rfl
theorem q250 : (Jvm.Cond.fieldLink "CodeExchange$Table" (45 : Nat) "CodeExchange$Table" "sortedMany" "[I") ∈ lw_all := lw_g (lw_at lw_m1 154 rfl) rfl
theorem q251 : (Jvm.Cond.fieldLink "CodeExchange$Table" (48 : Nat) "CodeExchange$Table" "turned" "[I") ∈ lw_all := lw_g (lw_at lw_m1 155 rfl) rfl
theorem q252 : (Jvm.Cond.fieldLink "CodeExchange$Table" (150 : Nat) "CodeExchange$Table" "turnedMany" "I") ∈ lw_all := lw_g (lw_at lw_m1 156 rfl) rfl
theorem q253 : (Jvm.Cond.fieldLink "CodeExchange$Table" (51 : Nat) "CodeExchange$Table" "stickyMany" "[I") ∈ lw_all := lw_g (lw_at lw_m1 157 rfl) rfl
theorem q254 : (Jvm.Cond.fieldLink "CodeExchange$Table" (54 : Nat) "CodeExchange$Table" "stickyBytes" "[J") ∈ lw_all := lw_g (lw_at lw_m1 158 rfl) rfl
theorem q255 : (Jvm.Cond.fieldLink "CodeExchange$Table" (58 : Nat) "CodeExchange$Table" "wayMany" "[I") ∈ lw_all := lw_g (lw_at lw_m1 159 rfl) rfl
theorem q256 : (Jvm.Cond.fieldLink "CodeExchange$Table" (61 : Nat) "CodeExchange$Table" "wayBytes" "[J") ∈ lw_all := lw_g (lw_at lw_m1 160 rfl) rfl
theorem q257 : (Jvm.Cond.fieldLink "CodeExchange$Table" (64 : Nat) "CodeExchange$Table" "wayState" "[I") ∈ lw_all := lw_g (lw_at lw_m1 161 rfl) rfl
theorem q258 : (Jvm.Cond.fieldLink "CodeExchange$Table" (102 : Nat) "CodeExchange$Table" "rule" "I") ∈ lw_all := lw_g (lw_at lw_m1 162 rfl) rfl
theorem q260 : (Jvm.Cond.fieldLink "CodeExchange$Table" (105 : Nat) "CodeExchange$Table" "which" "I") ∈ lw_all := lw_g (lw_at lw_m1 164 rfl) rfl
theorem q262 : (Jvm.Cond.fieldLink "CodeExchange$Table" (108 : Nat) "CodeExchange$Table" "other" "I") ∈ lw_all := lw_g (lw_at lw_m1 166 rfl) rfl
theorem q267 : (Jvm.Cond.fieldLink "CodeExchange$Table" (153 : Nat) "CodeExchange$Table" "hitPoint" "I") ∈ lw_all := lw_g (lw_at lw_m1 171 rfl) rfl
theorem q268 : (Jvm.Cond.sameField "CodeExchange$Table" "CodeExchange$Page" "hitPoint" "I") ∈ lw_all := lw_g (lw_at lw_m1 172 rfl) rfl
theorem q270 : (Jvm.Cond.fieldLink "CodeExchange$Table" (156 : Nat) "CodeExchange$Table" "hitGoal" "I") ∈ lw_all := lw_g (lw_at lw_m1 174 rfl) rfl
theorem q271 : (Jvm.Cond.sameField "CodeExchange$Table" "CodeExchange$Page" "hitGoal" "I") ∈ lw_all := lw_g (lw_at lw_m1 175 rfl) rfl
theorem q273 : (Jvm.Cond.fieldLink "CodeExchange$Table" (159 : Nat) "CodeExchange$Table" "hitSticky" "Z") ∈ lw_all := lw_g (lw_at lw_m1 177 rfl) rfl
theorem q274 : (Jvm.Cond.sameField "CodeExchange$Table" "CodeExchange$Page" "hitSticky" "Z") ∈ lw_all := lw_g (lw_at lw_m1 178 rfl) rfl
theorem q275 : (Jvm.Cond.lays "CodeExchange$Table" "CodeExchange$Table" "closed" "Z") ∈ lw_all := lw_g (lw_at lw_m1 179 rfl) rfl
theorem q276 : (Jvm.Cond.soleField "CodeExchange$Table" "closed") ∈ lw_all := lw_g (lw_at lw_m1 180 rfl) rfl
theorem q277 : (Jvm.Cond.lays "CodeExchange$Table" "CodeExchange$Table" "entries" "I") ∈ lw_all := lw_g (lw_at lw_m1 181 rfl) rfl
theorem q278 : (Jvm.Cond.soleField "CodeExchange$Table" "entries") ∈ lw_all := lw_g (lw_at lw_m1 182 rfl) rfl
theorem q279 : (Jvm.Cond.laysFinal "CodeExchange$Table" "CodeExchange$Table" "state" "[I") ∈ lw_all := lw_g (lw_at lw_m1 183 rfl) rfl
theorem q280 : (Jvm.Cond.soleField "CodeExchange$Table" "state") ∈ lw_all := lw_g (lw_at lw_m1 184 rfl) rfl
theorem q281 : (Jvm.Cond.laysFinal "CodeExchange$Table" "CodeExchange$Table" "bytes" "[I") ∈ lw_all := lw_g (lw_at lw_m1 185 rfl) rfl
theorem q282 : (Jvm.Cond.soleField "CodeExchange$Table" "bytes") ∈ lw_all := lw_g (lw_at lw_m1 186 rfl) rfl
theorem q283 : (Jvm.Cond.laysFinal "CodeExchange$Table" "CodeExchange$Table" "length" "[I") ∈ lw_all := lw_g (lw_at lw_m1 187 rfl) rfl
theorem q284 : (Jvm.Cond.soleField "CodeExchange$Table" "length") ∈ lw_all := lw_g (lw_at lw_m1 188 rfl) rfl
theorem q285 : (Jvm.Cond.laysFinal "CodeExchange$Table" "CodeExchange$Table" "point" "[I") ∈ lw_all := lw_g (lw_at lw_m1 189 rfl) rfl
theorem q286 : (Jvm.Cond.soleField "CodeExchange$Table" "point") ∈ lw_all := lw_g (lw_at lw_m1 190 rfl) rfl
theorem q287 : (Jvm.Cond.laysFinal "CodeExchange$Table" "CodeExchange$Table" "preferred" "[Z") ∈ lw_all := lw_g (lw_at lw_m1 191 rfl) rfl
theorem q288 : (Jvm.Cond.soleField "CodeExchange$Table" "preferred") ∈ lw_all := lw_g (lw_at lw_m1 192 rfl) rfl
theorem q289 : (Jvm.Cond.lays "CodeExchange$Table" "CodeExchange$Table" "shifts" "I") ∈ lw_all := lw_g (lw_at lw_m1 193 rfl) rfl
theorem q290 : (Jvm.Cond.soleField "CodeExchange$Table" "shifts") ∈ lw_all := lw_g (lw_at lw_m1 194 rfl) rfl
theorem q291 : (Jvm.Cond.laysFinal "CodeExchange$Table" "CodeExchange$Table" "from" "[I") ∈ lw_all := lw_g (lw_at lw_m1 195 rfl) rfl
theorem q292 : (Jvm.Cond.soleField "CodeExchange$Table" "from") ∈ lw_all := lw_g (lw_at lw_m1 196 rfl) rfl
theorem q293 : (Jvm.Cond.laysFinal "CodeExchange$Table" "CodeExchange$Table" "by" "[I") ∈ lw_all := lw_g (lw_at lw_m1 197 rfl) rfl
theorem q294 : (Jvm.Cond.soleField "CodeExchange$Table" "by") ∈ lw_all := lw_g (lw_at lw_m1 198 rfl) rfl
theorem q295 : (Jvm.Cond.laysFinal "CodeExchange$Table" "CodeExchange$Table" "to" "[I") ∈ lw_all := lw_g (lw_at lw_m1 199 rfl) rfl
theorem q296 : (Jvm.Cond.soleField "CodeExchange$Table" "to") ∈ lw_all := lw_g (lw_at lw_m1 200 rfl) rfl
theorem q297 : (Jvm.Cond.laysFinal "CodeExchange$Table" "CodeExchange$Table" "sticky" "[Z") ∈ lw_all := lw_g (lw_at lw_m1 201 rfl) rfl
theorem q298 : (Jvm.Cond.soleField "CodeExchange$Table" "sticky") ∈ lw_all := lw_g (lw_at lw_m1 202 rfl) rfl
theorem q299 : (Jvm.Cond.laysFinal "CodeExchange$Table" "CodeExchange$Table" "sorted" "[[I") ∈ lw_all := lw_g (lw_at lw_m1 203 rfl) rfl
theorem q300 : (Jvm.Cond.soleField "CodeExchange$Table" "sorted") ∈ lw_all := lw_g (lw_at lw_m1 204 rfl) rfl
theorem q301 : (Jvm.Cond.laysFinal "CodeExchange$Table" "CodeExchange$Table" "sortedMany" "[I") ∈ lw_all := lw_g (lw_at lw_m1 205 rfl) rfl
theorem q302 : (Jvm.Cond.soleField "CodeExchange$Table" "sortedMany") ∈ lw_all := lw_g (lw_at lw_m1 206 rfl) rfl
theorem q303 : (Jvm.Cond.laysFinal "CodeExchange$Table" "CodeExchange$Table" "turned" "[I") ∈ lw_all := lw_g (lw_at lw_m1 207 rfl) rfl
theorem q304 : (Jvm.Cond.soleField "CodeExchange$Table" "turned") ∈ lw_all := lw_g (lw_at lw_m1 208 rfl) rfl
theorem q305 : (Jvm.Cond.lays "CodeExchange$Table" "CodeExchange$Table" "turnedMany" "I") ∈ lw_all := lw_g (lw_at lw_m1 209 rfl) rfl
theorem q306 : (Jvm.Cond.soleField "CodeExchange$Table" "turnedMany") ∈ lw_all := lw_g (lw_at lw_m1 210 rfl) rfl
theorem q307 : (Jvm.Cond.laysFinal "CodeExchange$Table" "CodeExchange$Table" "stickyMany" "[I") ∈ lw_all := lw_g (lw_at lw_m1 211 rfl) rfl
theorem q308 : (Jvm.Cond.soleField "CodeExchange$Table" "stickyMany") ∈ lw_all := lw_g (lw_at lw_m1 212 rfl) rfl
theorem q309 : (Jvm.Cond.laysFinal "CodeExchange$Table" "CodeExchange$Table" "stickyBytes" "[J") ∈ lw_all := lw_g (lw_at lw_m1 213 rfl) rfl
theorem q310 : (Jvm.Cond.soleField "CodeExchange$Table" "stickyBytes") ∈ lw_all := lw_g (lw_at lw_m1 214 rfl) rfl
theorem q311 : (Jvm.Cond.laysFinal "CodeExchange$Table" "CodeExchange$Table" "wayMany" "[I") ∈ lw_all := lw_g (lw_at lw_m1 215 rfl) rfl
theorem q312 : (Jvm.Cond.soleField "CodeExchange$Table" "wayMany") ∈ lw_all := lw_g (lw_at lw_m1 216 rfl) rfl
theorem q313 : (Jvm.Cond.laysFinal "CodeExchange$Table" "CodeExchange$Table" "wayBytes" "[J") ∈ lw_all := lw_g (lw_at lw_m1 217 rfl) rfl
theorem q314 : (Jvm.Cond.soleField "CodeExchange$Table" "wayBytes") ∈ lw_all := lw_g (lw_at lw_m1 218 rfl) rfl
theorem q315 : (Jvm.Cond.laysFinal "CodeExchange$Table" "CodeExchange$Table" "wayState" "[I") ∈ lw_all := lw_g (lw_at lw_m1 219 rfl) rfl
theorem q316 : (Jvm.Cond.soleField "CodeExchange$Table" "wayState") ∈ lw_all := lw_g (lw_at lw_m1 220 rfl) rfl
theorem q317 : (Jvm.Cond.lays "CodeExchange$Table" "CodeExchange$Table" "rule" "I") ∈ lw_all := lw_g (lw_at lw_m1 221 rfl) rfl
theorem q318 : (Jvm.Cond.soleField "CodeExchange$Table" "rule") ∈ lw_all := lw_g (lw_at lw_m1 222 rfl) rfl
theorem q319 : (Jvm.Cond.lays "CodeExchange$Table" "CodeExchange$Table" "which" "I") ∈ lw_all := lw_g (lw_at lw_m1 223 rfl) rfl
theorem q320 : (Jvm.Cond.soleField "CodeExchange$Table" "which") ∈ lw_all := lw_g (lw_at lw_m1 224 rfl) rfl
theorem q321 : (Jvm.Cond.lays "CodeExchange$Table" "CodeExchange$Table" "other" "I") ∈ lw_all := lw_g (lw_at lw_m1 225 rfl) rfl
theorem q322 : (Jvm.Cond.soleField "CodeExchange$Table" "other") ∈ lw_all := lw_g (lw_at lw_m1 226 rfl) rfl
theorem q323 : (Jvm.Cond.lays "CodeExchange$Table" "CodeExchange$Page" "hitPoint" "I") ∈ lw_all := lw_g (lw_at lw_m1 227 rfl) rfl
theorem q325 : (Jvm.Cond.lays "CodeExchange$Table" "CodeExchange$Page" "hitGoal" "I") ∈ lw_all := lw_g (lw_at lw_m1 229 rfl) rfl
theorem q327 : (Jvm.Cond.lays "CodeExchange$Table" "CodeExchange$Page" "hitSticky" "Z") ∈ lw_all := lw_g (lw_at lw_m1 231 rfl) rfl
theorem q329 : (Jvm.Cond.superclass "CodeExchange$Table" "CodeExchange$Page") ∈ lw_all := lw_g (lw_at lw_m1 233 rfl) rfl
theorem q727 : (Jvm.Cond.instanceMethod ({ cls := "CodeExchange$Table", name := "take", desc := "(LCodeExchange$Table;)V" } : Jvm.MethodName)) ∈ lw_all := lw_g (lw_at lw_m3 151 rfl) rfl
theorem q728 : (Jvm.Cond.selects "CodeExchange$Table" ({ cls := "CodeExchange$Table", name := "take", desc := "(LCodeExchange$Table;)V" } : Jvm.MethodName) ({ cls := "CodeExchange$Table", name := "take", desc := "(LCodeExchange$Table;)V" } : Jvm.MethodName)) ∈ lw_all := lw_g (lw_at lw_m3 152 rfl) rfl
theorem q729 : (Jvm.Cond.code ({ cls := "CodeExchange$Table", name := "take", desc := "(LCodeExchange$Table;)V" } : Jvm.MethodName) prog_12_method_4_code (3 : Nat) (Option.none : Option Jvm.ClassFile.FieldType)) ∈ lw_all := lw_g (lw_at lw_m3 153 rfl) rfl
theorem q730 : (Jvm.Cond.methodLink "CodeExchange$Table" (78 : Nat) ({ cls := "CodeExchange$Table", name := "set", desc := "(IIIIIZ)V" } : Jvm.MethodName)) ∈ lw_all := lw_g (lw_at lw_m3 154 rfl) rfl
theorem q731 : (Jvm.Cond.instanceMethod ({ cls := "CodeExchange$Table", name := "set", desc := "(IIIIIZ)V" } : Jvm.MethodName)) ∈ lw_all := lw_g (lw_at lw_m3 155 rfl) rfl
theorem q732 : (Jvm.Cond.selects "CodeExchange$Table" ({ cls := "CodeExchange$Table", name := "set", desc := "(IIIIIZ)V" } : Jvm.MethodName) ({ cls := "CodeExchange$Table", name := "set", desc := "(IIIIIZ)V" } : Jvm.MethodName)) ∈ lw_all := lw_g (lw_at lw_m3 156 rfl) rfl
theorem q733 : (Jvm.Cond.code ({ cls := "CodeExchange$Table", name := "set", desc := "(IIIIIZ)V" } : Jvm.MethodName) prog_12_method_5_code (7 : Nat) (Option.none : Option Jvm.ClassFile.FieldType)) ∈ lw_all := lw_g (lw_at lw_m3 157 rfl) rfl
theorem q734 : (Jvm.Cond.methodLink "CodeExchange$Table" (82 : Nat) ({ cls := "CodeExchange$Table", name := "setShift", desc := "(IIIIZ)V" } : Jvm.MethodName)) ∈ lw_all := lw_g (lw_at lw_m3 158 rfl) rfl
theorem q735 : (Jvm.Cond.instanceMethod ({ cls := "CodeExchange$Table", name := "setShift", desc := "(IIIIZ)V" } : Jvm.MethodName)) ∈ lw_all := lw_g (lw_at lw_m3 159 rfl) rfl
theorem q736 : (Jvm.Cond.selects "CodeExchange$Table" ({ cls := "CodeExchange$Table", name := "setShift", desc := "(IIIIZ)V" } : Jvm.MethodName) ({ cls := "CodeExchange$Table", name := "setShift", desc := "(IIIIZ)V" } : Jvm.MethodName)) ∈ lw_all := lw_g (lw_at lw_m3 160 rfl) rfl
theorem q737 : (Jvm.Cond.code ({ cls := "CodeExchange$Table", name := "setShift", desc := "(IIIIZ)V" } : Jvm.MethodName) prog_12_method_6_code (6 : Nat) (Option.none : Option Jvm.ClassFile.FieldType)) ∈ lw_all := lw_g (lw_at lw_m3 161 rfl) rfl
theorem q752 : (Jvm.Cond.instanceMethod ({ cls := "CodeExchange$Table", name := "find", desc := "(III)I" } : Jvm.MethodName)) ∈ lw_all := lw_g (lw_at lw_m3 176 rfl) rfl
theorem q753 : (Jvm.Cond.selects "CodeExchange$Table" ({ cls := "CodeExchange$Table", name := "find", desc := "(III)I" } : Jvm.MethodName) ({ cls := "CodeExchange$Table", name := "find", desc := "(III)I" } : Jvm.MethodName)) ∈ lw_all := lw_g (lw_at lw_m3 177 rfl) rfl
theorem q754 : (Jvm.Cond.code ({ cls := "CodeExchange$Table", name := "find", desc := "(III)I" } : Jvm.MethodName) prog_12_method_7_code (5 : Nat) (Option.some Jvm.ClassFile.FieldType.int)) ∈ lw_all := lw_g (lw_at lw_m3 178 rfl) rfl
theorem q761 : (Jvm.Cond.instanceMethod ({ cls := "CodeExchange$Table", name := "findShift", desc := "(II)I" } : Jvm.MethodName)) ∈ lw_all := lw_g (lw_at lw_m3 185 rfl) rfl
theorem q762 : (Jvm.Cond.selects "CodeExchange$Table" ({ cls := "CodeExchange$Table", name := "findShift", desc := "(II)I" } : Jvm.MethodName) ({ cls := "CodeExchange$Table", name := "findShift", desc := "(II)I" } : Jvm.MethodName)) ∈ lw_all := lw_g (lw_at lw_m3 186 rfl) rfl
theorem q763 : (Jvm.Cond.code ({ cls := "CodeExchange$Table", name := "findShift", desc := "(II)I" } : Jvm.MethodName) prog_12_method_8_code (4 : Nat) (Option.some Jvm.ClassFile.FieldType.int)) ∈ lw_all := lw_g (lw_at lw_m3 187 rfl) rfl
theorem q770 : (Jvm.Cond.instanceMethod ({ cls := "CodeExchange$Table", name := "remove", desc := "(I)V" } : Jvm.MethodName)) ∈ lw_all := lw_g (lw_at lw_m3 194 rfl) rfl
theorem q771 : (Jvm.Cond.selects "CodeExchange$Table" ({ cls := "CodeExchange$Table", name := "remove", desc := "(I)V" } : Jvm.MethodName) ({ cls := "CodeExchange$Table", name := "remove", desc := "(I)V" } : Jvm.MethodName)) ∈ lw_all := lw_g (lw_at lw_m3 195 rfl) rfl
theorem q772 : (Jvm.Cond.code ({ cls := "CodeExchange$Table", name := "remove", desc := "(I)V" } : Jvm.MethodName) prog_12_method_9_code (3 : Nat) (Option.none : Option Jvm.ClassFile.FieldType)) ∈ lw_all := lw_g (lw_at lw_m3 196 rfl) rfl
theorem q774 : (Jvm.Cond.instanceMethod ({ cls := "CodeExchange$Table", name := "removeShift", desc := "(I)V" } : Jvm.MethodName)) ∈ lw_all := lw_g (lw_at lw_m3 198 rfl) rfl
theorem q775 : (Jvm.Cond.selects "CodeExchange$Table" ({ cls := "CodeExchange$Table", name := "removeShift", desc := "(I)V" } : Jvm.MethodName) ({ cls := "CodeExchange$Table", name := "removeShift", desc := "(I)V" } : Jvm.MethodName)) ∈ lw_all := lw_g (lw_at lw_m3 199 rfl) rfl
theorem q776 : (Jvm.Cond.code ({ cls := "CodeExchange$Table", name := "removeShift", desc := "(I)V" } : Jvm.MethodName) prog_12_method_10_code (3 : Nat) (Option.none : Option Jvm.ClassFile.FieldType)) ∈ lw_all := lw_g (lw_at lw_m3 200 rfl) rfl
theorem q782 : (Jvm.Cond.instanceMethod ({ cls := "CodeExchange$Table", name := "isBad", desc := "()Z" } : Jvm.MethodName)) ∈ lw_all := lw_g (lw_at lw_m3 206 rfl) rfl
theorem q783 : (Jvm.Cond.selects "CodeExchange$Table" ({ cls := "CodeExchange$Table", name := "isBad", desc := "()Z" } : Jvm.MethodName) ({ cls := "CodeExchange$Table", name := "isBad", desc := "()Z" } : Jvm.MethodName)) ∈ lw_all := lw_g (lw_at lw_m3 207 rfl) rfl
theorem q784 : (Jvm.Cond.code ({ cls := "CodeExchange$Table", name := "isBad", desc := "()Z" } : Jvm.MethodName) prog_12_method_22_code (1 : Nat) (Option.some Jvm.ClassFile.FieldType.boolean)) ∈ lw_all := lw_g (lw_at lw_m3 208 rfl) rfl
theorem q785 : (Jvm.Cond.methodLink "CodeExchange$Table" (126 : Nat) ({ cls := "CodeExchange$Table", name := "walk", desc := "()V" } : Jvm.MethodName)) ∈ lw_all := lw_g (lw_at lw_m3 209 rfl) rfl
theorem q786 : (Jvm.Cond.privateMethod ({ cls := "CodeExchange$Table", name := "walk", desc := "()V" } : Jvm.MethodName)) ∈ lw_tbl := lw_at lw_m3 210 rfl
theorem q787 : (Jvm.Cond.instanceMethod ({ cls := "CodeExchange$Table", name := "walk", desc := "()V" } : Jvm.MethodName)) ∈ lw_all := lw_g (lw_at lw_m3 211 rfl) rfl
theorem q788 : (Jvm.Cond.code ({ cls := "CodeExchange$Table", name := "walk", desc := "()V" } : Jvm.MethodName) prog_12_method_24_code (5 : Nat) (Option.none : Option Jvm.ClassFile.FieldType)) ∈ lw_all := lw_g (lw_at lw_m3 212 rfl) rfl
theorem q789 : (Jvm.Cond.methodLink "CodeExchange$Table" (142 : Nat) ({ cls := "CodeExchange$Table", name := "better", desc := "([I[JIIJ)V" } : Jvm.MethodName)) ∈ lw_all := lw_g (lw_at lw_m3 213 rfl) rfl
theorem q790 : (Jvm.Cond.privateMethod ({ cls := "CodeExchange$Table", name := "better", desc := "([I[JIIJ)V" } : Jvm.MethodName)) ∈ lw_tbl := lw_at lw_m3 214 rfl
theorem q791 : (Jvm.Cond.instanceMethod ({ cls := "CodeExchange$Table", name := "better", desc := "([I[JIIJ)V" } : Jvm.MethodName)) ∈ lw_all := lw_g (lw_at lw_m3 215 rfl) rfl
theorem q792 : (Jvm.Cond.code ({ cls := "CodeExchange$Table", name := "better", desc := "([I[JIIJ)V" } : Jvm.MethodName) prog_12_method_23_code (7 : Nat) (Option.none : Option Jvm.ClassFile.FieldType)) ∈ lw_all := lw_g (lw_at lw_m3 216 rfl) rfl
theorem q793 : (Jvm.Cond.methodLink "CodeExchange$Table" (146 : Nat) ({ cls := "CodeExchange$Table", name := "walkTo", desc := "(II)V" } : Jvm.MethodName)) ∈ lw_all := lw_g (lw_at lw_m3 217 rfl) rfl
theorem q794 : (Jvm.Cond.privateMethod ({ cls := "CodeExchange$Table", name := "walkTo", desc := "(II)V" } : Jvm.MethodName)) ∈ lw_tbl := lw_at lw_m3 218 rfl
theorem q795 : (Jvm.Cond.instanceMethod ({ cls := "CodeExchange$Table", name := "walkTo", desc := "(II)V" } : Jvm.MethodName)) ∈ lw_all := lw_g (lw_at lw_m3 219 rfl) rfl
theorem q796 : (Jvm.Cond.code ({ cls := "CodeExchange$Table", name := "walkTo", desc := "(II)V" } : Jvm.MethodName) prog_12_method_25_code (9 : Nat) (Option.none : Option Jvm.ClassFile.FieldType)) ∈ lw_all := lw_g (lw_at lw_m3 220 rfl) rfl
theorem q797 : (Jvm.Cond.methodLink "CodeExchange$Table" (129 : Nat) ({ cls := "CodeExchange$Table", name := "isClashing", desc := "()Z" } : Jvm.MethodName)) ∈ lw_all := lw_g (lw_at lw_m3 221 rfl) rfl
theorem q798 : (Jvm.Cond.privateMethod ({ cls := "CodeExchange$Table", name := "isClashing", desc := "()Z" } : Jvm.MethodName)) ∈ lw_tbl := lw_at lw_m3 222 rfl
theorem q799 : (Jvm.Cond.instanceMethod ({ cls := "CodeExchange$Table", name := "isClashing", desc := "()Z" } : Jvm.MethodName)) ∈ lw_all := lw_g (lw_at lw_m3 223 rfl) rfl
theorem q800 : (Jvm.Cond.code ({ cls := "CodeExchange$Table", name := "isClashing", desc := "()Z" } : Jvm.MethodName) prog_12_method_17_code (4 : Nat) (Option.some Jvm.ClassFile.FieldType.boolean)) ∈ lw_all := lw_g (lw_at lw_m3 224 rfl) rfl
theorem q801 : (Jvm.Cond.methodLink "CodeExchange$Table" (111 : Nat) ({ cls := "CodeExchange$Table", name := "next", desc := "(I)I" } : Jvm.MethodName)) ∈ lw_all := lw_g (lw_at lw_m3 225 rfl) rfl
theorem q802 : (Jvm.Cond.privateMethod ({ cls := "CodeExchange$Table", name := "next", desc := "(I)I" } : Jvm.MethodName)) ∈ lw_tbl := lw_at lw_m3 226 rfl
theorem q803 : (Jvm.Cond.instanceMethod ({ cls := "CodeExchange$Table", name := "next", desc := "(I)I" } : Jvm.MethodName)) ∈ lw_all := lw_g (lw_at lw_m3 227 rfl) rfl
theorem q804 : (Jvm.Cond.code ({ cls := "CodeExchange$Table", name := "next", desc := "(I)I" } : Jvm.MethodName) prog_12_method_16_code (2 : Nat) (Option.some Jvm.ClassFile.FieldType.int)) ∈ lw_all := lw_g (lw_at lw_m3 228 rfl) rfl
theorem q805 : (Jvm.Cond.methodLink "CodeExchange$Table" (114 : Nat) ({ cls := "CodeExchange$Table", name := "clash", desc := "(II)Z" } : Jvm.MethodName)) ∈ lw_all := lw_g (lw_at lw_m3 229 rfl) rfl
theorem q806 : (Jvm.Cond.privateMethod ({ cls := "CodeExchange$Table", name := "clash", desc := "(II)Z" } : Jvm.MethodName)) ∈ lw_tbl := lw_at lw_m3 230 rfl
theorem q807 : (Jvm.Cond.instanceMethod ({ cls := "CodeExchange$Table", name := "clash", desc := "(II)Z" } : Jvm.MethodName)) ∈ lw_all := lw_g (lw_at lw_m3 231 rfl) rfl
theorem q808 : (Jvm.Cond.code ({ cls := "CodeExchange$Table", name := "clash", desc := "(II)Z" } : Jvm.MethodName) prog_12_method_14_code (4 : Nat) (Option.some Jvm.ClassFile.FieldType.boolean)) ∈ lw_all := lw_g (lw_at lw_m3 232 rfl) rfl
theorem q809 : (Jvm.Cond.methodLink "CodeExchange$Table" (86 : Nat) ({ cls := "CodeExchange$Table", name := "lengthOf", desc := "(I)I" } : Jvm.MethodName)) ∈ lw_all := lw_g (lw_at lw_m3 233 rfl) rfl
theorem q810 : (Jvm.Cond.privateMethod ({ cls := "CodeExchange$Table", name := "lengthOf", desc := "(I)I" } : Jvm.MethodName)) ∈ lw_tbl := lw_at lw_m3 234 rfl
theorem q811 : (Jvm.Cond.instanceMethod ({ cls := "CodeExchange$Table", name := "lengthOf", desc := "(I)I" } : Jvm.MethodName)) ∈ lw_all := lw_g (lw_at lw_m3 235 rfl) rfl
theorem q812 : (Jvm.Cond.code ({ cls := "CodeExchange$Table", name := "lengthOf", desc := "(I)I" } : Jvm.MethodName) prog_12_method_12_code (2 : Nat) (Option.some Jvm.ClassFile.FieldType.int)) ∈ lw_all := lw_g (lw_at lw_m3 236 rfl) rfl
theorem q813 : (Jvm.Cond.methodLink "CodeExchange$Table" (90 : Nat) ({ cls := "java/lang/Math", name := "min", desc := "(II)I" } : Jvm.MethodName)) ∈ lw_all := lw_g (lw_at lw_m3 237 rfl) rfl
theorem q816 : (Jvm.Cond.methodLink "CodeExchange$Table" (96 : Nat) ({ cls := "CodeExchange$Table", name := "stateOf", desc := "(I)I" } : Jvm.MethodName)) ∈ lw_all := lw_g (lw_at lw_m4 0 rfl) rfl
theorem q817 : (Jvm.Cond.privateMethod ({ cls := "CodeExchange$Table", name := "stateOf", desc := "(I)I" } : Jvm.MethodName)) ∈ lw_tbl := lw_at lw_m4 1 rfl
theorem q818 : (Jvm.Cond.instanceMethod ({ cls := "CodeExchange$Table", name := "stateOf", desc := "(I)I" } : Jvm.MethodName)) ∈ lw_all := lw_g (lw_at lw_m4 2 rfl) rfl
theorem q819 : (Jvm.Cond.code ({ cls := "CodeExchange$Table", name := "stateOf", desc := "(I)I" } : Jvm.MethodName) prog_12_method_11_code (2 : Nat) (Option.some Jvm.ClassFile.FieldType.int)) ∈ lw_all := lw_g (lw_at lw_m4 3 rfl) rfl
theorem q820 : (Jvm.Cond.methodLink "CodeExchange$Table" (99 : Nat) ({ cls := "CodeExchange$Table", name := "keyOf", desc := "(I)I" } : Jvm.MethodName)) ∈ lw_all := lw_g (lw_at lw_m4 4 rfl) rfl
theorem q821 : (Jvm.Cond.privateMethod ({ cls := "CodeExchange$Table", name := "keyOf", desc := "(I)I" } : Jvm.MethodName)) ∈ lw_tbl := lw_at lw_m4 5 rfl
theorem q822 : (Jvm.Cond.instanceMethod ({ cls := "CodeExchange$Table", name := "keyOf", desc := "(I)I" } : Jvm.MethodName)) ∈ lw_all := lw_g (lw_at lw_m4 6 rfl) rfl
theorem q823 : (Jvm.Cond.code ({ cls := "CodeExchange$Table", name := "keyOf", desc := "(I)I" } : Jvm.MethodName) prog_12_method_13_code (2 : Nat) (Option.some Jvm.ClassFile.FieldType.int)) ∈ lw_all := lw_g (lw_at lw_m4 7 rfl) rfl
theorem q824 : (Jvm.Cond.methodLink "CodeExchange$Table" (118 : Nat) ({ cls := "CodeExchange$Table", name := "breaks", desc := "(III)Z" } : Jvm.MethodName)) ∈ lw_all := lw_g (lw_at lw_m4 8 rfl) rfl
theorem q825 : (Jvm.Cond.privateMethod ({ cls := "CodeExchange$Table", name := "breaks", desc := "(III)Z" } : Jvm.MethodName)) ∈ lw_tbl := lw_at lw_m4 9 rfl
theorem q826 : (Jvm.Cond.instanceMethod ({ cls := "CodeExchange$Table", name := "breaks", desc := "(III)Z" } : Jvm.MethodName)) ∈ lw_all := lw_g (lw_at lw_m4 10 rfl) rfl
theorem q827 : (Jvm.Cond.code ({ cls := "CodeExchange$Table", name := "breaks", desc := "(III)Z" } : Jvm.MethodName) prog_12_method_15_code (4 : Nat) (Option.some Jvm.ClassFile.FieldType.boolean)) ∈ lw_all := lw_g (lw_at lw_m4 11 rfl) rfl
theorem q828 : (Jvm.Cond.methodLink "CodeExchange$Table" (133 : Nat) ({ cls := "CodeExchange$Table", name := "isDoubtful", desc := "()Z" } : Jvm.MethodName)) ∈ lw_all := lw_g (lw_at lw_m4 12 rfl) rfl
theorem q829 : (Jvm.Cond.privateMethod ({ cls := "CodeExchange$Table", name := "isDoubtful", desc := "()Z" } : Jvm.MethodName)) ∈ lw_tbl := lw_at lw_m4 13 rfl
theorem q830 : (Jvm.Cond.instanceMethod ({ cls := "CodeExchange$Table", name := "isDoubtful", desc := "()Z" } : Jvm.MethodName)) ∈ lw_all := lw_g (lw_at lw_m4 14 rfl) rfl
theorem q831 : (Jvm.Cond.code ({ cls := "CodeExchange$Table", name := "isDoubtful", desc := "()Z" } : Jvm.MethodName) prog_12_method_18_code (5 : Nat) (Option.some Jvm.ClassFile.FieldType.boolean)) ∈ lw_all := lw_g (lw_at lw_m4 15 rfl) rfl
theorem q832 : (Jvm.Cond.methodLink "CodeExchange$Table" (136 : Nat) ({ cls := "CodeExchange$Table", name := "isStuck", desc := "()Z" } : Jvm.MethodName)) ∈ lw_all := lw_g (lw_at lw_m4 16 rfl) rfl
theorem q833 : (Jvm.Cond.privateMethod ({ cls := "CodeExchange$Table", name := "isStuck", desc := "()Z" } : Jvm.MethodName)) ∈ lw_tbl := lw_at lw_m4 17 rfl
theorem q834 : (Jvm.Cond.instanceMethod ({ cls := "CodeExchange$Table", name := "isStuck", desc := "()Z" } : Jvm.MethodName)) ∈ lw_all := lw_g (lw_at lw_m4 18 rfl) rfl
theorem q835 : (Jvm.Cond.code ({ cls := "CodeExchange$Table", name := "isStuck", desc := "()Z" } : Jvm.MethodName) prog_12_method_20_code (2 : Nat) (Option.some Jvm.ClassFile.FieldType.boolean)) ∈ lw_all := lw_g (lw_at lw_m4 19 rfl) rfl
theorem q836 : (Jvm.Cond.methodLink "CodeExchange$Table" (122 : Nat) ({ cls := "CodeExchange$Table", name := "isReached", desc := "(I)Z" } : Jvm.MethodName)) ∈ lw_all := lw_g (lw_at lw_m4 20 rfl) rfl
theorem q837 : (Jvm.Cond.instanceMethod ({ cls := "CodeExchange$Table", name := "isReached", desc := "(I)Z" } : Jvm.MethodName)) ∈ lw_all := lw_g (lw_at lw_m4 21 rfl) rfl
theorem q838 : (Jvm.Cond.selects "CodeExchange$Table" ({ cls := "CodeExchange$Table", name := "isReached", desc := "(I)Z" } : Jvm.MethodName) ({ cls := "CodeExchange$Table", name := "isReached", desc := "(I)Z" } : Jvm.MethodName)) ∈ lw_all := lw_g (lw_at lw_m4 22 rfl) rfl
theorem q839 : (Jvm.Cond.code ({ cls := "CodeExchange$Table", name := "isReached", desc := "(I)Z" } : Jvm.MethodName) prog_12_method_19_code (2 : Nat) (Option.some Jvm.ClassFile.FieldType.boolean)) ∈ lw_all := lw_g (lw_at lw_m4 23 rfl) rfl
theorem q840 : (Jvm.Cond.methodLink "CodeExchange$Table" (139 : Nat) ({ cls := "CodeExchange$Table", name := "isFar", desc := "()Z" } : Jvm.MethodName)) ∈ lw_all := lw_g (lw_at lw_m4 24 rfl) rfl
theorem q841 : (Jvm.Cond.privateMethod ({ cls := "CodeExchange$Table", name := "isFar", desc := "()Z" } : Jvm.MethodName)) ∈ lw_tbl := lw_at lw_m4 25 rfl
theorem q842 : (Jvm.Cond.instanceMethod ({ cls := "CodeExchange$Table", name := "isFar", desc := "()Z" } : Jvm.MethodName)) ∈ lw_all := lw_g (lw_at lw_m4 26 rfl) rfl
theorem q843 : (Jvm.Cond.code ({ cls := "CodeExchange$Table", name := "isFar", desc := "()Z" } : Jvm.MethodName) prog_12_method_21_code (2 : Nat) (Option.some Jvm.ClassFile.FieldType.boolean)) ∈ lw_all := lw_g (lw_at lw_m4 27 rfl) rfl
theorem q845 : (Jvm.Cond.instanceMethod ({ cls := "CodeExchange$Table", name := "close", desc := "()V" } : Jvm.MethodName)) ∈ lw_all := lw_g (lw_at lw_m4 29 rfl) rfl
theorem q846 : (Jvm.Cond.selects "CodeExchange$Table" ({ cls := "CodeExchange$Table", name := "close", desc := "()V" } : Jvm.MethodName) ({ cls := "CodeExchange$Table", name := "close", desc := "()V" } : Jvm.MethodName)) ∈ lw_all := lw_g (lw_at lw_m4 30 rfl) rfl
theorem q847 : (Jvm.Cond.code ({ cls := "CodeExchange$Table", name := "close", desc := "()V" } : Jvm.MethodName) prog_12_method_26_code (4 : Nat) (Option.none : Option Jvm.ClassFile.FieldType)) ∈ lw_all := lw_g (lw_at lw_m4 31 rfl) rfl
theorem q863 : (Jvm.Cond.selects "CodeExchange$Table" ({ cls := "CodeExchange$Page", name := "kind", desc := "()I" } : Jvm.MethodName) ({ cls := "CodeExchange$Table", name := "kind", desc := "()I" } : Jvm.MethodName)) ∈ lw_all := lw_g (lw_at lw_m4 47 rfl) rfl
theorem q864 : (Jvm.Cond.instanceMethod ({ cls := "CodeExchange$Table", name := "kind", desc := "()I" } : Jvm.MethodName)) ∈ lw_all := lw_g (lw_at lw_m4 48 rfl) rfl
theorem q865 : (Jvm.Cond.code ({ cls := "CodeExchange$Table", name := "kind", desc := "()I" } : Jvm.MethodName) prog_12_method_2_code (1 : Nat) (Option.some Jvm.ClassFile.FieldType.int)) ∈ lw_all := lw_g (lw_at lw_m4 49 rfl) rfl
theorem q878 : (Jvm.Cond.selects "CodeExchange$Table" ({ cls := "CodeExchange$Page", name := "isClosed", desc := "()Z" } : Jvm.MethodName) ({ cls := "CodeExchange$Table", name := "isClosed", desc := "()Z" } : Jvm.MethodName)) ∈ lw_all := lw_g (lw_at lw_m4 62 rfl) rfl
theorem q879 : (Jvm.Cond.instanceMethod ({ cls := "CodeExchange$Table", name := "isClosed", desc := "()Z" } : Jvm.MethodName)) ∈ lw_all := lw_g (lw_at lw_m4 63 rfl) rfl
theorem q880 : (Jvm.Cond.code ({ cls := "CodeExchange$Table", name := "isClosed", desc := "()Z" } : Jvm.MethodName) prog_12_method_3_code (1 : Nat) (Option.some Jvm.ClassFile.FieldType.boolean)) ∈ lw_all := lw_g (lw_at lw_m4 64 rfl) rfl
theorem q906 : (Jvm.Cond.selects "CodeExchange$Table" ({ cls := "CodeExchange$Page", name := "code", desc := "(I)J" } : Jvm.MethodName) ({ cls := "CodeExchange$Table", name := "code", desc := "(I)J" } : Jvm.MethodName)) ∈ lw_all := lw_g (lw_at lw_m4 90 rfl) rfl
theorem q907 : (Jvm.Cond.instanceMethod ({ cls := "CodeExchange$Table", name := "code", desc := "(I)J" } : Jvm.MethodName)) ∈ lw_all := lw_g (lw_at lw_m4 91 rfl) rfl
theorem q908 : (Jvm.Cond.code ({ cls := "CodeExchange$Table", name := "code", desc := "(I)J" } : Jvm.MethodName) prog_12_method_30_code (3 : Nat) (Option.some Jvm.ClassFile.FieldType.long)) ∈ lw_all := lw_g (lw_at lw_m4 92 rfl) rfl
theorem q909 : (Jvm.Cond.methodLink "CodeExchange$Table" (165 : Nat) ({ cls := "CodeExchange$Table", name := "entryOf", desc := "(I)I" } : Jvm.MethodName)) ∈ lw_all := lw_g (lw_at lw_m4 93 rfl) rfl
theorem q910 : (Jvm.Cond.privateMethod ({ cls := "CodeExchange$Table", name := "entryOf", desc := "(I)I" } : Jvm.MethodName)) ∈ lw_tbl := lw_at lw_m4 94 rfl
theorem q911 : (Jvm.Cond.instanceMethod ({ cls := "CodeExchange$Table", name := "entryOf", desc := "(I)I" } : Jvm.MethodName)) ∈ lw_all := lw_g (lw_at lw_m4 95 rfl) rfl
theorem q912 : (Jvm.Cond.code ({ cls := "CodeExchange$Table", name := "entryOf", desc := "(I)I" } : Jvm.MethodName) prog_12_method_29_code (3 : Nat) (Option.some Jvm.ClassFile.FieldType.int)) ∈ lw_all := lw_g (lw_at lw_m4 96 rfl) rfl
theorem q913 : (Jvm.Cond.methodLink "CodeExchange$Table" (162 : Nat) ({ cls := "CodeExchange$Table", name := "below", desc := "(I)I" } : Jvm.MethodName)) ∈ lw_all := lw_g (lw_at lw_m4 97 rfl) rfl
theorem q914 : (Jvm.Cond.privateMethod ({ cls := "CodeExchange$Table", name := "below", desc := "(I)I" } : Jvm.MethodName)) ∈ lw_tbl := lw_at lw_m4 98 rfl
theorem q915 : (Jvm.Cond.instanceMethod ({ cls := "CodeExchange$Table", name := "below", desc := "(I)I" } : Jvm.MethodName)) ∈ lw_all := lw_g (lw_at lw_m4 99 rfl) rfl
theorem q916 : (Jvm.Cond.code ({ cls := "CodeExchange$Table", name := "below", desc := "(I)I" } : Jvm.MethodName) prog_12_method_28_code (5 : Nat) (Option.some Jvm.ClassFile.FieldType.int)) ∈ lw_all := lw_g (lw_at lw_m4 100 rfl) rfl
theorem q917 : (Jvm.Cond.constantLong "CodeExchange$Table" (168 : Nat) (-1 : Int64)) ∈ lw_all := lw_g (lw_at lw_m4 101 rfl) rfl
theorem q1046 : (Jvm.Cond.selects "CodeExchange$Table" ({ cls := "CodeExchange$Page", name := "match", desc := "(II[II)I" } : Jvm.MethodName) ({ cls := "CodeExchange$Table", name := "match", desc := "(II[II)I" } : Jvm.MethodName)) ∈ lw_all := lw_g (lw_at lw_m4 230 rfl) rfl
theorem q1047 : (Jvm.Cond.instanceMethod ({ cls := "CodeExchange$Table", name := "match", desc := "(II[II)I" } : Jvm.MethodName)) ∈ lw_all := lw_g (lw_at lw_m4 231 rfl) rfl
theorem q1048 : (Jvm.Cond.code ({ cls := "CodeExchange$Table", name := "match", desc := "(II[II)I" } : Jvm.MethodName) prog_12_method_27_code (12 : Nat) (Option.some Jvm.ClassFile.FieldType.int)) ∈ lw_all := lw_g (lw_at lw_m4 232 rfl) rfl
theorem q1117 : (Jvm.Cond.selects "CodeExchange$Table" ({ cls := "CodeExchange$Page", name := "way", desc := "(II)J" } : Jvm.MethodName) ({ cls := "CodeExchange$Table", name := "way", desc := "(II)J" } : Jvm.MethodName)) ∈ lw_all := lw_g (lw_at lw_m5 61 rfl) rfl
theorem q1118 : (Jvm.Cond.instanceMethod ({ cls := "CodeExchange$Table", name := "way", desc := "(II)J" } : Jvm.MethodName)) ∈ lw_all := lw_g (lw_at lw_m5 62 rfl) rfl
theorem q1119 : (Jvm.Cond.code ({ cls := "CodeExchange$Table", name := "way", desc := "(II)J" } : Jvm.MethodName) prog_12_method_31_code (4 : Nat) (Option.some Jvm.ClassFile.FieldType.long)) ∈ lw_all := lw_g (lw_at lw_m5 63 rfl) rfl
theorem q1134 : (Jvm.Cond.selects "CodeExchange$Table" ({ cls := "CodeExchange$Page", name := "behind", desc := "(II)I" } : Jvm.MethodName) ({ cls := "CodeExchange$Table", name := "behind", desc := "(II)I" } : Jvm.MethodName)) ∈ lw_all := lw_g (lw_at lw_m5 78 rfl) rfl
theorem q1135 : (Jvm.Cond.instanceMethod ({ cls := "CodeExchange$Table", name := "behind", desc := "(II)I" } : Jvm.MethodName)) ∈ lw_all := lw_g (lw_at lw_m5 79 rfl) rfl
theorem q1136 : (Jvm.Cond.code ({ cls := "CodeExchange$Table", name := "behind", desc := "(II)I" } : Jvm.MethodName) prog_12_method_32_code (3 : Nat) (Option.some Jvm.ClassFile.FieldType.int)) ∈ lw_all := lw_g (lw_at lw_m5 80 rfl) rfl
theorem q1174 : (Jvm.Cond.selects "CodeExchange$Table" ({ cls := "CodeExchange$Page", name := "end", desc := "(I)J" } : Jvm.MethodName) ({ cls := "CodeExchange$Table", name := "end", desc := "(I)J" } : Jvm.MethodName)) ∈ lw_all := lw_g (lw_at lw_m5 118 rfl) rfl
theorem q1175 : (Jvm.Cond.instanceMethod ({ cls := "CodeExchange$Table", name := "end", desc := "(I)J" } : Jvm.MethodName)) ∈ lw_all := lw_g (lw_at lw_m5 119 rfl) rfl
theorem q1176 : (Jvm.Cond.code ({ cls := "CodeExchange$Table", name := "end", desc := "(I)J" } : Jvm.MethodName) prog_12_method_33_code (2 : Nat) (Option.some Jvm.ClassFile.FieldType.long)) ∈ lw_all := lw_g (lw_at lw_m5 120 rfl) rfl
theorem q1292 : (Jvm.Cond.selects "CodeExchange$Table" ({ cls := "CodeExchange$Page", name := "coverage", desc := "(II)I" } : Jvm.MethodName) ({ cls := "CodeExchange$Table", name := "coverage", desc := "(II)I" } : Jvm.MethodName)) ∈ lw_all := lw_g (lw_at lw_m5 236 rfl) rfl
theorem q1293 : (Jvm.Cond.instanceMethod ({ cls := "CodeExchange$Table", name := "coverage", desc := "(II)I" } : Jvm.MethodName)) ∈ lw_all := lw_g (lw_at lw_m5 237 rfl) rfl
theorem q1294 : (Jvm.Cond.code ({ cls := "CodeExchange$Table", name := "coverage", desc := "(II)I" } : Jvm.MethodName) prog_12_method_34_code (3 : Nat) (Option.some Jvm.ClassFile.FieldType.int)) ∈ lw_all := lw_g (lw_at lw_m5 238 rfl) rfl
theorem q1340 : (Jvm.Cond.selects "CodeExchange$Table" ({ cls := "CodeExchange$Page", name := "isReached", desc := "(I)Z" } : Jvm.MethodName) ({ cls := "CodeExchange$Table", name := "isReached", desc := "(I)Z" } : Jvm.MethodName)) ∈ lw_all := lw_g (lw_at lw_m6 44 rfl) rfl
theorem q1966 : (Jvm.Cond.castable "CodeExchange$Table" "CodeExchange$Page") ∈ lw_tbl := lw_at lw_m8 190 rfl
theorem in_X3 : ∀ w ∈ wsX30, w ∈ lw_all := lw_in wsX30 [323, 325, 327, 275, 277, 279, 281, 283, 285, 287, 289, 291, 293, 295, 297, 299, 301, 303, 305, 307, 309, 311, 313, 315, 317, 319, 321] (by decide +kernel) (by decide +kernel)
