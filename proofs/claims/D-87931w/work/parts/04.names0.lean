/-! CodeExchange -/
set_option maxRecDepth 100000
def RX0 : String := "CodeExchange"
def TX0 : u_T := fun k => match k with
  | 0 => ("CodeExchange", "refusal", "LCodeExchange$Refusal;", true)
  | 1 => ("CodeExchange", "pages", "[LCodeExchange$Slot;", true)
  | 2 => ("CodeExchange", "pageMany", "I", false)
  | 3 => ("CodeExchange", "spare", "LCodeExchange$Table;", false)
  | 4 => ("CodeExchange", "inBytes", "[I", true)
  | 5 => ("CodeExchange", "byteMany", "I", false)
  | 6 => ("CodeExchange", "inUnits", "[I", true)
  | 7 => ("CodeExchange", "unitMany", "I", false)
  | 8 => ("CodeExchange", "signs", "[I", true)
  | 9 => ("CodeExchange", "falls", "I", false)
  | 10 => ("CodeExchange", "fallPoint", "[I", true)
  | 11 => ("CodeExchange", "fallMany", "[I", true)
  | 12 => ("CodeExchange", "fallText", "[I", true)
  | 13 => ("CodeExchange", "fallLength", "[I", true)
  | 14 => ("CodeExchange", "machines", "[LCodeExchange$Slot;", true)
  | 15 => ("CodeExchange", "readers", "[LCodeExchange$Reader;", true)
  | 16 => ("CodeExchange", "writers", "[LCodeExchange$Writer;", true)
  | 17 => ("CodeExchange", "reader", "LCodeExchange$Reader;", true)
  | 18 => ("CodeExchange", "writer", "LCodeExchange$Writer;", true)
  | 19 => ("CodeExchange", "place", "I", false)
  | 20 => ("CodeExchange", "brokenRule", "I", false)
  | 21 => ("CodeExchange", "brokenWhich", "I", false)
  | 22 => ("CodeExchange", "brokenOther", "I", false)
  | 23 => ("CodeExchange", "findings", "I", false)
  | 24 => ("CodeExchange", "result", "LCodeExchange$Row;", false)
  | 25 => ("CodeExchange", "made", "LCodeExchange$Row;", false)
  | 26 => ("CodeExchange", "between", "LCodeExchange$Row;", true)
  | 27 => ("CodeExchange", "resultKind", "I", false)
  | 28 => ("CodeExchange", "before", "[I", true)
  | 29 => ("CodeExchange", "alone", "LCodeExchange$Row;", true)
  | 30 => ("CodeExchange", "alike", "LCodeExchange$Row;", true)
  | 31 => ("CodeExchange", "two", "[I", true)
  | _ => ("CodeExchange", "at", "I", false)
def tyX0 : Nat → FieldType := fun k => match k with
  | 0 => .object "CodeExchange$Refusal"
  | 1 => .array (.object "CodeExchange$Slot")
  | 2 => .int
  | 3 => .object "CodeExchange$Table"
  | 4 => .array .int
  | 5 => .int
  | 6 => .array .int
  | 7 => .int
  | 8 => .array .int
  | 9 => .int
  | 10 => .array .int
  | 11 => .array .int
  | 12 => .array .int
  | 13 => .array .int
  | 14 => .array (.object "CodeExchange$Slot")
  | 15 => .array (.object "CodeExchange$Reader")
  | 16 => .array (.object "CodeExchange$Writer")
  | 17 => .object "CodeExchange$Reader"
  | 18 => .object "CodeExchange$Writer"
  | 19 => .int
  | 20 => .int
  | 21 => .int
  | 22 => .int
  | 23 => .int
  | 24 => .object "CodeExchange$Row"
  | 25 => .object "CodeExchange$Row"
  | 26 => .object "CodeExchange$Row"
  | 27 => .int
  | 28 => .array .int
  | 29 => .object "CodeExchange$Row"
  | 30 => .object "CodeExchange$Row"
  | 31 => .array .int
  | _ => .int
abbrev wsX00 : List Cond := u_ws RX0 TX0 33
set_option maxRecDepth 100000 in
theorem nmX0 : ∀ a, a < 33 → ∀ b, b < 33 → a ≠ b → (TX0 a).2.1 ≠ (TX0 b).2.1 := by decide +kernel
set_option maxRecDepth 100000 in
theorem tyX0_ok : ∀ k, k < 33 → parseFieldDescriptor (TX0 k).2.2.1 = some (tyX0 k) := by decide +kernel
abbrev cX0_init : ByteArray := prog_1_method_8_code
def yX0_init : MethodName := ⟨RX0, "<init>", "()V"⟩
def dkwX0_init_13 : List UInt8 := [167, 255, 207, 177]
abbrev dktX0_init_13 : List UInt8 := dkwX0_init_13 ++ []
def dkwX0_init_12 : List UInt8 := [89, 42, 183, 0, 87, 83, 42, 180, 0, 83, 27, 187, 0, 81, 89, 42, 183, 0, 94, 83, 132, 1, 1]
abbrev dktX0_init_12 : List UInt8 := dkwX0_init_12 ++ dktX0_init_13
def dkwX0_init_11 : List UInt8 := [162, 0, 50, 42, 180, 0, 72, 27, 187, 0, 36, 89, 183, 0, 124, 83, 42, 180, 0, 77, 27, 187, 0, 75]
abbrev dktX0_init_11 : List UInt8 := dkwX0_init_11 ++ dktX0_init_12
def dkwX0_init_10 : List UInt8 := [180, 0, 38, 27, 187, 0, 36, 89, 183, 0, 124, 83, 132, 1, 1, 167, 255, 234, 3, 60, 27, 7]
abbrev dktX0_init_10 : List UInt8 := dkwX0_init_10 ++ dktX0_init_11
def dkwX0_init_9 : List UInt8 := [183, 0, 101, 181, 0, 118, 42, 5, 188, 10, 181, 0, 121, 3, 60, 27, 16, 10, 162, 0, 22, 42]
abbrev dktX0_init_9 : List UInt8 := dkwX0_init_9 ++ dktX0_init_10
def dkwX0_init_8 : List UInt8 := [188, 10, 181, 0, 112, 42, 187, 0, 99, 89, 42, 183, 0, 101, 181, 0, 115, 42, 187, 0, 99, 89, 42]
abbrev dktX0_init_8 : List UInt8 := dkwX0_init_8 ++ dktX0_init_9
def dkwX0_init_7 : List UInt8 := [89, 42, 183, 0, 101, 181, 0, 106, 42, 187, 0, 99, 89, 42, 183, 0, 101, 181, 0, 109, 42, 16, 6]
abbrev dktX0_init_7 : List UInt8 := dkwX0_init_7 ++ dktX0_init_8
def dkwX0_init_6 : List UInt8 := [89, 42, 183, 0, 94, 181, 0, 95, 42, 187, 0, 99, 89, 42, 183, 0, 101, 181, 0, 102, 42, 187, 0, 99]
abbrev dktX0_init_6 : List UInt8 := dkwX0_init_6 ++ dktX0_init_7
def dkwX0_init_5 : List UInt8 := [42, 7, 189, 0, 81, 181, 0, 83, 42, 187, 0, 75, 89, 42, 183, 0, 87, 181, 0, 90, 42, 187, 0, 81]
abbrev dktX0_init_5 : List UInt8 := dkwX0_init_5 ++ dktX0_init_6
def dkwX0_init_4 : List UInt8 := [42, 16, 41, 188, 10, 181, 0, 69, 42, 7, 189, 0, 36, 181, 0, 72, 42, 7, 189, 0, 75, 181, 0, 77]
abbrev dktX0_init_4 : List UInt8 := dkwX0_init_4 ++ dktX0_init_5
def dkwX0_init_3 : List UInt8 := [16, 41, 188, 10, 181, 0, 60, 42, 16, 41, 188, 10, 181, 0, 63, 42, 17, 0, 164, 188, 10, 181, 0, 66]
abbrev dktX0_init_3 : List UInt8 := dkwX0_init_3 ++ dktX0_init_4
def dkwX0_init_2 : List UInt8 := [188, 10, 181, 0, 53, 42, 5, 188, 10, 89, 3, 18, 56, 79, 89, 4, 16, 63, 79, 181, 0, 57, 42]
abbrev dktX0_init_2 : List UInt8 := dkwX0_init_2 ++ dktX0_init_3
def dkwX0_init_1 : List UInt8 := [42, 187, 0, 42, 89, 183, 0, 44, 181, 0, 45, 42, 17, 3, 232, 188, 10, 181, 0, 49, 42, 17, 3, 232]
abbrev dktX0_init_1 : List UInt8 := dkwX0_init_1 ++ dktX0_init_2
def dkwX0_init_0 : List UInt8 := [42, 183, 0, 29, 42, 187, 0, 18, 89, 183, 0, 35, 181, 0, 13, 42, 16, 10, 189, 0, 36, 181, 0, 38]
abbrev dktX0_init_0 : List UInt8 := dkwX0_init_0 ++ dktX0_init_1
theorem dksX0_init_0 : cX0_init.data.toList.drop 0 = dktX0_init_0 := by decide +kernel
theorem dksX0_init_1 : cX0_init.data.toList.drop 24 = dktX0_init_1 := dk_seg dksX0_init_0 24 rfl rfl
theorem dksX0_init_2 : cX0_init.data.toList.drop 48 = dktX0_init_2 := dk_seg dksX0_init_1 24 rfl rfl
theorem dksX0_init_3 : cX0_init.data.toList.drop 71 = dktX0_init_3 := dk_seg dksX0_init_2 23 rfl rfl
theorem dksX0_init_4 : cX0_init.data.toList.drop 95 = dktX0_init_4 := dk_seg dksX0_init_3 24 rfl rfl
theorem dksX0_init_5 : cX0_init.data.toList.drop 119 = dktX0_init_5 := dk_seg dksX0_init_4 24 rfl rfl
theorem dksX0_init_6 : cX0_init.data.toList.drop 143 = dktX0_init_6 := dk_seg dksX0_init_5 24 rfl rfl
theorem dksX0_init_7 : cX0_init.data.toList.drop 167 = dktX0_init_7 := dk_seg dksX0_init_6 24 rfl rfl
theorem dksX0_init_8 : cX0_init.data.toList.drop 190 = dktX0_init_8 := dk_seg dksX0_init_7 23 rfl rfl
theorem dksX0_init_9 : cX0_init.data.toList.drop 213 = dktX0_init_9 := dk_seg dksX0_init_8 23 rfl rfl
theorem dksX0_init_10 : cX0_init.data.toList.drop 235 = dktX0_init_10 := dk_seg dksX0_init_9 22 rfl rfl
theorem dksX0_init_11 : cX0_init.data.toList.drop 257 = dktX0_init_11 := dk_seg dksX0_init_10 22 rfl rfl
theorem dksX0_init_12 : cX0_init.data.toList.drop 281 = dktX0_init_12 := dk_seg dksX0_init_11 24 rfl rfl
theorem dksX0_init_13 : cX0_init.data.toList.drop 304 = dktX0_init_13 := dk_seg dksX0_init_12 23 rfl rfl
theorem dX0_init_0 : decode cX0_init 0 = .ok (.aload_n 0, 1) := dk_42 (dk_at dksX0_init_0 0 rfl rfl)
theorem dX0_init_1 : decode cX0_init 1 = .ok (.invokespecial 29, 3) := dk_183 0 29 (dk_at dksX0_init_0 1 rfl rfl)
theorem dX0_init_4 : decode cX0_init 4 = .ok (.aload_n 0, 1) := dk_42 (dk_at dksX0_init_0 4 rfl rfl)
theorem dX0_init_5 : decode cX0_init 5 = .ok (.new 18, 3) := dk_187 0 18 (dk_at dksX0_init_0 5 rfl rfl)
theorem dX0_init_8 : decode cX0_init 8 = .ok (.dup, 1) := dk_89 (dk_at dksX0_init_0 8 rfl rfl)
theorem dX0_init_9 : decode cX0_init 9 = .ok (.invokespecial 35, 3) := dk_183 0 35 (dk_at dksX0_init_0 9 rfl rfl)
theorem dX0_init_12 : decode cX0_init 12 = .ok (.putfield 13, 3) := dk_181 0 13 (dk_at dksX0_init_0 12 rfl rfl)
theorem dX0_init_15 : decode cX0_init 15 = .ok (.aload_n 0, 1) := dk_42 (dk_at dksX0_init_0 15 rfl rfl)
theorem dX0_init_16 : decode cX0_init 16 = .ok (.bipush 10, 2) := dk_16 10 (dk_at dksX0_init_0 16 rfl rfl)
theorem dX0_init_18 : decode cX0_init 18 = .ok (.anewarray 36, 3) := dk_189 0 36 (dk_at dksX0_init_0 18 rfl rfl)
theorem dX0_init_21 : decode cX0_init 21 = .ok (.putfield 38, 3) := dk_181 0 38 (dk_at dksX0_init_0 21 rfl rfl)
theorem dX0_init_24 : decode cX0_init 24 = .ok (.aload_n 0, 1) := dk_42 (dk_at dksX0_init_1 0 rfl rfl)
theorem dX0_init_25 : decode cX0_init 25 = .ok (.new 42, 3) := dk_187 0 42 (dk_at dksX0_init_1 1 rfl rfl)
theorem dX0_init_28 : decode cX0_init 28 = .ok (.dup, 1) := dk_89 (dk_at dksX0_init_1 4 rfl rfl)
theorem dX0_init_29 : decode cX0_init 29 = .ok (.invokespecial 44, 3) := dk_183 0 44 (dk_at dksX0_init_1 5 rfl rfl)
theorem dX0_init_32 : decode cX0_init 32 = .ok (.putfield 45, 3) := dk_181 0 45 (dk_at dksX0_init_1 8 rfl rfl)
theorem dX0_init_35 : decode cX0_init 35 = .ok (.aload_n 0, 1) := dk_42 (dk_at dksX0_init_1 11 rfl rfl)
theorem dX0_init_36 : decode cX0_init 36 = .ok (.sipush 1000, 3) := dk_17 3 232 (dk_at dksX0_init_1 12 rfl rfl)
theorem dX0_init_39 : decode cX0_init 39 = .ok (.newarray .int, 2) := dk_188_10 (dk_at dksX0_init_1 15 rfl rfl)
theorem dX0_init_41 : decode cX0_init 41 = .ok (.putfield 49, 3) := dk_181 0 49 (dk_at dksX0_init_1 17 rfl rfl)
theorem dX0_init_44 : decode cX0_init 44 = .ok (.aload_n 0, 1) := dk_42 (dk_at dksX0_init_1 20 rfl rfl)
theorem dX0_init_45 : decode cX0_init 45 = .ok (.sipush 1000, 3) := dk_17 3 232 (dk_at dksX0_init_1 21 rfl rfl)
theorem dX0_init_48 : decode cX0_init 48 = .ok (.newarray .int, 2) := dk_188_10 (dk_at dksX0_init_2 0 rfl rfl)
theorem dX0_init_50 : decode cX0_init 50 = .ok (.putfield 53, 3) := dk_181 0 53 (dk_at dksX0_init_2 2 rfl rfl)
theorem dX0_init_53 : decode cX0_init 53 = .ok (.aload_n 0, 1) := dk_42 (dk_at dksX0_init_2 5 rfl rfl)
theorem dX0_init_54 : decode cX0_init 54 = .ok (.iconst 2, 1) := dk_5 (dk_at dksX0_init_2 6 rfl rfl)
theorem dX0_init_55 : decode cX0_init 55 = .ok (.newarray .int, 2) := dk_188_10 (dk_at dksX0_init_2 7 rfl rfl)
theorem dX0_init_57 : decode cX0_init 57 = .ok (.dup, 1) := dk_89 (dk_at dksX0_init_2 9 rfl rfl)
theorem dX0_init_58 : decode cX0_init 58 = .ok (.iconst 0, 1) := dk_3 (dk_at dksX0_init_2 10 rfl rfl)
theorem dX0_init_59 : decode cX0_init 59 = .ok (.ldc 56, 2) := dk_18 56 (dk_at dksX0_init_2 11 rfl rfl)
theorem dX0_init_61 : decode cX0_init 61 = .ok (.iastore, 1) := dk_79 (dk_at dksX0_init_2 13 rfl rfl)
theorem dX0_init_62 : decode cX0_init 62 = .ok (.dup, 1) := dk_89 (dk_at dksX0_init_2 14 rfl rfl)
theorem dX0_init_63 : decode cX0_init 63 = .ok (.iconst 1, 1) := dk_4 (dk_at dksX0_init_2 15 rfl rfl)
theorem dX0_init_64 : decode cX0_init 64 = .ok (.bipush 63, 2) := dk_16 63 (dk_at dksX0_init_2 16 rfl rfl)
theorem dX0_init_66 : decode cX0_init 66 = .ok (.iastore, 1) := dk_79 (dk_at dksX0_init_2 18 rfl rfl)
theorem dX0_init_67 : decode cX0_init 67 = .ok (.putfield 57, 3) := dk_181 0 57 (dk_at dksX0_init_2 19 rfl rfl)
theorem dX0_init_70 : decode cX0_init 70 = .ok (.aload_n 0, 1) := dk_42 (dk_at dksX0_init_2 22 rfl rfl)
theorem dX0_init_71 : decode cX0_init 71 = .ok (.bipush 41, 2) := dk_16 41 (dk_at dksX0_init_3 0 rfl rfl)
theorem dX0_init_73 : decode cX0_init 73 = .ok (.newarray .int, 2) := dk_188_10 (dk_at dksX0_init_3 2 rfl rfl)
theorem dX0_init_75 : decode cX0_init 75 = .ok (.putfield 60, 3) := dk_181 0 60 (dk_at dksX0_init_3 4 rfl rfl)
theorem dX0_init_78 : decode cX0_init 78 = .ok (.aload_n 0, 1) := dk_42 (dk_at dksX0_init_3 7 rfl rfl)
theorem dX0_init_79 : decode cX0_init 79 = .ok (.bipush 41, 2) := dk_16 41 (dk_at dksX0_init_3 8 rfl rfl)
theorem dX0_init_81 : decode cX0_init 81 = .ok (.newarray .int, 2) := dk_188_10 (dk_at dksX0_init_3 10 rfl rfl)
theorem dX0_init_83 : decode cX0_init 83 = .ok (.putfield 63, 3) := dk_181 0 63 (dk_at dksX0_init_3 12 rfl rfl)
theorem dX0_init_86 : decode cX0_init 86 = .ok (.aload_n 0, 1) := dk_42 (dk_at dksX0_init_3 15 rfl rfl)
theorem dX0_init_87 : decode cX0_init 87 = .ok (.sipush 164, 3) := dk_17 0 164 (dk_at dksX0_init_3 16 rfl rfl)
theorem dX0_init_90 : decode cX0_init 90 = .ok (.newarray .int, 2) := dk_188_10 (dk_at dksX0_init_3 19 rfl rfl)
theorem dX0_init_92 : decode cX0_init 92 = .ok (.putfield 66, 3) := dk_181 0 66 (dk_at dksX0_init_3 21 rfl rfl)
theorem dX0_init_95 : decode cX0_init 95 = .ok (.aload_n 0, 1) := dk_42 (dk_at dksX0_init_4 0 rfl rfl)
theorem dX0_init_96 : decode cX0_init 96 = .ok (.bipush 41, 2) := dk_16 41 (dk_at dksX0_init_4 1 rfl rfl)
theorem dX0_init_98 : decode cX0_init 98 = .ok (.newarray .int, 2) := dk_188_10 (dk_at dksX0_init_4 3 rfl rfl)
theorem dX0_init_100 : decode cX0_init 100 = .ok (.putfield 69, 3) := dk_181 0 69 (dk_at dksX0_init_4 5 rfl rfl)
theorem dX0_init_103 : decode cX0_init 103 = .ok (.aload_n 0, 1) := dk_42 (dk_at dksX0_init_4 8 rfl rfl)
theorem dX0_init_104 : decode cX0_init 104 = .ok (.iconst 4, 1) := dk_7 (dk_at dksX0_init_4 9 rfl rfl)
theorem dX0_init_105 : decode cX0_init 105 = .ok (.anewarray 36, 3) := dk_189 0 36 (dk_at dksX0_init_4 10 rfl rfl)
theorem dX0_init_108 : decode cX0_init 108 = .ok (.putfield 72, 3) := dk_181 0 72 (dk_at dksX0_init_4 13 rfl rfl)
theorem dX0_init_111 : decode cX0_init 111 = .ok (.aload_n 0, 1) := dk_42 (dk_at dksX0_init_4 16 rfl rfl)
theorem dX0_init_112 : decode cX0_init 112 = .ok (.iconst 4, 1) := dk_7 (dk_at dksX0_init_4 17 rfl rfl)
theorem dX0_init_113 : decode cX0_init 113 = .ok (.anewarray 75, 3) := dk_189 0 75 (dk_at dksX0_init_4 18 rfl rfl)
theorem dX0_init_116 : decode cX0_init 116 = .ok (.putfield 77, 3) := dk_181 0 77 (dk_at dksX0_init_4 21 rfl rfl)
theorem dX0_init_119 : decode cX0_init 119 = .ok (.aload_n 0, 1) := dk_42 (dk_at dksX0_init_5 0 rfl rfl)
theorem dX0_init_120 : decode cX0_init 120 = .ok (.iconst 4, 1) := dk_7 (dk_at dksX0_init_5 1 rfl rfl)
theorem dX0_init_121 : decode cX0_init 121 = .ok (.anewarray 81, 3) := dk_189 0 81 (dk_at dksX0_init_5 2 rfl rfl)
theorem dX0_init_124 : decode cX0_init 124 = .ok (.putfield 83, 3) := dk_181 0 83 (dk_at dksX0_init_5 5 rfl rfl)
theorem dX0_init_127 : decode cX0_init 127 = .ok (.aload_n 0, 1) := dk_42 (dk_at dksX0_init_5 8 rfl rfl)
theorem dX0_init_128 : decode cX0_init 128 = .ok (.new 75, 3) := dk_187 0 75 (dk_at dksX0_init_5 9 rfl rfl)
theorem dX0_init_131 : decode cX0_init 131 = .ok (.dup, 1) := dk_89 (dk_at dksX0_init_5 12 rfl rfl)
theorem dX0_init_132 : decode cX0_init 132 = .ok (.aload_n 0, 1) := dk_42 (dk_at dksX0_init_5 13 rfl rfl)
theorem dX0_init_133 : decode cX0_init 133 = .ok (.invokespecial 87, 3) := dk_183 0 87 (dk_at dksX0_init_5 14 rfl rfl)
theorem dX0_init_136 : decode cX0_init 136 = .ok (.putfield 90, 3) := dk_181 0 90 (dk_at dksX0_init_5 17 rfl rfl)
theorem dX0_init_139 : decode cX0_init 139 = .ok (.aload_n 0, 1) := dk_42 (dk_at dksX0_init_5 20 rfl rfl)
theorem dX0_init_140 : decode cX0_init 140 = .ok (.new 81, 3) := dk_187 0 81 (dk_at dksX0_init_5 21 rfl rfl)
theorem dX0_init_143 : decode cX0_init 143 = .ok (.dup, 1) := dk_89 (dk_at dksX0_init_6 0 rfl rfl)
theorem dX0_init_144 : decode cX0_init 144 = .ok (.aload_n 0, 1) := dk_42 (dk_at dksX0_init_6 1 rfl rfl)
theorem dX0_init_145 : decode cX0_init 145 = .ok (.invokespecial 94, 3) := dk_183 0 94 (dk_at dksX0_init_6 2 rfl rfl)
theorem dX0_init_148 : decode cX0_init 148 = .ok (.putfield 95, 3) := dk_181 0 95 (dk_at dksX0_init_6 5 rfl rfl)
theorem dX0_init_151 : decode cX0_init 151 = .ok (.aload_n 0, 1) := dk_42 (dk_at dksX0_init_6 8 rfl rfl)
theorem dX0_init_152 : decode cX0_init 152 = .ok (.new 99, 3) := dk_187 0 99 (dk_at dksX0_init_6 9 rfl rfl)
theorem dX0_init_155 : decode cX0_init 155 = .ok (.dup, 1) := dk_89 (dk_at dksX0_init_6 12 rfl rfl)
theorem dX0_init_156 : decode cX0_init 156 = .ok (.aload_n 0, 1) := dk_42 (dk_at dksX0_init_6 13 rfl rfl)
theorem dX0_init_157 : decode cX0_init 157 = .ok (.invokespecial 101, 3) := dk_183 0 101 (dk_at dksX0_init_6 14 rfl rfl)
theorem dX0_init_160 : decode cX0_init 160 = .ok (.putfield 102, 3) := dk_181 0 102 (dk_at dksX0_init_6 17 rfl rfl)
theorem dX0_init_163 : decode cX0_init 163 = .ok (.aload_n 0, 1) := dk_42 (dk_at dksX0_init_6 20 rfl rfl)
theorem dX0_init_164 : decode cX0_init 164 = .ok (.new 99, 3) := dk_187 0 99 (dk_at dksX0_init_6 21 rfl rfl)
theorem dX0_init_167 : decode cX0_init 167 = .ok (.dup, 1) := dk_89 (dk_at dksX0_init_7 0 rfl rfl)
theorem dX0_init_168 : decode cX0_init 168 = .ok (.aload_n 0, 1) := dk_42 (dk_at dksX0_init_7 1 rfl rfl)
theorem dX0_init_169 : decode cX0_init 169 = .ok (.invokespecial 101, 3) := dk_183 0 101 (dk_at dksX0_init_7 2 rfl rfl)
theorem dX0_init_172 : decode cX0_init 172 = .ok (.putfield 106, 3) := dk_181 0 106 (dk_at dksX0_init_7 5 rfl rfl)
theorem dX0_init_175 : decode cX0_init 175 = .ok (.aload_n 0, 1) := dk_42 (dk_at dksX0_init_7 8 rfl rfl)
theorem dX0_init_176 : decode cX0_init 176 = .ok (.new 99, 3) := dk_187 0 99 (dk_at dksX0_init_7 9 rfl rfl)
theorem dX0_init_179 : decode cX0_init 179 = .ok (.dup, 1) := dk_89 (dk_at dksX0_init_7 12 rfl rfl)
theorem dX0_init_180 : decode cX0_init 180 = .ok (.aload_n 0, 1) := dk_42 (dk_at dksX0_init_7 13 rfl rfl)
theorem dX0_init_181 : decode cX0_init 181 = .ok (.invokespecial 101, 3) := dk_183 0 101 (dk_at dksX0_init_7 14 rfl rfl)
theorem dX0_init_184 : decode cX0_init 184 = .ok (.putfield 109, 3) := dk_181 0 109 (dk_at dksX0_init_7 17 rfl rfl)
theorem dX0_init_187 : decode cX0_init 187 = .ok (.aload_n 0, 1) := dk_42 (dk_at dksX0_init_7 20 rfl rfl)
theorem dX0_init_188 : decode cX0_init 188 = .ok (.bipush 6, 2) := dk_16 6 (dk_at dksX0_init_7 21 rfl rfl)
theorem dX0_init_190 : decode cX0_init 190 = .ok (.newarray .int, 2) := dk_188_10 (dk_at dksX0_init_8 0 rfl rfl)
theorem dX0_init_192 : decode cX0_init 192 = .ok (.putfield 112, 3) := dk_181 0 112 (dk_at dksX0_init_8 2 rfl rfl)
theorem dX0_init_195 : decode cX0_init 195 = .ok (.aload_n 0, 1) := dk_42 (dk_at dksX0_init_8 5 rfl rfl)
theorem dX0_init_196 : decode cX0_init 196 = .ok (.new 99, 3) := dk_187 0 99 (dk_at dksX0_init_8 6 rfl rfl)
theorem dX0_init_199 : decode cX0_init 199 = .ok (.dup, 1) := dk_89 (dk_at dksX0_init_8 9 rfl rfl)
theorem dX0_init_200 : decode cX0_init 200 = .ok (.aload_n 0, 1) := dk_42 (dk_at dksX0_init_8 10 rfl rfl)
theorem dX0_init_201 : decode cX0_init 201 = .ok (.invokespecial 101, 3) := dk_183 0 101 (dk_at dksX0_init_8 11 rfl rfl)
theorem dX0_init_204 : decode cX0_init 204 = .ok (.putfield 115, 3) := dk_181 0 115 (dk_at dksX0_init_8 14 rfl rfl)
theorem dX0_init_207 : decode cX0_init 207 = .ok (.aload_n 0, 1) := dk_42 (dk_at dksX0_init_8 17 rfl rfl)
theorem dX0_init_208 : decode cX0_init 208 = .ok (.new 99, 3) := dk_187 0 99 (dk_at dksX0_init_8 18 rfl rfl)
theorem dX0_init_211 : decode cX0_init 211 = .ok (.dup, 1) := dk_89 (dk_at dksX0_init_8 21 rfl rfl)
theorem dX0_init_212 : decode cX0_init 212 = .ok (.aload_n 0, 1) := dk_42 (dk_at dksX0_init_8 22 rfl rfl)
theorem dX0_init_213 : decode cX0_init 213 = .ok (.invokespecial 101, 3) := dk_183 0 101 (dk_at dksX0_init_9 0 rfl rfl)
theorem dX0_init_216 : decode cX0_init 216 = .ok (.putfield 118, 3) := dk_181 0 118 (dk_at dksX0_init_9 3 rfl rfl)
theorem dX0_init_219 : decode cX0_init 219 = .ok (.aload_n 0, 1) := dk_42 (dk_at dksX0_init_9 6 rfl rfl)
theorem dX0_init_220 : decode cX0_init 220 = .ok (.iconst 2, 1) := dk_5 (dk_at dksX0_init_9 7 rfl rfl)
theorem dX0_init_221 : decode cX0_init 221 = .ok (.newarray .int, 2) := dk_188_10 (dk_at dksX0_init_9 8 rfl rfl)
theorem dX0_init_223 : decode cX0_init 223 = .ok (.putfield 121, 3) := dk_181 0 121 (dk_at dksX0_init_9 10 rfl rfl)
theorem dX0_init_226 : decode cX0_init 226 = .ok (.iconst 0, 1) := dk_3 (dk_at dksX0_init_9 13 rfl rfl)
theorem dX0_init_227 : decode cX0_init 227 = .ok (.istore_n 1, 1) := dk_60 (dk_at dksX0_init_9 14 rfl rfl)
theorem dX0_init_228 : decode cX0_init 228 = .ok (.iload_n 1, 1) := dk_27 (dk_at dksX0_init_9 15 rfl rfl)
theorem dX0_init_229 : decode cX0_init 229 = .ok (.bipush 10, 2) := dk_16 10 (dk_at dksX0_init_9 16 rfl rfl)
theorem dX0_init_231 : decode cX0_init 231 = .ok (.if_icmp .ge 22, 3) := dk_162 0 22 (dk_at dksX0_init_9 18 rfl rfl)
theorem dX0_init_234 : decode cX0_init 234 = .ok (.aload_n 0, 1) := dk_42 (dk_at dksX0_init_9 21 rfl rfl)
theorem dX0_init_235 : decode cX0_init 235 = .ok (.getfield 38, 3) := dk_180 0 38 (dk_at dksX0_init_10 0 rfl rfl)
theorem dX0_init_238 : decode cX0_init 238 = .ok (.iload_n 1, 1) := dk_27 (dk_at dksX0_init_10 3 rfl rfl)
theorem dX0_init_239 : decode cX0_init 239 = .ok (.new 36, 3) := dk_187 0 36 (dk_at dksX0_init_10 4 rfl rfl)
theorem dX0_init_242 : decode cX0_init 242 = .ok (.dup, 1) := dk_89 (dk_at dksX0_init_10 7 rfl rfl)
theorem dX0_init_243 : decode cX0_init 243 = .ok (.invokespecial 124, 3) := dk_183 0 124 (dk_at dksX0_init_10 8 rfl rfl)
theorem dX0_init_246 : decode cX0_init 246 = .ok (.aastore, 1) := dk_83 (dk_at dksX0_init_10 11 rfl rfl)
theorem dX0_init_247 : decode cX0_init 247 = .ok (.iinc 1 1, 3) := dk_132 1 1 (dk_at dksX0_init_10 12 rfl rfl)
theorem dX0_init_250 : decode cX0_init 250 = .ok (.goto (-22), 3) := dk_167 255 234 (dk_at dksX0_init_10 15 rfl rfl)
theorem dX0_init_253 : decode cX0_init 253 = .ok (.iconst 0, 1) := dk_3 (dk_at dksX0_init_10 18 rfl rfl)
theorem dX0_init_254 : decode cX0_init 254 = .ok (.istore_n 1, 1) := dk_60 (dk_at dksX0_init_10 19 rfl rfl)
theorem dX0_init_255 : decode cX0_init 255 = .ok (.iload_n 1, 1) := dk_27 (dk_at dksX0_init_10 20 rfl rfl)
theorem dX0_init_256 : decode cX0_init 256 = .ok (.iconst 4, 1) := dk_7 (dk_at dksX0_init_10 21 rfl rfl)
theorem dX0_init_257 : decode cX0_init 257 = .ok (.if_icmp .ge 50, 3) := dk_162 0 50 (dk_at dksX0_init_11 0 rfl rfl)
theorem dX0_init_260 : decode cX0_init 260 = .ok (.aload_n 0, 1) := dk_42 (dk_at dksX0_init_11 3 rfl rfl)
theorem dX0_init_261 : decode cX0_init 261 = .ok (.getfield 72, 3) := dk_180 0 72 (dk_at dksX0_init_11 4 rfl rfl)
theorem dX0_init_264 : decode cX0_init 264 = .ok (.iload_n 1, 1) := dk_27 (dk_at dksX0_init_11 7 rfl rfl)
theorem dX0_init_265 : decode cX0_init 265 = .ok (.new 36, 3) := dk_187 0 36 (dk_at dksX0_init_11 8 rfl rfl)
theorem dX0_init_268 : decode cX0_init 268 = .ok (.dup, 1) := dk_89 (dk_at dksX0_init_11 11 rfl rfl)
theorem dX0_init_269 : decode cX0_init 269 = .ok (.invokespecial 124, 3) := dk_183 0 124 (dk_at dksX0_init_11 12 rfl rfl)
theorem dX0_init_272 : decode cX0_init 272 = .ok (.aastore, 1) := dk_83 (dk_at dksX0_init_11 15 rfl rfl)
theorem dX0_init_273 : decode cX0_init 273 = .ok (.aload_n 0, 1) := dk_42 (dk_at dksX0_init_11 16 rfl rfl)
theorem dX0_init_274 : decode cX0_init 274 = .ok (.getfield 77, 3) := dk_180 0 77 (dk_at dksX0_init_11 17 rfl rfl)
theorem dX0_init_277 : decode cX0_init 277 = .ok (.iload_n 1, 1) := dk_27 (dk_at dksX0_init_11 20 rfl rfl)
theorem dX0_init_278 : decode cX0_init 278 = .ok (.new 75, 3) := dk_187 0 75 (dk_at dksX0_init_11 21 rfl rfl)
theorem dX0_init_281 : decode cX0_init 281 = .ok (.dup, 1) := dk_89 (dk_at dksX0_init_12 0 rfl rfl)
theorem dX0_init_282 : decode cX0_init 282 = .ok (.aload_n 0, 1) := dk_42 (dk_at dksX0_init_12 1 rfl rfl)
theorem dX0_init_283 : decode cX0_init 283 = .ok (.invokespecial 87, 3) := dk_183 0 87 (dk_at dksX0_init_12 2 rfl rfl)
theorem dX0_init_286 : decode cX0_init 286 = .ok (.aastore, 1) := dk_83 (dk_at dksX0_init_12 5 rfl rfl)
theorem dX0_init_287 : decode cX0_init 287 = .ok (.aload_n 0, 1) := dk_42 (dk_at dksX0_init_12 6 rfl rfl)
theorem dX0_init_288 : decode cX0_init 288 = .ok (.getfield 83, 3) := dk_180 0 83 (dk_at dksX0_init_12 7 rfl rfl)
theorem dX0_init_291 : decode cX0_init 291 = .ok (.iload_n 1, 1) := dk_27 (dk_at dksX0_init_12 10 rfl rfl)
theorem dX0_init_292 : decode cX0_init 292 = .ok (.new 81, 3) := dk_187 0 81 (dk_at dksX0_init_12 11 rfl rfl)
theorem dX0_init_295 : decode cX0_init 295 = .ok (.dup, 1) := dk_89 (dk_at dksX0_init_12 14 rfl rfl)
theorem dX0_init_296 : decode cX0_init 296 = .ok (.aload_n 0, 1) := dk_42 (dk_at dksX0_init_12 15 rfl rfl)
theorem dX0_init_297 : decode cX0_init 297 = .ok (.invokespecial 94, 3) := dk_183 0 94 (dk_at dksX0_init_12 16 rfl rfl)
theorem dX0_init_300 : decode cX0_init 300 = .ok (.aastore, 1) := dk_83 (dk_at dksX0_init_12 19 rfl rfl)
theorem dX0_init_301 : decode cX0_init 301 = .ok (.iinc 1 1, 3) := dk_132 1 1 (dk_at dksX0_init_12 20 rfl rfl)
theorem dX0_init_304 : decode cX0_init 304 = .ok (.goto (-49), 3) := dk_167 255 207 (dk_at dksX0_init_13 0 rfl rfl)
theorem dX0_init_307 : decode cX0_init 307 = .ok (.return_, 1) := dk_177 (dk_at dksX0_init_13 3 rfl rfl)
abbrev cX0_page : ByteArray := prog_1_method_16_code
def yX0_page : MethodName := ⟨RX0, "page", "(I)I"⟩
def dkwX0_page_3 : List UInt8 := [160, 0, 13, 187, 0, 170, 89, 183, 0, 172, 167, 0, 10, 187, 0, 173, 89, 183, 0, 175, 182, 0, 176, 172]
abbrev dktX0_page_3 : List UInt8 := dkwX0_page_3 ++ []
def dkwX0_page_2 : List UInt8 := [89, 183, 0, 44, 167, 0, 40, 27, 4, 160, 0, 13, 187, 0, 167, 89, 183, 0, 169, 167, 0, 25, 27, 5]
abbrev dktX0_page_2 : List UInt8 := dkwX0_page_2 ++ dktX0_page_3
def dkwX0_page_1 : List UInt8 := [184, 0, 4, 154, 0, 7, 2, 167, 0, 5, 16, 250, 182, 0, 163, 172, 42, 27, 154, 0, 13, 187, 0, 42]
abbrev dktX0_page_1 : List UInt8 := dkwX0_page_1 ++ dktX0_page_2
def dkwX0_page_0 : List UInt8 := [27, 3, 6, 184, 0, 4, 153, 0, 12, 42, 180, 0, 160, 16, 10, 160, 0, 23, 42, 27, 3, 6]
abbrev dktX0_page_0 : List UInt8 := dkwX0_page_0 ++ dktX0_page_1
theorem dksX0_page_0 : cX0_page.data.toList.drop 0 = dktX0_page_0 := by decide +kernel
theorem dksX0_page_1 : cX0_page.data.toList.drop 22 = dktX0_page_1 := dk_seg dksX0_page_0 22 rfl rfl
theorem dksX0_page_2 : cX0_page.data.toList.drop 46 = dktX0_page_2 := dk_seg dksX0_page_1 24 rfl rfl
theorem dksX0_page_3 : cX0_page.data.toList.drop 70 = dktX0_page_3 := dk_seg dksX0_page_2 24 rfl rfl
theorem dX0_page_0 : decode cX0_page 0 = .ok (.iload_n 1, 1) := dk_27 (dk_at dksX0_page_0 0 rfl rfl)
theorem dX0_page_1 : decode cX0_page 1 = .ok (.iconst 0, 1) := dk_3 (dk_at dksX0_page_0 1 rfl rfl)
theorem dX0_page_2 : decode cX0_page 2 = .ok (.iconst 3, 1) := dk_6 (dk_at dksX0_page_0 2 rfl rfl)
theorem dX0_page_3 : decode cX0_page 3 = .ok (.invokestatic 4, 3) := dk_184 0 4 (dk_at dksX0_page_0 3 rfl rfl)
theorem dX0_page_6 : decode cX0_page 6 = .ok (.ifCond .eq 12, 3) := dk_153 0 12 (dk_at dksX0_page_0 6 rfl rfl)
theorem dX0_page_9 : decode cX0_page 9 = .ok (.aload_n 0, 1) := dk_42 (dk_at dksX0_page_0 9 rfl rfl)
theorem dX0_page_10 : decode cX0_page 10 = .ok (.getfield 160, 3) := dk_180 0 160 (dk_at dksX0_page_0 10 rfl rfl)
theorem dX0_page_13 : decode cX0_page 13 = .ok (.bipush 10, 2) := dk_16 10 (dk_at dksX0_page_0 13 rfl rfl)
theorem dX0_page_15 : decode cX0_page 15 = .ok (.if_icmp .ne 23, 3) := dk_160 0 23 (dk_at dksX0_page_0 15 rfl rfl)
theorem dX0_page_18 : decode cX0_page 18 = .ok (.aload_n 0, 1) := dk_42 (dk_at dksX0_page_0 18 rfl rfl)
theorem dX0_page_19 : decode cX0_page 19 = .ok (.iload_n 1, 1) := dk_27 (dk_at dksX0_page_0 19 rfl rfl)
theorem dX0_page_20 : decode cX0_page 20 = .ok (.iconst 0, 1) := dk_3 (dk_at dksX0_page_0 20 rfl rfl)
theorem dX0_page_21 : decode cX0_page 21 = .ok (.iconst 3, 1) := dk_6 (dk_at dksX0_page_0 21 rfl rfl)
theorem dX0_page_22 : decode cX0_page 22 = .ok (.invokestatic 4, 3) := dk_184 0 4 (dk_at dksX0_page_1 0 rfl rfl)
theorem dX0_page_25 : decode cX0_page 25 = .ok (.ifCond .ne 7, 3) := dk_154 0 7 (dk_at dksX0_page_1 3 rfl rfl)
theorem dX0_page_28 : decode cX0_page 28 = .ok (.iconst (-1), 1) := dk_2 (dk_at dksX0_page_1 6 rfl rfl)
theorem dX0_page_29 : decode cX0_page 29 = .ok (.goto 5, 3) := dk_167 0 5 (dk_at dksX0_page_1 7 rfl rfl)
theorem dX0_page_32 : decode cX0_page 32 = .ok (.bipush (-6), 2) := dk_16 250 (dk_at dksX0_page_1 10 rfl rfl)
theorem dX0_page_34 : decode cX0_page 34 = .ok (.invokevirtual 163, 3) := dk_182 0 163 (dk_at dksX0_page_1 12 rfl rfl)
theorem dX0_page_37 : decode cX0_page 37 = .ok (.ireturn, 1) := dk_172 (dk_at dksX0_page_1 15 rfl rfl)
theorem dX0_page_38 : decode cX0_page 38 = .ok (.aload_n 0, 1) := dk_42 (dk_at dksX0_page_1 16 rfl rfl)
theorem dX0_page_39 : decode cX0_page 39 = .ok (.iload_n 1, 1) := dk_27 (dk_at dksX0_page_1 17 rfl rfl)
theorem dX0_page_40 : decode cX0_page 40 = .ok (.ifCond .ne 13, 3) := dk_154 0 13 (dk_at dksX0_page_1 18 rfl rfl)
theorem dX0_page_43 : decode cX0_page 43 = .ok (.new 42, 3) := dk_187 0 42 (dk_at dksX0_page_1 21 rfl rfl)
theorem dX0_page_46 : decode cX0_page 46 = .ok (.dup, 1) := dk_89 (dk_at dksX0_page_2 0 rfl rfl)
theorem dX0_page_47 : decode cX0_page 47 = .ok (.invokespecial 44, 3) := dk_183 0 44 (dk_at dksX0_page_2 1 rfl rfl)
theorem dX0_page_50 : decode cX0_page 50 = .ok (.goto 40, 3) := dk_167 0 40 (dk_at dksX0_page_2 4 rfl rfl)
theorem dX0_page_53 : decode cX0_page 53 = .ok (.iload_n 1, 1) := dk_27 (dk_at dksX0_page_2 7 rfl rfl)
theorem dX0_page_54 : decode cX0_page 54 = .ok (.iconst 1, 1) := dk_4 (dk_at dksX0_page_2 8 rfl rfl)
theorem dX0_page_55 : decode cX0_page 55 = .ok (.if_icmp .ne 13, 3) := dk_160 0 13 (dk_at dksX0_page_2 9 rfl rfl)
theorem dX0_page_58 : decode cX0_page 58 = .ok (.new 167, 3) := dk_187 0 167 (dk_at dksX0_page_2 12 rfl rfl)
theorem dX0_page_61 : decode cX0_page 61 = .ok (.dup, 1) := dk_89 (dk_at dksX0_page_2 15 rfl rfl)
theorem dX0_page_62 : decode cX0_page 62 = .ok (.invokespecial 169, 3) := dk_183 0 169 (dk_at dksX0_page_2 16 rfl rfl)
theorem dX0_page_65 : decode cX0_page 65 = .ok (.goto 25, 3) := dk_167 0 25 (dk_at dksX0_page_2 19 rfl rfl)
theorem dX0_page_68 : decode cX0_page 68 = .ok (.iload_n 1, 1) := dk_27 (dk_at dksX0_page_2 22 rfl rfl)
theorem dX0_page_69 : decode cX0_page 69 = .ok (.iconst 2, 1) := dk_5 (dk_at dksX0_page_2 23 rfl rfl)
theorem dX0_page_70 : decode cX0_page 70 = .ok (.if_icmp .ne 13, 3) := dk_160 0 13 (dk_at dksX0_page_3 0 rfl rfl)
theorem dX0_page_73 : decode cX0_page 73 = .ok (.new 170, 3) := dk_187 0 170 (dk_at dksX0_page_3 3 rfl rfl)
theorem dX0_page_76 : decode cX0_page 76 = .ok (.dup, 1) := dk_89 (dk_at dksX0_page_3 6 rfl rfl)
theorem dX0_page_77 : decode cX0_page 77 = .ok (.invokespecial 172, 3) := dk_183 0 172 (dk_at dksX0_page_3 7 rfl rfl)
theorem dX0_page_80 : decode cX0_page 80 = .ok (.goto 10, 3) := dk_167 0 10 (dk_at dksX0_page_3 10 rfl rfl)
theorem dX0_page_83 : decode cX0_page 83 = .ok (.new 173, 3) := dk_187 0 173 (dk_at dksX0_page_3 13 rfl rfl)
theorem dX0_page_86 : decode cX0_page 86 = .ok (.dup, 1) := dk_89 (dk_at dksX0_page_3 16 rfl rfl)
theorem dX0_page_87 : decode cX0_page 87 = .ok (.invokespecial 175, 3) := dk_183 0 175 (dk_at dksX0_page_3 17 rfl rfl)
theorem dX0_page_90 : decode cX0_page 90 = .ok (.invokevirtual 176, 3) := dk_182 0 176 (dk_at dksX0_page_3 20 rfl rfl)
theorem dX0_page_93 : decode cX0_page 93 = .ok (.ireturn, 1) := dk_172 (dk_at dksX0_page_3 23 rfl rfl)
abbrev cX0_in : ByteArray := prog_1_method_1_code
def yX0_in : MethodName := ⟨RX0, "in", "(III)Z"⟩
def dkwX0_in_0 : List UInt8 := [26, 27, 161, 0, 12, 26, 28, 163, 0, 7, 4, 167, 0, 4, 3, 172]
abbrev dktX0_in_0 : List UInt8 := dkwX0_in_0 ++ []
theorem dksX0_in_0 : cX0_in.data.toList.drop 0 = dktX0_in_0 := by decide +kernel
theorem dX0_in_0 : decode cX0_in 0 = .ok (.iload_n 0, 1) := dk_26 (dk_at dksX0_in_0 0 rfl rfl)
theorem dX0_in_1 : decode cX0_in 1 = .ok (.iload_n 1, 1) := dk_27 (dk_at dksX0_in_0 1 rfl rfl)
theorem dX0_in_2 : decode cX0_in 2 = .ok (.if_icmp .lt 12, 3) := dk_161 0 12 (dk_at dksX0_in_0 2 rfl rfl)
theorem dX0_in_5 : decode cX0_in 5 = .ok (.iload_n 0, 1) := dk_26 (dk_at dksX0_in_0 5 rfl rfl)
theorem dX0_in_6 : decode cX0_in 6 = .ok (.iload_n 2, 1) := dk_28 (dk_at dksX0_in_0 6 rfl rfl)
theorem dX0_in_7 : decode cX0_in 7 = .ok (.if_icmp .gt 7, 3) := dk_163 0 7 (dk_at dksX0_in_0 7 rfl rfl)
theorem dX0_in_10 : decode cX0_in 10 = .ok (.iconst 1, 1) := dk_4 (dk_at dksX0_in_0 10 rfl rfl)
theorem dX0_in_11 : decode cX0_in 11 = .ok (.goto 4, 3) := dk_167 0 4 (dk_at dksX0_in_0 11 rfl rfl)
theorem dX0_in_14 : decode cX0_in 14 = .ok (.iconst 0, 1) := dk_3 (dk_at dksX0_in_0 14 rfl rfl)
theorem dX0_in_15 : decode cX0_in 15 = .ok (.ireturn, 1) := dk_172 (dk_at dksX0_in_0 15 rfl rfl)
abbrev cX0_answer : ByteArray := prog_1_method_9_code
def yX0_answer : MethodName := ⟨RX0, "answer", "(I)I"⟩
def dkwX0_answer_0 : List UInt8 := [42, 89, 180, 0, 125, 27, 156, 0, 7, 4, 167, 0, 4, 3, 96, 181, 0, 125, 27, 172]
abbrev dktX0_answer_0 : List UInt8 := dkwX0_answer_0 ++ []
theorem dksX0_answer_0 : cX0_answer.data.toList.drop 0 = dktX0_answer_0 := by decide +kernel
theorem dX0_answer_0 : decode cX0_answer 0 = .ok (.aload_n 0, 1) := dk_42 (dk_at dksX0_answer_0 0 rfl rfl)
theorem dX0_answer_1 : decode cX0_answer 1 = .ok (.dup, 1) := dk_89 (dk_at dksX0_answer_0 1 rfl rfl)
theorem dX0_answer_2 : decode cX0_answer 2 = .ok (.getfield 125, 3) := dk_180 0 125 (dk_at dksX0_answer_0 2 rfl rfl)
theorem dX0_answer_5 : decode cX0_answer 5 = .ok (.iload_n 1, 1) := dk_27 (dk_at dksX0_answer_0 5 rfl rfl)
theorem dX0_answer_6 : decode cX0_answer 6 = .ok (.ifCond .ge 7, 3) := dk_156 0 7 (dk_at dksX0_answer_0 6 rfl rfl)
theorem dX0_answer_9 : decode cX0_answer 9 = .ok (.iconst 1, 1) := dk_4 (dk_at dksX0_answer_0 9 rfl rfl)
theorem dX0_answer_10 : decode cX0_answer 10 = .ok (.goto 4, 3) := dk_167 0 4 (dk_at dksX0_answer_0 10 rfl rfl)
theorem dX0_answer_13 : decode cX0_answer 13 = .ok (.iconst 0, 1) := dk_3 (dk_at dksX0_answer_0 13 rfl rfl)
theorem dX0_answer_14 : decode cX0_answer 14 = .ok (.iadd, 1) := dk_96 (dk_at dksX0_answer_0 14 rfl rfl)
theorem dX0_answer_15 : decode cX0_answer 15 = .ok (.putfield 125, 3) := dk_181 0 125 (dk_at dksX0_answer_0 15 rfl rfl)
theorem dX0_answer_18 : decode cX0_answer 18 = .ok (.iload_n 1, 1) := dk_27 (dk_at dksX0_answer_0 18 rfl rfl)
theorem dX0_answer_19 : decode cX0_answer 19 = .ok (.ireturn, 1) := dk_172 (dk_at dksX0_answer_0 19 rfl rfl)
abbrev cX0_comes : ByteArray := prog_1_method_15_code
def yX0_comes : MethodName := ⟨RX0, "comes", "(LCodeExchange$Page;)I"⟩
def dkwX0_comes_1 : List UInt8 := [180, 0, 160, 4, 100, 172]
abbrev dktX0_comes_1 : List UInt8 := dkwX0_comes_1 ++ []
def dkwX0_comes_0 : List UInt8 := [42, 180, 0, 38, 42, 180, 0, 160, 50, 43, 181, 0, 128, 42, 89, 180, 0, 160, 4, 96, 181, 0, 160, 42]
abbrev dktX0_comes_0 : List UInt8 := dkwX0_comes_0 ++ dktX0_comes_1
theorem dksX0_comes_0 : cX0_comes.data.toList.drop 0 = dktX0_comes_0 := by decide +kernel
theorem dksX0_comes_1 : cX0_comes.data.toList.drop 24 = dktX0_comes_1 := dk_seg dksX0_comes_0 24 rfl rfl
theorem dX0_comes_0 : decode cX0_comes 0 = .ok (.aload_n 0, 1) := dk_42 (dk_at dksX0_comes_0 0 rfl rfl)
theorem dX0_comes_1 : decode cX0_comes 1 = .ok (.getfield 38, 3) := dk_180 0 38 (dk_at dksX0_comes_0 1 rfl rfl)
theorem dX0_comes_4 : decode cX0_comes 4 = .ok (.aload_n 0, 1) := dk_42 (dk_at dksX0_comes_0 4 rfl rfl)
theorem dX0_comes_5 : decode cX0_comes 5 = .ok (.getfield 160, 3) := dk_180 0 160 (dk_at dksX0_comes_0 5 rfl rfl)
theorem dX0_comes_8 : decode cX0_comes 8 = .ok (.aaload, 1) := dk_50 (dk_at dksX0_comes_0 8 rfl rfl)
theorem dX0_comes_9 : decode cX0_comes 9 = .ok (.aload_n 1, 1) := dk_43 (dk_at dksX0_comes_0 9 rfl rfl)
theorem dX0_comes_10 : decode cX0_comes 10 = .ok (.putfield 128, 3) := dk_181 0 128 (dk_at dksX0_comes_0 10 rfl rfl)
theorem dX0_comes_13 : decode cX0_comes 13 = .ok (.aload_n 0, 1) := dk_42 (dk_at dksX0_comes_0 13 rfl rfl)
theorem dX0_comes_14 : decode cX0_comes 14 = .ok (.dup, 1) := dk_89 (dk_at dksX0_comes_0 14 rfl rfl)
theorem dX0_comes_15 : decode cX0_comes 15 = .ok (.getfield 160, 3) := dk_180 0 160 (dk_at dksX0_comes_0 15 rfl rfl)
theorem dX0_comes_18 : decode cX0_comes 18 = .ok (.iconst 1, 1) := dk_4 (dk_at dksX0_comes_0 18 rfl rfl)
theorem dX0_comes_19 : decode cX0_comes 19 = .ok (.iadd, 1) := dk_96 (dk_at dksX0_comes_0 19 rfl rfl)
theorem dX0_comes_20 : decode cX0_comes 20 = .ok (.putfield 160, 3) := dk_181 0 160 (dk_at dksX0_comes_0 20 rfl rfl)
theorem dX0_comes_23 : decode cX0_comes 23 = .ok (.aload_n 0, 1) := dk_42 (dk_at dksX0_comes_0 23 rfl rfl)
theorem dX0_comes_24 : decode cX0_comes 24 = .ok (.getfield 160, 3) := dk_180 0 160 (dk_at dksX0_comes_1 0 rfl rfl)
theorem dX0_comes_27 : decode cX0_comes 27 = .ok (.iconst 1, 1) := dk_4 (dk_at dksX0_comes_1 3 rfl rfl)
theorem dX0_comes_28 : decode cX0_comes 28 = .ok (.isub, 1) := dk_100 (dk_at dksX0_comes_1 4 rfl rfl)
theorem dX0_comes_29 : decode cX0_comes 29 = .ok (.ireturn, 1) := dk_172 (dk_at dksX0_comes_1 5 rfl rfl)
abbrev cX0_derive : ByteArray := prog_1_method_17_code
def yX0_derive : MethodName := ⟨RX0, "derive", "(I)I"⟩
def dkwX0_derive_2 : List UInt8 := [44, 180, 0, 17, 182, 0, 163, 172]
abbrev dktX0_derive_2 : List UInt8 := dkwX0_derive_2 ++ []
def dkwX0_derive_1 : List UInt8 := [182, 0, 184, 187, 0, 42, 89, 183, 0, 44, 78, 45, 44, 182, 0, 188, 42, 45, 182, 0, 176, 172, 77, 42]
abbrev dktX0_derive_1 : List UInt8 := dkwX0_derive_1 ++ dktX0_derive_2
def dkwX0_derive_0 : List UInt8 := [42, 27, 4, 182, 0, 180, 77, 42, 42, 180, 0, 160, 16, 10, 162, 0, 7, 4, 167, 0, 4, 3, 16, 250]
abbrev dktX0_derive_0 : List UInt8 := dkwX0_derive_0 ++ dktX0_derive_1
theorem dksX0_derive_0 : cX0_derive.data.toList.drop 0 = dktX0_derive_0 := by decide +kernel
theorem dksX0_derive_1 : cX0_derive.data.toList.drop 24 = dktX0_derive_1 := dk_seg dksX0_derive_0 24 rfl rfl
theorem dksX0_derive_2 : cX0_derive.data.toList.drop 48 = dktX0_derive_2 := dk_seg dksX0_derive_1 24 rfl rfl
theorem dX0_derive_0 : decode cX0_derive 0 = .ok (.aload_n 0, 1) := dk_42 (dk_at dksX0_derive_0 0 rfl rfl)
theorem dX0_derive_1 : decode cX0_derive 1 = .ok (.iload_n 1, 1) := dk_27 (dk_at dksX0_derive_0 1 rfl rfl)
theorem dX0_derive_2 : decode cX0_derive 2 = .ok (.iconst 1, 1) := dk_4 (dk_at dksX0_derive_0 2 rfl rfl)
theorem dX0_derive_3 : decode cX0_derive 3 = .ok (.invokevirtual 180, 3) := dk_182 0 180 (dk_at dksX0_derive_0 3 rfl rfl)
theorem dX0_derive_6 : decode cX0_derive 6 = .ok (.astore_n 2, 1) := dk_77 (dk_at dksX0_derive_0 6 rfl rfl)
theorem dX0_derive_7 : decode cX0_derive 7 = .ok (.aload_n 0, 1) := dk_42 (dk_at dksX0_derive_0 7 rfl rfl)
theorem dX0_derive_8 : decode cX0_derive 8 = .ok (.aload_n 0, 1) := dk_42 (dk_at dksX0_derive_0 8 rfl rfl)
theorem dX0_derive_9 : decode cX0_derive 9 = .ok (.getfield 160, 3) := dk_180 0 160 (dk_at dksX0_derive_0 9 rfl rfl)
theorem dX0_derive_12 : decode cX0_derive 12 = .ok (.bipush 10, 2) := dk_16 10 (dk_at dksX0_derive_0 12 rfl rfl)
theorem dX0_derive_14 : decode cX0_derive 14 = .ok (.if_icmp .ge 7, 3) := dk_162 0 7 (dk_at dksX0_derive_0 14 rfl rfl)
theorem dX0_derive_17 : decode cX0_derive 17 = .ok (.iconst 1, 1) := dk_4 (dk_at dksX0_derive_0 17 rfl rfl)
theorem dX0_derive_18 : decode cX0_derive 18 = .ok (.goto 4, 3) := dk_167 0 4 (dk_at dksX0_derive_0 18 rfl rfl)
theorem dX0_derive_21 : decode cX0_derive 21 = .ok (.iconst 0, 1) := dk_3 (dk_at dksX0_derive_0 21 rfl rfl)
theorem dX0_derive_22 : decode cX0_derive 22 = .ok (.bipush (-6), 2) := dk_16 250 (dk_at dksX0_derive_0 22 rfl rfl)
theorem dX0_derive_24 : decode cX0_derive 24 = .ok (.invokevirtual 184, 3) := dk_182 0 184 (dk_at dksX0_derive_1 0 rfl rfl)
theorem dX0_derive_27 : decode cX0_derive 27 = .ok (.new 42, 3) := dk_187 0 42 (dk_at dksX0_derive_1 3 rfl rfl)
theorem dX0_derive_30 : decode cX0_derive 30 = .ok (.dup, 1) := dk_89 (dk_at dksX0_derive_1 6 rfl rfl)
theorem dX0_derive_31 : decode cX0_derive 31 = .ok (.invokespecial 44, 3) := dk_183 0 44 (dk_at dksX0_derive_1 7 rfl rfl)
theorem dX0_derive_34 : decode cX0_derive 34 = .ok (.astore_n 3, 1) := dk_78 (dk_at dksX0_derive_1 10 rfl rfl)
theorem dX0_derive_35 : decode cX0_derive 35 = .ok (.aload_n 3, 1) := dk_45 (dk_at dksX0_derive_1 11 rfl rfl)
theorem dX0_derive_36 : decode cX0_derive 36 = .ok (.aload_n 2, 1) := dk_44 (dk_at dksX0_derive_1 12 rfl rfl)
theorem dX0_derive_37 : decode cX0_derive 37 = .ok (.invokevirtual 188, 3) := dk_182 0 188 (dk_at dksX0_derive_1 13 rfl rfl)
theorem dX0_derive_40 : decode cX0_derive 40 = .ok (.aload_n 0, 1) := dk_42 (dk_at dksX0_derive_1 16 rfl rfl)
theorem dX0_derive_41 : decode cX0_derive 41 = .ok (.aload_n 3, 1) := dk_45 (dk_at dksX0_derive_1 17 rfl rfl)
theorem dX0_derive_42 : decode cX0_derive 42 = .ok (.invokevirtual 176, 3) := dk_182 0 176 (dk_at dksX0_derive_1 18 rfl rfl)
theorem dX0_derive_45 : decode cX0_derive 45 = .ok (.ireturn, 1) := dk_172 (dk_at dksX0_derive_1 21 rfl rfl)
theorem dX0_derive_46 : decode cX0_derive 46 = .ok (.astore_n 2, 1) := dk_77 (dk_at dksX0_derive_1 22 rfl rfl)
theorem dX0_derive_47 : decode cX0_derive 47 = .ok (.aload_n 0, 1) := dk_42 (dk_at dksX0_derive_1 23 rfl rfl)
theorem dX0_derive_48 : decode cX0_derive 48 = .ok (.aload_n 2, 1) := dk_44 (dk_at dksX0_derive_2 0 rfl rfl)
theorem dX0_derive_49 : decode cX0_derive 49 = .ok (.getfield 17, 3) := dk_180 0 17 (dk_at dksX0_derive_2 1 rfl rfl)
theorem dX0_derive_52 : decode cX0_derive 52 = .ok (.invokevirtual 163, 3) := dk_182 0 163 (dk_at dksX0_derive_2 4 rfl rfl)
theorem dX0_derive_55 : decode cX0_derive 55 = .ok (.ireturn, 1) := dk_172 (dk_at dksX0_derive_2 7 rfl rfl)
abbrev cX0_tableAt : ByteArray := prog_1_method_11_code
def yX0_tableAt : MethodName := ⟨RX0, "tableAt", "(II)LCodeExchange$Table;"⟩
def dkwX0_tableAt_3 : List UInt8 := [182, 0, 140, 191, 25, 4, 176]
abbrev dktX0_tableAt_3 : List UInt8 := dkwX0_tableAt_3 ++ []
def dkwX0_tableAt_2 : List UInt8 := [153, 0, 10, 42, 16, 252, 182, 0, 140, 191, 28, 4, 160, 0, 15, 21, 5, 154, 0, 10, 42, 16, 251]
abbrev dktX0_tableAt_2 : List UInt8 := dkwX0_tableAt_2 ++ dktX0_tableAt_3
def dkwX0_tableAt_1 : List UInt8 := [25, 4, 180, 0, 144, 54, 5, 167, 0, 11, 58, 6, 42, 2, 182, 0, 140, 191, 28, 154, 0, 15, 21, 5]
abbrev dktX0_tableAt_1 : List UInt8 := dkwX0_tableAt_1 ++ dktX0_tableAt_2
def dkwX0_tableAt_0 : List UInt8 := [42, 27, 182, 0, 134, 78, 45, 192, 0, 42, 58, 4, 167, 0, 12, 58, 6, 42, 16, 253, 182, 0, 140, 191]
abbrev dktX0_tableAt_0 : List UInt8 := dkwX0_tableAt_0 ++ dktX0_tableAt_1
theorem dksX0_tableAt_0 : cX0_tableAt.data.toList.drop 0 = dktX0_tableAt_0 := by decide +kernel
theorem dksX0_tableAt_1 : cX0_tableAt.data.toList.drop 24 = dktX0_tableAt_1 := dk_seg dksX0_tableAt_0 24 rfl rfl
theorem dksX0_tableAt_2 : cX0_tableAt.data.toList.drop 48 = dktX0_tableAt_2 := dk_seg dksX0_tableAt_1 24 rfl rfl
theorem dksX0_tableAt_3 : cX0_tableAt.data.toList.drop 71 = dktX0_tableAt_3 := dk_seg dksX0_tableAt_2 23 rfl rfl
theorem dX0_tableAt_0 : decode cX0_tableAt 0 = .ok (.aload_n 0, 1) := dk_42 (dk_at dksX0_tableAt_0 0 rfl rfl)
theorem dX0_tableAt_1 : decode cX0_tableAt 1 = .ok (.iload_n 1, 1) := dk_27 (dk_at dksX0_tableAt_0 1 rfl rfl)
theorem dX0_tableAt_2 : decode cX0_tableAt 2 = .ok (.invokevirtual 134, 3) := dk_182 0 134 (dk_at dksX0_tableAt_0 2 rfl rfl)
theorem dX0_tableAt_5 : decode cX0_tableAt 5 = .ok (.astore_n 3, 1) := dk_78 (dk_at dksX0_tableAt_0 5 rfl rfl)
theorem dX0_tableAt_6 : decode cX0_tableAt 6 = .ok (.aload_n 3, 1) := dk_45 (dk_at dksX0_tableAt_0 6 rfl rfl)
theorem dX0_tableAt_7 : decode cX0_tableAt 7 = .ok (.checkcast 42, 3) := dk_192 0 42 (dk_at dksX0_tableAt_0 7 rfl rfl)
theorem dX0_tableAt_10 : decode cX0_tableAt 10 = .ok (.astore 4, 2) := dk_58 4 (dk_at dksX0_tableAt_0 10 rfl rfl)
theorem dX0_tableAt_12 : decode cX0_tableAt 12 = .ok (.goto 12, 3) := dk_167 0 12 (dk_at dksX0_tableAt_0 12 rfl rfl)
theorem dX0_tableAt_15 : decode cX0_tableAt 15 = .ok (.astore 6, 2) := dk_58 6 (dk_at dksX0_tableAt_0 15 rfl rfl)
theorem dX0_tableAt_17 : decode cX0_tableAt 17 = .ok (.aload_n 0, 1) := dk_42 (dk_at dksX0_tableAt_0 17 rfl rfl)
theorem dX0_tableAt_18 : decode cX0_tableAt 18 = .ok (.bipush (-3), 2) := dk_16 253 (dk_at dksX0_tableAt_0 18 rfl rfl)
theorem dX0_tableAt_20 : decode cX0_tableAt 20 = .ok (.invokevirtual 140, 3) := dk_182 0 140 (dk_at dksX0_tableAt_0 20 rfl rfl)
theorem dX0_tableAt_23 : decode cX0_tableAt 23 = .ok (.athrow, 1) := dk_191 (dk_at dksX0_tableAt_0 23 rfl rfl)
theorem dX0_tableAt_24 : decode cX0_tableAt 24 = .ok (.aload 4, 2) := dk_25 4 (dk_at dksX0_tableAt_1 0 rfl rfl)
theorem dX0_tableAt_26 : decode cX0_tableAt 26 = .ok (.getfield 144, 3) := dk_180 0 144 (dk_at dksX0_tableAt_1 2 rfl rfl)
theorem dX0_tableAt_29 : decode cX0_tableAt 29 = .ok (.istore 5, 2) := dk_54 5 (dk_at dksX0_tableAt_1 5 rfl rfl)
theorem dX0_tableAt_31 : decode cX0_tableAt 31 = .ok (.goto 11, 3) := dk_167 0 11 (dk_at dksX0_tableAt_1 7 rfl rfl)
theorem dX0_tableAt_34 : decode cX0_tableAt 34 = .ok (.astore 6, 2) := dk_58 6 (dk_at dksX0_tableAt_1 10 rfl rfl)
theorem dX0_tableAt_36 : decode cX0_tableAt 36 = .ok (.aload_n 0, 1) := dk_42 (dk_at dksX0_tableAt_1 12 rfl rfl)
theorem dX0_tableAt_37 : decode cX0_tableAt 37 = .ok (.iconst (-1), 1) := dk_2 (dk_at dksX0_tableAt_1 13 rfl rfl)
theorem dX0_tableAt_38 : decode cX0_tableAt 38 = .ok (.invokevirtual 140, 3) := dk_182 0 140 (dk_at dksX0_tableAt_1 14 rfl rfl)
theorem dX0_tableAt_41 : decode cX0_tableAt 41 = .ok (.athrow, 1) := dk_191 (dk_at dksX0_tableAt_1 17 rfl rfl)
theorem dX0_tableAt_42 : decode cX0_tableAt 42 = .ok (.iload_n 2, 1) := dk_28 (dk_at dksX0_tableAt_1 18 rfl rfl)
theorem dX0_tableAt_43 : decode cX0_tableAt 43 = .ok (.ifCond .ne 15, 3) := dk_154 0 15 (dk_at dksX0_tableAt_1 19 rfl rfl)
theorem dX0_tableAt_46 : decode cX0_tableAt 46 = .ok (.iload 5, 2) := dk_21 5 (dk_at dksX0_tableAt_1 22 rfl rfl)
theorem dX0_tableAt_48 : decode cX0_tableAt 48 = .ok (.ifCond .eq 10, 3) := dk_153 0 10 (dk_at dksX0_tableAt_2 0 rfl rfl)
theorem dX0_tableAt_51 : decode cX0_tableAt 51 = .ok (.aload_n 0, 1) := dk_42 (dk_at dksX0_tableAt_2 3 rfl rfl)
theorem dX0_tableAt_52 : decode cX0_tableAt 52 = .ok (.bipush (-4), 2) := dk_16 252 (dk_at dksX0_tableAt_2 4 rfl rfl)
theorem dX0_tableAt_54 : decode cX0_tableAt 54 = .ok (.invokevirtual 140, 3) := dk_182 0 140 (dk_at dksX0_tableAt_2 6 rfl rfl)
theorem dX0_tableAt_57 : decode cX0_tableAt 57 = .ok (.athrow, 1) := dk_191 (dk_at dksX0_tableAt_2 9 rfl rfl)
theorem dX0_tableAt_58 : decode cX0_tableAt 58 = .ok (.iload_n 2, 1) := dk_28 (dk_at dksX0_tableAt_2 10 rfl rfl)
theorem dX0_tableAt_59 : decode cX0_tableAt 59 = .ok (.iconst 1, 1) := dk_4 (dk_at dksX0_tableAt_2 11 rfl rfl)
theorem dX0_tableAt_60 : decode cX0_tableAt 60 = .ok (.if_icmp .ne 15, 3) := dk_160 0 15 (dk_at dksX0_tableAt_2 12 rfl rfl)
theorem dX0_tableAt_63 : decode cX0_tableAt 63 = .ok (.iload 5, 2) := dk_21 5 (dk_at dksX0_tableAt_2 15 rfl rfl)
theorem dX0_tableAt_65 : decode cX0_tableAt 65 = .ok (.ifCond .ne 10, 3) := dk_154 0 10 (dk_at dksX0_tableAt_2 17 rfl rfl)
theorem dX0_tableAt_68 : decode cX0_tableAt 68 = .ok (.aload_n 0, 1) := dk_42 (dk_at dksX0_tableAt_2 20 rfl rfl)
theorem dX0_tableAt_69 : decode cX0_tableAt 69 = .ok (.bipush (-5), 2) := dk_16 251 (dk_at dksX0_tableAt_2 21 rfl rfl)
theorem dX0_tableAt_71 : decode cX0_tableAt 71 = .ok (.invokevirtual 140, 3) := dk_182 0 140 (dk_at dksX0_tableAt_3 0 rfl rfl)
theorem dX0_tableAt_74 : decode cX0_tableAt 74 = .ok (.athrow, 1) := dk_191 (dk_at dksX0_tableAt_3 3 rfl rfl)
theorem dX0_tableAt_75 : decode cX0_tableAt 75 = .ok (.aload 4, 2) := dk_25 4 (dk_at dksX0_tableAt_3 4 rfl rfl)
theorem dX0_tableAt_77 : decode cX0_tableAt 77 = .ok (.areturn, 1) := dk_176 (dk_at dksX0_tableAt_3 6 rfl rfl)
abbrev cX0_thingAt : ByteArray := prog_1_method_10_code
def yX0_thingAt : MethodName := ⟨RX0, "thingAt", "(I)Ljava/lang/Object;"⟩
def dkwX0_thingAt_0 : List UInt8 := [42, 180, 0, 38, 27, 50, 180, 0, 128, 176, 77, 1, 176]
abbrev dktX0_thingAt_0 : List UInt8 := dkwX0_thingAt_0 ++ []
theorem dksX0_thingAt_0 : cX0_thingAt.data.toList.drop 0 = dktX0_thingAt_0 := by decide +kernel
theorem dX0_thingAt_0 : decode cX0_thingAt 0 = .ok (.aload_n 0, 1) := dk_42 (dk_at dksX0_thingAt_0 0 rfl rfl)
theorem dX0_thingAt_1 : decode cX0_thingAt 1 = .ok (.getfield 38, 3) := dk_180 0 38 (dk_at dksX0_thingAt_0 1 rfl rfl)
theorem dX0_thingAt_4 : decode cX0_thingAt 4 = .ok (.iload_n 1, 1) := dk_27 (dk_at dksX0_thingAt_0 4 rfl rfl)
theorem dX0_thingAt_5 : decode cX0_thingAt 5 = .ok (.aaload, 1) := dk_50 (dk_at dksX0_thingAt_0 5 rfl rfl)
theorem dX0_thingAt_6 : decode cX0_thingAt 6 = .ok (.getfield 128, 3) := dk_180 0 128 (dk_at dksX0_thingAt_0 6 rfl rfl)
theorem dX0_thingAt_9 : decode cX0_thingAt 9 = .ok (.areturn, 1) := dk_176 (dk_at dksX0_thingAt_0 9 rfl rfl)
theorem dX0_thingAt_10 : decode cX0_thingAt 10 = .ok (.astore_n 2, 1) := dk_77 (dk_at dksX0_thingAt_0 10 rfl rfl)
theorem dX0_thingAt_11 : decode cX0_thingAt 11 = .ok (.aconst_null, 1) := dk_1 (dk_at dksX0_thingAt_0 11 rfl rfl)
theorem dX0_thingAt_12 : decode cX0_thingAt 12 = .ok (.areturn, 1) := dk_176 (dk_at dksX0_thingAt_0 12 rfl rfl)
abbrev cX0_refused : ByteArray := prog_1_method_6_code
def yX0_refused : MethodName := ⟨RX0, "refused", "(I)LCodeExchange$Refusal;"⟩
def dkwX0_refused_0 : List UInt8 := [42, 180, 0, 13, 27, 181, 0, 17, 42, 180, 0, 13, 176]
abbrev dktX0_refused_0 : List UInt8 := dkwX0_refused_0 ++ []
theorem dksX0_refused_0 : cX0_refused.data.toList.drop 0 = dktX0_refused_0 := by decide +kernel
theorem dX0_refused_0 : decode cX0_refused 0 = .ok (.aload_n 0, 1) := dk_42 (dk_at dksX0_refused_0 0 rfl rfl)
theorem dX0_refused_1 : decode cX0_refused 1 = .ok (.getfield 13, 3) := dk_180 0 13 (dk_at dksX0_refused_0 1 rfl rfl)
theorem dX0_refused_4 : decode cX0_refused 4 = .ok (.iload_n 1, 1) := dk_27 (dk_at dksX0_refused_0 4 rfl rfl)
theorem dX0_refused_5 : decode cX0_refused 5 = .ok (.putfield 17, 3) := dk_181 0 17 (dk_at dksX0_refused_0 5 rfl rfl)
theorem dX0_refused_8 : decode cX0_refused 8 = .ok (.aload_n 0, 1) := dk_42 (dk_at dksX0_refused_0 8 rfl rfl)
theorem dX0_refused_9 : decode cX0_refused 9 = .ok (.getfield 13, 3) := dk_180 0 13 (dk_at dksX0_refused_0 9 rfl rfl)
theorem dX0_refused_12 : decode cX0_refused 12 = .ok (.areturn, 1) := dk_176 (dk_at dksX0_refused_0 12 rfl rfl)
abbrev cX0_need : ByteArray := prog_1_method_14_code
def yX0_need : MethodName := ⟨RX0, "need", "(ZI)V"⟩
def dkwX0_need_0 : List UInt8 := [27, 154, 0, 9, 42, 28, 182, 0, 140, 191, 177]
abbrev dktX0_need_0 : List UInt8 := dkwX0_need_0 ++ []
theorem dksX0_need_0 : cX0_need.data.toList.drop 0 = dktX0_need_0 := by decide +kernel
theorem dX0_need_0 : decode cX0_need 0 = .ok (.iload_n 1, 1) := dk_27 (dk_at dksX0_need_0 0 rfl rfl)
theorem dX0_need_1 : decode cX0_need 1 = .ok (.ifCond .ne 9, 3) := dk_154 0 9 (dk_at dksX0_need_0 1 rfl rfl)
theorem dX0_need_4 : decode cX0_need 4 = .ok (.aload_n 0, 1) := dk_42 (dk_at dksX0_need_0 4 rfl rfl)
theorem dX0_need_5 : decode cX0_need 5 = .ok (.iload_n 2, 1) := dk_28 (dk_at dksX0_need_0 5 rfl rfl)
theorem dX0_need_6 : decode cX0_need 6 = .ok (.invokevirtual 140, 3) := dk_182 0 140 (dk_at dksX0_need_0 6 rfl rfl)
theorem dX0_need_9 : decode cX0_need 9 = .ok (.athrow, 1) := dk_191 (dk_at dksX0_need_0 9 rfl rfl)
theorem dX0_need_10 : decode cX0_need 10 = .ok (.return_, 1) := dk_177 (dk_at dksX0_need_0 10 rfl rfl)
abbrev cX0_entry : ByteArray := prog_1_method_19_code
def yX0_entry : MethodName := ⟨RX0, "entry", "(IIIII)I"⟩
def dkwX0_entry_7 : List UInt8 := [182, 0, 163, 172]
abbrev dktX0_entry_7 : List UInt8 := dkwX0_entry_7 ++ []
def dkwX0_entry_6 : List UInt8 := [182, 0, 206, 21, 9, 153, 0, 7, 4, 167, 0, 4, 3, 172, 58, 6, 42, 25, 6, 180, 0, 17]
abbrev dktX0_entry_6 : List UInt8 := dkwX0_entry_6 ++ dktX0_entry_7
def dkwX0_entry_5 : List UInt8 := [96, 181, 0, 203, 25, 6, 21, 8, 28, 29, 21, 4, 21, 7, 21, 5, 155, 0, 7, 4, 167, 0, 4, 3]
abbrev dktX0_entry_5 : List UInt8 := dkwX0_entry_5 ++ dktX0_entry_6
def dkwX0_entry_4 : List UInt8 := [16, 250, 182, 0, 184, 21, 9, 154, 0, 21, 25, 6, 180, 0, 203, 54, 8, 25, 6, 89, 180, 0, 203, 4]
abbrev dktX0_entry_4 : List UInt8 := dkwX0_entry_4 ++ dktX0_entry_5
def dkwX0_entry_3 : List UInt8 := [3, 54, 9, 42, 21, 9, 154, 0, 13, 25, 6, 180, 0, 203, 16, 100, 162, 0, 7, 4, 167, 0, 4, 3]
abbrev dktX0_entry_3 : List UInt8 := dkwX0_entry_3 ++ dktX0_entry_4
def dkwX0_entry_2 : List UInt8 := [2, 182, 0, 184, 25, 6, 28, 29, 21, 4, 182, 0, 199, 54, 8, 21, 8, 155, 0, 7, 4, 167, 0, 4]
abbrev dktX0_entry_2 : List UInt8 := dkwX0_entry_2 ++ dktX0_entry_3
def dkwX0_entry_1 : List UInt8 := [42, 28, 29, 21, 4, 184, 0, 192, 153, 0, 15, 21, 7, 184, 0, 195, 153, 0, 7, 4, 167, 0, 4, 3]
abbrev dktX0_entry_1 : List UInt8 := dkwX0_entry_1 ++ dktX0_entry_2
def dkwX0_entry_0 : List UInt8 := [42, 27, 3, 182, 0, 180, 58, 6, 21, 5, 156, 0, 10, 2, 21, 5, 100, 167, 0, 5, 21, 5, 54, 7]
abbrev dktX0_entry_0 : List UInt8 := dkwX0_entry_0 ++ dktX0_entry_1
theorem dksX0_entry_0 : cX0_entry.data.toList.drop 0 = dktX0_entry_0 := by decide +kernel
theorem dksX0_entry_1 : cX0_entry.data.toList.drop 24 = dktX0_entry_1 := dk_seg dksX0_entry_0 24 rfl rfl
theorem dksX0_entry_2 : cX0_entry.data.toList.drop 48 = dktX0_entry_2 := dk_seg dksX0_entry_1 24 rfl rfl
theorem dksX0_entry_3 : cX0_entry.data.toList.drop 72 = dktX0_entry_3 := dk_seg dksX0_entry_2 24 rfl rfl
theorem dksX0_entry_4 : cX0_entry.data.toList.drop 96 = dktX0_entry_4 := dk_seg dksX0_entry_3 24 rfl rfl
theorem dksX0_entry_5 : cX0_entry.data.toList.drop 120 = dktX0_entry_5 := dk_seg dksX0_entry_4 24 rfl rfl
theorem dksX0_entry_6 : cX0_entry.data.toList.drop 144 = dktX0_entry_6 := dk_seg dksX0_entry_5 24 rfl rfl
theorem dksX0_entry_7 : cX0_entry.data.toList.drop 166 = dktX0_entry_7 := dk_seg dksX0_entry_6 22 rfl rfl
theorem dX0_entry_0 : decode cX0_entry 0 = .ok (.aload_n 0, 1) := dk_42 (dk_at dksX0_entry_0 0 rfl rfl)
theorem dX0_entry_1 : decode cX0_entry 1 = .ok (.iload_n 1, 1) := dk_27 (dk_at dksX0_entry_0 1 rfl rfl)
theorem dX0_entry_2 : decode cX0_entry 2 = .ok (.iconst 0, 1) := dk_3 (dk_at dksX0_entry_0 2 rfl rfl)
theorem dX0_entry_3 : decode cX0_entry 3 = .ok (.invokevirtual 180, 3) := dk_182 0 180 (dk_at dksX0_entry_0 3 rfl rfl)
theorem dX0_entry_6 : decode cX0_entry 6 = .ok (.astore 6, 2) := dk_58 6 (dk_at dksX0_entry_0 6 rfl rfl)
theorem dX0_entry_8 : decode cX0_entry 8 = .ok (.iload 5, 2) := dk_21 5 (dk_at dksX0_entry_0 8 rfl rfl)
theorem dX0_entry_10 : decode cX0_entry 10 = .ok (.ifCond .ge 10, 3) := dk_156 0 10 (dk_at dksX0_entry_0 10 rfl rfl)
theorem dX0_entry_13 : decode cX0_entry 13 = .ok (.iconst (-1), 1) := dk_2 (dk_at dksX0_entry_0 13 rfl rfl)
theorem dX0_entry_14 : decode cX0_entry 14 = .ok (.iload 5, 2) := dk_21 5 (dk_at dksX0_entry_0 14 rfl rfl)
theorem dX0_entry_16 : decode cX0_entry 16 = .ok (.isub, 1) := dk_100 (dk_at dksX0_entry_0 16 rfl rfl)
theorem dX0_entry_17 : decode cX0_entry 17 = .ok (.goto 5, 3) := dk_167 0 5 (dk_at dksX0_entry_0 17 rfl rfl)
theorem dX0_entry_20 : decode cX0_entry 20 = .ok (.iload 5, 2) := dk_21 5 (dk_at dksX0_entry_0 20 rfl rfl)
theorem dX0_entry_22 : decode cX0_entry 22 = .ok (.istore 7, 2) := dk_54 7 (dk_at dksX0_entry_0 22 rfl rfl)
theorem dX0_entry_24 : decode cX0_entry 24 = .ok (.aload_n 0, 1) := dk_42 (dk_at dksX0_entry_1 0 rfl rfl)
theorem dX0_entry_25 : decode cX0_entry 25 = .ok (.iload_n 2, 1) := dk_28 (dk_at dksX0_entry_1 1 rfl rfl)
theorem dX0_entry_26 : decode cX0_entry 26 = .ok (.iload_n 3, 1) := dk_29 (dk_at dksX0_entry_1 2 rfl rfl)
theorem dX0_entry_27 : decode cX0_entry 27 = .ok (.iload 4, 2) := dk_21 4 (dk_at dksX0_entry_1 3 rfl rfl)
theorem dX0_entry_29 : decode cX0_entry 29 = .ok (.invokestatic 192, 3) := dk_184 0 192 (dk_at dksX0_entry_1 5 rfl rfl)
theorem dX0_entry_32 : decode cX0_entry 32 = .ok (.ifCond .eq 15, 3) := dk_153 0 15 (dk_at dksX0_entry_1 8 rfl rfl)
theorem dX0_entry_35 : decode cX0_entry 35 = .ok (.iload 7, 2) := dk_21 7 (dk_at dksX0_entry_1 11 rfl rfl)
theorem dX0_entry_37 : decode cX0_entry 37 = .ok (.invokestatic 195, 3) := dk_184 0 195 (dk_at dksX0_entry_1 13 rfl rfl)
theorem dX0_entry_40 : decode cX0_entry 40 = .ok (.ifCond .eq 7, 3) := dk_153 0 7 (dk_at dksX0_entry_1 16 rfl rfl)
theorem dX0_entry_43 : decode cX0_entry 43 = .ok (.iconst 1, 1) := dk_4 (dk_at dksX0_entry_1 19 rfl rfl)
theorem dX0_entry_44 : decode cX0_entry 44 = .ok (.goto 4, 3) := dk_167 0 4 (dk_at dksX0_entry_1 20 rfl rfl)
theorem dX0_entry_47 : decode cX0_entry 47 = .ok (.iconst 0, 1) := dk_3 (dk_at dksX0_entry_1 23 rfl rfl)
theorem dX0_entry_48 : decode cX0_entry 48 = .ok (.iconst (-1), 1) := dk_2 (dk_at dksX0_entry_2 0 rfl rfl)
theorem dX0_entry_49 : decode cX0_entry 49 = .ok (.invokevirtual 184, 3) := dk_182 0 184 (dk_at dksX0_entry_2 1 rfl rfl)
theorem dX0_entry_52 : decode cX0_entry 52 = .ok (.aload 6, 2) := dk_25 6 (dk_at dksX0_entry_2 4 rfl rfl)
theorem dX0_entry_54 : decode cX0_entry 54 = .ok (.iload_n 2, 1) := dk_28 (dk_at dksX0_entry_2 6 rfl rfl)
theorem dX0_entry_55 : decode cX0_entry 55 = .ok (.iload_n 3, 1) := dk_29 (dk_at dksX0_entry_2 7 rfl rfl)
theorem dX0_entry_56 : decode cX0_entry 56 = .ok (.iload 4, 2) := dk_21 4 (dk_at dksX0_entry_2 8 rfl rfl)
theorem dX0_entry_58 : decode cX0_entry 58 = .ok (.invokevirtual 199, 3) := dk_182 0 199 (dk_at dksX0_entry_2 10 rfl rfl)
theorem dX0_entry_61 : decode cX0_entry 61 = .ok (.istore 8, 2) := dk_54 8 (dk_at dksX0_entry_2 13 rfl rfl)
theorem dX0_entry_63 : decode cX0_entry 63 = .ok (.iload 8, 2) := dk_21 8 (dk_at dksX0_entry_2 15 rfl rfl)
theorem dX0_entry_65 : decode cX0_entry 65 = .ok (.ifCond .lt 7, 3) := dk_155 0 7 (dk_at dksX0_entry_2 17 rfl rfl)
theorem dX0_entry_68 : decode cX0_entry 68 = .ok (.iconst 1, 1) := dk_4 (dk_at dksX0_entry_2 20 rfl rfl)
theorem dX0_entry_69 : decode cX0_entry 69 = .ok (.goto 4, 3) := dk_167 0 4 (dk_at dksX0_entry_2 21 rfl rfl)
theorem dX0_entry_72 : decode cX0_entry 72 = .ok (.iconst 0, 1) := dk_3 (dk_at dksX0_entry_3 0 rfl rfl)
theorem dX0_entry_73 : decode cX0_entry 73 = .ok (.istore 9, 2) := dk_54 9 (dk_at dksX0_entry_3 1 rfl rfl)
theorem dX0_entry_75 : decode cX0_entry 75 = .ok (.aload_n 0, 1) := dk_42 (dk_at dksX0_entry_3 3 rfl rfl)
theorem dX0_entry_76 : decode cX0_entry 76 = .ok (.iload 9, 2) := dk_21 9 (dk_at dksX0_entry_3 4 rfl rfl)
theorem dX0_entry_78 : decode cX0_entry 78 = .ok (.ifCond .ne 13, 3) := dk_154 0 13 (dk_at dksX0_entry_3 6 rfl rfl)
theorem dX0_entry_81 : decode cX0_entry 81 = .ok (.aload 6, 2) := dk_25 6 (dk_at dksX0_entry_3 9 rfl rfl)
theorem dX0_entry_83 : decode cX0_entry 83 = .ok (.getfield 203, 3) := dk_180 0 203 (dk_at dksX0_entry_3 11 rfl rfl)
theorem dX0_entry_86 : decode cX0_entry 86 = .ok (.bipush 100, 2) := dk_16 100 (dk_at dksX0_entry_3 14 rfl rfl)
theorem dX0_entry_88 : decode cX0_entry 88 = .ok (.if_icmp .ge 7, 3) := dk_162 0 7 (dk_at dksX0_entry_3 16 rfl rfl)
theorem dX0_entry_91 : decode cX0_entry 91 = .ok (.iconst 1, 1) := dk_4 (dk_at dksX0_entry_3 19 rfl rfl)
theorem dX0_entry_92 : decode cX0_entry 92 = .ok (.goto 4, 3) := dk_167 0 4 (dk_at dksX0_entry_3 20 rfl rfl)
theorem dX0_entry_95 : decode cX0_entry 95 = .ok (.iconst 0, 1) := dk_3 (dk_at dksX0_entry_3 23 rfl rfl)
theorem dX0_entry_96 : decode cX0_entry 96 = .ok (.bipush (-6), 2) := dk_16 250 (dk_at dksX0_entry_4 0 rfl rfl)
theorem dX0_entry_98 : decode cX0_entry 98 = .ok (.invokevirtual 184, 3) := dk_182 0 184 (dk_at dksX0_entry_4 2 rfl rfl)
theorem dX0_entry_101 : decode cX0_entry 101 = .ok (.iload 9, 2) := dk_21 9 (dk_at dksX0_entry_4 5 rfl rfl)
theorem dX0_entry_103 : decode cX0_entry 103 = .ok (.ifCond .ne 21, 3) := dk_154 0 21 (dk_at dksX0_entry_4 7 rfl rfl)
theorem dX0_entry_106 : decode cX0_entry 106 = .ok (.aload 6, 2) := dk_25 6 (dk_at dksX0_entry_4 10 rfl rfl)
theorem dX0_entry_108 : decode cX0_entry 108 = .ok (.getfield 203, 3) := dk_180 0 203 (dk_at dksX0_entry_4 12 rfl rfl)
theorem dX0_entry_111 : decode cX0_entry 111 = .ok (.istore 8, 2) := dk_54 8 (dk_at dksX0_entry_4 15 rfl rfl)
theorem dX0_entry_113 : decode cX0_entry 113 = .ok (.aload 6, 2) := dk_25 6 (dk_at dksX0_entry_4 17 rfl rfl)
theorem dX0_entry_115 : decode cX0_entry 115 = .ok (.dup, 1) := dk_89 (dk_at dksX0_entry_4 19 rfl rfl)
theorem dX0_entry_116 : decode cX0_entry 116 = .ok (.getfield 203, 3) := dk_180 0 203 (dk_at dksX0_entry_4 20 rfl rfl)
theorem dX0_entry_119 : decode cX0_entry 119 = .ok (.iconst 1, 1) := dk_4 (dk_at dksX0_entry_4 23 rfl rfl)
theorem dX0_entry_120 : decode cX0_entry 120 = .ok (.iadd, 1) := dk_96 (dk_at dksX0_entry_5 0 rfl rfl)
theorem dX0_entry_121 : decode cX0_entry 121 = .ok (.putfield 203, 3) := dk_181 0 203 (dk_at dksX0_entry_5 1 rfl rfl)
theorem dX0_entry_124 : decode cX0_entry 124 = .ok (.aload 6, 2) := dk_25 6 (dk_at dksX0_entry_5 4 rfl rfl)
theorem dX0_entry_126 : decode cX0_entry 126 = .ok (.iload 8, 2) := dk_21 8 (dk_at dksX0_entry_5 6 rfl rfl)
theorem dX0_entry_128 : decode cX0_entry 128 = .ok (.iload_n 2, 1) := dk_28 (dk_at dksX0_entry_5 8 rfl rfl)
theorem dX0_entry_129 : decode cX0_entry 129 = .ok (.iload_n 3, 1) := dk_29 (dk_at dksX0_entry_5 9 rfl rfl)
theorem dX0_entry_130 : decode cX0_entry 130 = .ok (.iload 4, 2) := dk_21 4 (dk_at dksX0_entry_5 10 rfl rfl)
theorem dX0_entry_132 : decode cX0_entry 132 = .ok (.iload 7, 2) := dk_21 7 (dk_at dksX0_entry_5 12 rfl rfl)
theorem dX0_entry_134 : decode cX0_entry 134 = .ok (.iload 5, 2) := dk_21 5 (dk_at dksX0_entry_5 14 rfl rfl)
theorem dX0_entry_136 : decode cX0_entry 136 = .ok (.ifCond .lt 7, 3) := dk_155 0 7 (dk_at dksX0_entry_5 16 rfl rfl)
theorem dX0_entry_139 : decode cX0_entry 139 = .ok (.iconst 1, 1) := dk_4 (dk_at dksX0_entry_5 19 rfl rfl)
theorem dX0_entry_140 : decode cX0_entry 140 = .ok (.goto 4, 3) := dk_167 0 4 (dk_at dksX0_entry_5 20 rfl rfl)
theorem dX0_entry_143 : decode cX0_entry 143 = .ok (.iconst 0, 1) := dk_3 (dk_at dksX0_entry_5 23 rfl rfl)
theorem dX0_entry_144 : decode cX0_entry 144 = .ok (.invokevirtual 206, 3) := dk_182 0 206 (dk_at dksX0_entry_6 0 rfl rfl)
theorem dX0_entry_147 : decode cX0_entry 147 = .ok (.iload 9, 2) := dk_21 9 (dk_at dksX0_entry_6 3 rfl rfl)
theorem dX0_entry_149 : decode cX0_entry 149 = .ok (.ifCond .eq 7, 3) := dk_153 0 7 (dk_at dksX0_entry_6 5 rfl rfl)
theorem dX0_entry_152 : decode cX0_entry 152 = .ok (.iconst 1, 1) := dk_4 (dk_at dksX0_entry_6 8 rfl rfl)
theorem dX0_entry_153 : decode cX0_entry 153 = .ok (.goto 4, 3) := dk_167 0 4 (dk_at dksX0_entry_6 9 rfl rfl)
theorem dX0_entry_156 : decode cX0_entry 156 = .ok (.iconst 0, 1) := dk_3 (dk_at dksX0_entry_6 12 rfl rfl)
theorem dX0_entry_157 : decode cX0_entry 157 = .ok (.ireturn, 1) := dk_172 (dk_at dksX0_entry_6 13 rfl rfl)
theorem dX0_entry_158 : decode cX0_entry 158 = .ok (.astore 6, 2) := dk_58 6 (dk_at dksX0_entry_6 14 rfl rfl)
theorem dX0_entry_160 : decode cX0_entry 160 = .ok (.aload_n 0, 1) := dk_42 (dk_at dksX0_entry_6 16 rfl rfl)
theorem dX0_entry_161 : decode cX0_entry 161 = .ok (.aload 6, 2) := dk_25 6 (dk_at dksX0_entry_6 17 rfl rfl)
theorem dX0_entry_163 : decode cX0_entry 163 = .ok (.getfield 17, 3) := dk_180 0 17 (dk_at dksX0_entry_6 19 rfl rfl)
theorem dX0_entry_166 : decode cX0_entry 166 = .ok (.invokevirtual 163, 3) := dk_182 0 163 (dk_at dksX0_entry_7 0 rfl rfl)
theorem dX0_entry_169 : decode cX0_entry 169 = .ok (.ireturn, 1) := dk_172 (dk_at dksX0_entry_7 3 rfl rfl)
abbrev cX0_isText : ByteArray := prog_1_method_18_code
def yX0_isText : MethodName := ⟨RX0, "isText", "(III)Z"⟩
def dkwX0_isText_1 : List UInt8 := [104, 120, 4, 100, 184, 0, 4, 153, 0, 7, 4, 167, 0, 4, 3, 172]
abbrev dktX0_isText_1 : List UInt8 := dkwX0_isText_1 ++ []
def dkwX0_isText_0 : List UInt8 := [26, 3, 6, 184, 0, 4, 153, 0, 32, 28, 4, 6, 184, 0, 4, 153, 0, 23, 27, 3, 4, 16, 8, 28]
abbrev dktX0_isText_0 : List UInt8 := dkwX0_isText_0 ++ dktX0_isText_1
theorem dksX0_isText_0 : cX0_isText.data.toList.drop 0 = dktX0_isText_0 := by decide +kernel
theorem dksX0_isText_1 : cX0_isText.data.toList.drop 24 = dktX0_isText_1 := dk_seg dksX0_isText_0 24 rfl rfl
theorem dX0_isText_0 : decode cX0_isText 0 = .ok (.iload_n 0, 1) := dk_26 (dk_at dksX0_isText_0 0 rfl rfl)
theorem dX0_isText_1 : decode cX0_isText 1 = .ok (.iconst 0, 1) := dk_3 (dk_at dksX0_isText_0 1 rfl rfl)
theorem dX0_isText_2 : decode cX0_isText 2 = .ok (.iconst 3, 1) := dk_6 (dk_at dksX0_isText_0 2 rfl rfl)
theorem dX0_isText_3 : decode cX0_isText 3 = .ok (.invokestatic 4, 3) := dk_184 0 4 (dk_at dksX0_isText_0 3 rfl rfl)
theorem dX0_isText_6 : decode cX0_isText 6 = .ok (.ifCond .eq 32, 3) := dk_153 0 32 (dk_at dksX0_isText_0 6 rfl rfl)
theorem dX0_isText_9 : decode cX0_isText 9 = .ok (.iload_n 2, 1) := dk_28 (dk_at dksX0_isText_0 9 rfl rfl)
theorem dX0_isText_10 : decode cX0_isText 10 = .ok (.iconst 1, 1) := dk_4 (dk_at dksX0_isText_0 10 rfl rfl)
theorem dX0_isText_11 : decode cX0_isText 11 = .ok (.iconst 3, 1) := dk_6 (dk_at dksX0_isText_0 11 rfl rfl)
theorem dX0_isText_12 : decode cX0_isText 12 = .ok (.invokestatic 4, 3) := dk_184 0 4 (dk_at dksX0_isText_0 12 rfl rfl)
theorem dX0_isText_15 : decode cX0_isText 15 = .ok (.ifCond .eq 23, 3) := dk_153 0 23 (dk_at dksX0_isText_0 15 rfl rfl)
theorem dX0_isText_18 : decode cX0_isText 18 = .ok (.iload_n 1, 1) := dk_27 (dk_at dksX0_isText_0 18 rfl rfl)
theorem dX0_isText_19 : decode cX0_isText 19 = .ok (.iconst 0, 1) := dk_3 (dk_at dksX0_isText_0 19 rfl rfl)
theorem dX0_isText_20 : decode cX0_isText 20 = .ok (.iconst 1, 1) := dk_4 (dk_at dksX0_isText_0 20 rfl rfl)
theorem dX0_isText_21 : decode cX0_isText 21 = .ok (.bipush 8, 2) := dk_16 8 (dk_at dksX0_isText_0 21 rfl rfl)
theorem dX0_isText_23 : decode cX0_isText 23 = .ok (.iload_n 2, 1) := dk_28 (dk_at dksX0_isText_0 23 rfl rfl)
theorem dX0_isText_24 : decode cX0_isText 24 = .ok (.imul, 1) := dk_104 (dk_at dksX0_isText_1 0 rfl rfl)
theorem dX0_isText_25 : decode cX0_isText 25 = .ok (.ishl, 1) := dk_120 (dk_at dksX0_isText_1 1 rfl rfl)
theorem dX0_isText_26 : decode cX0_isText 26 = .ok (.iconst 1, 1) := dk_4 (dk_at dksX0_isText_1 2 rfl rfl)
theorem dX0_isText_27 : decode cX0_isText 27 = .ok (.isub, 1) := dk_100 (dk_at dksX0_isText_1 3 rfl rfl)
theorem dX0_isText_28 : decode cX0_isText 28 = .ok (.invokestatic 4, 3) := dk_184 0 4 (dk_at dksX0_isText_1 4 rfl rfl)
theorem dX0_isText_31 : decode cX0_isText 31 = .ok (.ifCond .eq 7, 3) := dk_153 0 7 (dk_at dksX0_isText_1 7 rfl rfl)
theorem dX0_isText_34 : decode cX0_isText 34 = .ok (.iconst 1, 1) := dk_4 (dk_at dksX0_isText_1 10 rfl rfl)
theorem dX0_isText_35 : decode cX0_isText 35 = .ok (.goto 4, 3) := dk_167 0 4 (dk_at dksX0_isText_1 11 rfl rfl)
theorem dX0_isText_38 : decode cX0_isText 38 = .ok (.iconst 0, 1) := dk_3 (dk_at dksX0_isText_1 14 rfl rfl)
theorem dX0_isText_39 : decode cX0_isText 39 = .ok (.ireturn, 1) := dk_172 (dk_at dksX0_isText_1 15 rfl rfl)
abbrev cX0_isPoint : ByteArray := prog_1_method_2_code
def yX0_isPoint : MethodName := ⟨RX0, "isPoint", "(I)Z"⟩
def dkwX0_isPoint_1 : List UInt8 := [167, 0, 4, 3, 172]
abbrev dktX0_isPoint_1 : List UInt8 := dkwX0_isPoint_1 ++ []
def dkwX0_isPoint_0 : List UInt8 := [26, 3, 18, 3, 184, 0, 4, 153, 0, 18, 26, 18, 8, 18, 9, 184, 0, 4, 154, 0, 7, 4]
abbrev dktX0_isPoint_0 : List UInt8 := dkwX0_isPoint_0 ++ dktX0_isPoint_1
theorem dksX0_isPoint_0 : cX0_isPoint.data.toList.drop 0 = dktX0_isPoint_0 := by decide +kernel
theorem dksX0_isPoint_1 : cX0_isPoint.data.toList.drop 22 = dktX0_isPoint_1 := dk_seg dksX0_isPoint_0 22 rfl rfl
theorem dX0_isPoint_0 : decode cX0_isPoint 0 = .ok (.iload_n 0, 1) := dk_26 (dk_at dksX0_isPoint_0 0 rfl rfl)
theorem dX0_isPoint_1 : decode cX0_isPoint 1 = .ok (.iconst 0, 1) := dk_3 (dk_at dksX0_isPoint_0 1 rfl rfl)
theorem dX0_isPoint_2 : decode cX0_isPoint 2 = .ok (.ldc 3, 2) := dk_18 3 (dk_at dksX0_isPoint_0 2 rfl rfl)
theorem dX0_isPoint_4 : decode cX0_isPoint 4 = .ok (.invokestatic 4, 3) := dk_184 0 4 (dk_at dksX0_isPoint_0 4 rfl rfl)
theorem dX0_isPoint_7 : decode cX0_isPoint 7 = .ok (.ifCond .eq 18, 3) := dk_153 0 18 (dk_at dksX0_isPoint_0 7 rfl rfl)
theorem dX0_isPoint_10 : decode cX0_isPoint 10 = .ok (.iload_n 0, 1) := dk_26 (dk_at dksX0_isPoint_0 10 rfl rfl)
theorem dX0_isPoint_11 : decode cX0_isPoint 11 = .ok (.ldc 8, 2) := dk_18 8 (dk_at dksX0_isPoint_0 11 rfl rfl)
theorem dX0_isPoint_13 : decode cX0_isPoint 13 = .ok (.ldc 9, 2) := dk_18 9 (dk_at dksX0_isPoint_0 13 rfl rfl)
theorem dX0_isPoint_15 : decode cX0_isPoint 15 = .ok (.invokestatic 4, 3) := dk_184 0 4 (dk_at dksX0_isPoint_0 15 rfl rfl)
theorem dX0_isPoint_18 : decode cX0_isPoint 18 = .ok (.ifCond .ne 7, 3) := dk_154 0 7 (dk_at dksX0_isPoint_0 18 rfl rfl)
theorem dX0_isPoint_21 : decode cX0_isPoint 21 = .ok (.iconst 1, 1) := dk_4 (dk_at dksX0_isPoint_0 21 rfl rfl)
theorem dX0_isPoint_22 : decode cX0_isPoint 22 = .ok (.goto 4, 3) := dk_167 0 4 (dk_at dksX0_isPoint_1 0 rfl rfl)
theorem dX0_isPoint_25 : decode cX0_isPoint 25 = .ok (.iconst 0, 1) := dk_3 (dk_at dksX0_isPoint_1 3 rfl rfl)
theorem dX0_isPoint_26 : decode cX0_isPoint 26 = .ok (.ireturn, 1) := dk_172 (dk_at dksX0_isPoint_1 4 rfl rfl)
abbrev cX0_shift : ByteArray := prog_1_method_20_code
def yX0_shift : MethodName := ⟨RX0, "shift", "(IIIIZ)I"⟩
def dkwX0_shift_5 : List UInt8 := [180, 0, 214, 4, 96, 181, 0, 214, 3, 172, 58, 6, 42, 25, 6, 180, 0, 17, 182, 0, 163, 172]
abbrev dktX0_shift_5 : List UInt8 := dkwX0_shift_5 ++ []
def dkwX0_shift_4 : List UInt8 := [182, 0, 184, 25, 6, 25, 6, 180, 0, 214, 28, 29, 21, 4, 21, 5, 182, 0, 217, 25, 6, 89]
abbrev dktX0_shift_4 : List UInt8 := dkwX0_shift_4 ++ dktX0_shift_5
def dkwX0_shift_3 : List UInt8 := [16, 249, 182, 0, 184, 42, 25, 6, 180, 0, 214, 16, 10, 162, 0, 7, 4, 167, 0, 4, 3, 16, 250]
abbrev dktX0_shift_3 : List UInt8 := dkwX0_shift_3 ++ dktX0_shift_4
def dkwX0_shift_2 : List UInt8 := [167, 0, 4, 3, 2, 182, 0, 184, 42, 25, 6, 28, 29, 182, 0, 210, 156, 0, 7, 4, 167, 0, 4, 3]
abbrev dktX0_shift_2 : List UInt8 := dkwX0_shift_2 ++ dktX0_shift_3
def dkwX0_shift_1 : List UInt8 := [184, 0, 4, 153, 0, 24, 28, 21, 4, 159, 0, 18, 29, 3, 17, 0, 255, 184, 0, 4, 153, 0, 7, 4]
abbrev dktX0_shift_1 : List UInt8 := dkwX0_shift_1 ++ dktX0_shift_2
def dkwX0_shift_0 : List UInt8 := [42, 27, 3, 182, 0, 180, 58, 6, 42, 28, 3, 6, 184, 0, 4, 153, 0, 34, 21, 4, 3, 6]
abbrev dktX0_shift_0 : List UInt8 := dkwX0_shift_0 ++ dktX0_shift_1
theorem dksX0_shift_0 : cX0_shift.data.toList.drop 0 = dktX0_shift_0 := by decide +kernel
theorem dksX0_shift_1 : cX0_shift.data.toList.drop 22 = dktX0_shift_1 := dk_seg dksX0_shift_0 22 rfl rfl
theorem dksX0_shift_2 : cX0_shift.data.toList.drop 46 = dktX0_shift_2 := dk_seg dksX0_shift_1 24 rfl rfl
theorem dksX0_shift_3 : cX0_shift.data.toList.drop 70 = dktX0_shift_3 := dk_seg dksX0_shift_2 24 rfl rfl
theorem dksX0_shift_4 : cX0_shift.data.toList.drop 93 = dktX0_shift_4 := dk_seg dksX0_shift_3 23 rfl rfl
theorem dksX0_shift_5 : cX0_shift.data.toList.drop 115 = dktX0_shift_5 := dk_seg dksX0_shift_4 22 rfl rfl
theorem dX0_shift_0 : decode cX0_shift 0 = .ok (.aload_n 0, 1) := dk_42 (dk_at dksX0_shift_0 0 rfl rfl)
theorem dX0_shift_1 : decode cX0_shift 1 = .ok (.iload_n 1, 1) := dk_27 (dk_at dksX0_shift_0 1 rfl rfl)
theorem dX0_shift_2 : decode cX0_shift 2 = .ok (.iconst 0, 1) := dk_3 (dk_at dksX0_shift_0 2 rfl rfl)
theorem dX0_shift_3 : decode cX0_shift 3 = .ok (.invokevirtual 180, 3) := dk_182 0 180 (dk_at dksX0_shift_0 3 rfl rfl)
theorem dX0_shift_6 : decode cX0_shift 6 = .ok (.astore 6, 2) := dk_58 6 (dk_at dksX0_shift_0 6 rfl rfl)
theorem dX0_shift_8 : decode cX0_shift 8 = .ok (.aload_n 0, 1) := dk_42 (dk_at dksX0_shift_0 8 rfl rfl)
theorem dX0_shift_9 : decode cX0_shift 9 = .ok (.iload_n 2, 1) := dk_28 (dk_at dksX0_shift_0 9 rfl rfl)
theorem dX0_shift_10 : decode cX0_shift 10 = .ok (.iconst 0, 1) := dk_3 (dk_at dksX0_shift_0 10 rfl rfl)
theorem dX0_shift_11 : decode cX0_shift 11 = .ok (.iconst 3, 1) := dk_6 (dk_at dksX0_shift_0 11 rfl rfl)
theorem dX0_shift_12 : decode cX0_shift 12 = .ok (.invokestatic 4, 3) := dk_184 0 4 (dk_at dksX0_shift_0 12 rfl rfl)
theorem dX0_shift_15 : decode cX0_shift 15 = .ok (.ifCond .eq 34, 3) := dk_153 0 34 (dk_at dksX0_shift_0 15 rfl rfl)
theorem dX0_shift_18 : decode cX0_shift 18 = .ok (.iload 4, 2) := dk_21 4 (dk_at dksX0_shift_0 18 rfl rfl)
theorem dX0_shift_20 : decode cX0_shift 20 = .ok (.iconst 0, 1) := dk_3 (dk_at dksX0_shift_0 20 rfl rfl)
theorem dX0_shift_21 : decode cX0_shift 21 = .ok (.iconst 3, 1) := dk_6 (dk_at dksX0_shift_0 21 rfl rfl)
theorem dX0_shift_22 : decode cX0_shift 22 = .ok (.invokestatic 4, 3) := dk_184 0 4 (dk_at dksX0_shift_1 0 rfl rfl)
theorem dX0_shift_25 : decode cX0_shift 25 = .ok (.ifCond .eq 24, 3) := dk_153 0 24 (dk_at dksX0_shift_1 3 rfl rfl)
theorem dX0_shift_28 : decode cX0_shift 28 = .ok (.iload_n 2, 1) := dk_28 (dk_at dksX0_shift_1 6 rfl rfl)
theorem dX0_shift_29 : decode cX0_shift 29 = .ok (.iload 4, 2) := dk_21 4 (dk_at dksX0_shift_1 7 rfl rfl)
theorem dX0_shift_31 : decode cX0_shift 31 = .ok (.if_icmp .eq 18, 3) := dk_159 0 18 (dk_at dksX0_shift_1 9 rfl rfl)
theorem dX0_shift_34 : decode cX0_shift 34 = .ok (.iload_n 3, 1) := dk_29 (dk_at dksX0_shift_1 12 rfl rfl)
theorem dX0_shift_35 : decode cX0_shift 35 = .ok (.iconst 0, 1) := dk_3 (dk_at dksX0_shift_1 13 rfl rfl)
theorem dX0_shift_36 : decode cX0_shift 36 = .ok (.sipush 255, 3) := dk_17 0 255 (dk_at dksX0_shift_1 14 rfl rfl)
theorem dX0_shift_39 : decode cX0_shift 39 = .ok (.invokestatic 4, 3) := dk_184 0 4 (dk_at dksX0_shift_1 17 rfl rfl)
theorem dX0_shift_42 : decode cX0_shift 42 = .ok (.ifCond .eq 7, 3) := dk_153 0 7 (dk_at dksX0_shift_1 20 rfl rfl)
theorem dX0_shift_45 : decode cX0_shift 45 = .ok (.iconst 1, 1) := dk_4 (dk_at dksX0_shift_1 23 rfl rfl)
theorem dX0_shift_46 : decode cX0_shift 46 = .ok (.goto 4, 3) := dk_167 0 4 (dk_at dksX0_shift_2 0 rfl rfl)
theorem dX0_shift_49 : decode cX0_shift 49 = .ok (.iconst 0, 1) := dk_3 (dk_at dksX0_shift_2 3 rfl rfl)
theorem dX0_shift_50 : decode cX0_shift 50 = .ok (.iconst (-1), 1) := dk_2 (dk_at dksX0_shift_2 4 rfl rfl)
theorem dX0_shift_51 : decode cX0_shift 51 = .ok (.invokevirtual 184, 3) := dk_182 0 184 (dk_at dksX0_shift_2 5 rfl rfl)
theorem dX0_shift_54 : decode cX0_shift 54 = .ok (.aload_n 0, 1) := dk_42 (dk_at dksX0_shift_2 8 rfl rfl)
theorem dX0_shift_55 : decode cX0_shift 55 = .ok (.aload 6, 2) := dk_25 6 (dk_at dksX0_shift_2 9 rfl rfl)
theorem dX0_shift_57 : decode cX0_shift 57 = .ok (.iload_n 2, 1) := dk_28 (dk_at dksX0_shift_2 11 rfl rfl)
theorem dX0_shift_58 : decode cX0_shift 58 = .ok (.iload_n 3, 1) := dk_29 (dk_at dksX0_shift_2 12 rfl rfl)
theorem dX0_shift_59 : decode cX0_shift 59 = .ok (.invokevirtual 210, 3) := dk_182 0 210 (dk_at dksX0_shift_2 13 rfl rfl)
theorem dX0_shift_62 : decode cX0_shift 62 = .ok (.ifCond .ge 7, 3) := dk_156 0 7 (dk_at dksX0_shift_2 16 rfl rfl)
theorem dX0_shift_65 : decode cX0_shift 65 = .ok (.iconst 1, 1) := dk_4 (dk_at dksX0_shift_2 19 rfl rfl)
theorem dX0_shift_66 : decode cX0_shift 66 = .ok (.goto 4, 3) := dk_167 0 4 (dk_at dksX0_shift_2 20 rfl rfl)
theorem dX0_shift_69 : decode cX0_shift 69 = .ok (.iconst 0, 1) := dk_3 (dk_at dksX0_shift_2 23 rfl rfl)
theorem dX0_shift_70 : decode cX0_shift 70 = .ok (.bipush (-7), 2) := dk_16 249 (dk_at dksX0_shift_3 0 rfl rfl)
theorem dX0_shift_72 : decode cX0_shift 72 = .ok (.invokevirtual 184, 3) := dk_182 0 184 (dk_at dksX0_shift_3 2 rfl rfl)
theorem dX0_shift_75 : decode cX0_shift 75 = .ok (.aload_n 0, 1) := dk_42 (dk_at dksX0_shift_3 5 rfl rfl)
theorem dX0_shift_76 : decode cX0_shift 76 = .ok (.aload 6, 2) := dk_25 6 (dk_at dksX0_shift_3 6 rfl rfl)
theorem dX0_shift_78 : decode cX0_shift 78 = .ok (.getfield 214, 3) := dk_180 0 214 (dk_at dksX0_shift_3 8 rfl rfl)
theorem dX0_shift_81 : decode cX0_shift 81 = .ok (.bipush 10, 2) := dk_16 10 (dk_at dksX0_shift_3 11 rfl rfl)
theorem dX0_shift_83 : decode cX0_shift 83 = .ok (.if_icmp .ge 7, 3) := dk_162 0 7 (dk_at dksX0_shift_3 13 rfl rfl)
theorem dX0_shift_86 : decode cX0_shift 86 = .ok (.iconst 1, 1) := dk_4 (dk_at dksX0_shift_3 16 rfl rfl)
theorem dX0_shift_87 : decode cX0_shift 87 = .ok (.goto 4, 3) := dk_167 0 4 (dk_at dksX0_shift_3 17 rfl rfl)
theorem dX0_shift_90 : decode cX0_shift 90 = .ok (.iconst 0, 1) := dk_3 (dk_at dksX0_shift_3 20 rfl rfl)
theorem dX0_shift_91 : decode cX0_shift 91 = .ok (.bipush (-6), 2) := dk_16 250 (dk_at dksX0_shift_3 21 rfl rfl)
theorem dX0_shift_93 : decode cX0_shift 93 = .ok (.invokevirtual 184, 3) := dk_182 0 184 (dk_at dksX0_shift_4 0 rfl rfl)
theorem dX0_shift_96 : decode cX0_shift 96 = .ok (.aload 6, 2) := dk_25 6 (dk_at dksX0_shift_4 3 rfl rfl)
theorem dX0_shift_98 : decode cX0_shift 98 = .ok (.aload 6, 2) := dk_25 6 (dk_at dksX0_shift_4 5 rfl rfl)
theorem dX0_shift_100 : decode cX0_shift 100 = .ok (.getfield 214, 3) := dk_180 0 214 (dk_at dksX0_shift_4 7 rfl rfl)
theorem dX0_shift_103 : decode cX0_shift 103 = .ok (.iload_n 2, 1) := dk_28 (dk_at dksX0_shift_4 10 rfl rfl)
theorem dX0_shift_104 : decode cX0_shift 104 = .ok (.iload_n 3, 1) := dk_29 (dk_at dksX0_shift_4 11 rfl rfl)
theorem dX0_shift_105 : decode cX0_shift 105 = .ok (.iload 4, 2) := dk_21 4 (dk_at dksX0_shift_4 12 rfl rfl)
theorem dX0_shift_107 : decode cX0_shift 107 = .ok (.iload 5, 2) := dk_21 5 (dk_at dksX0_shift_4 14 rfl rfl)
theorem dX0_shift_109 : decode cX0_shift 109 = .ok (.invokevirtual 217, 3) := dk_182 0 217 (dk_at dksX0_shift_4 16 rfl rfl)
theorem dX0_shift_112 : decode cX0_shift 112 = .ok (.aload 6, 2) := dk_25 6 (dk_at dksX0_shift_4 19 rfl rfl)
theorem dX0_shift_114 : decode cX0_shift 114 = .ok (.dup, 1) := dk_89 (dk_at dksX0_shift_4 21 rfl rfl)
theorem dX0_shift_115 : decode cX0_shift 115 = .ok (.getfield 214, 3) := dk_180 0 214 (dk_at dksX0_shift_5 0 rfl rfl)
theorem dX0_shift_118 : decode cX0_shift 118 = .ok (.iconst 1, 1) := dk_4 (dk_at dksX0_shift_5 3 rfl rfl)
theorem dX0_shift_119 : decode cX0_shift 119 = .ok (.iadd, 1) := dk_96 (dk_at dksX0_shift_5 4 rfl rfl)
theorem dX0_shift_120 : decode cX0_shift 120 = .ok (.putfield 214, 3) := dk_181 0 214 (dk_at dksX0_shift_5 5 rfl rfl)
theorem dX0_shift_123 : decode cX0_shift 123 = .ok (.iconst 0, 1) := dk_3 (dk_at dksX0_shift_5 8 rfl rfl)
theorem dX0_shift_124 : decode cX0_shift 124 = .ok (.ireturn, 1) := dk_172 (dk_at dksX0_shift_5 9 rfl rfl)
theorem dX0_shift_125 : decode cX0_shift 125 = .ok (.astore 6, 2) := dk_58 6 (dk_at dksX0_shift_5 10 rfl rfl)
theorem dX0_shift_127 : decode cX0_shift 127 = .ok (.aload_n 0, 1) := dk_42 (dk_at dksX0_shift_5 12 rfl rfl)
theorem dX0_shift_128 : decode cX0_shift 128 = .ok (.aload 6, 2) := dk_25 6 (dk_at dksX0_shift_5 13 rfl rfl)
theorem dX0_shift_130 : decode cX0_shift 130 = .ok (.getfield 17, 3) := dk_180 0 17 (dk_at dksX0_shift_5 15 rfl rfl)
theorem dX0_shift_133 : decode cX0_shift 133 = .ok (.invokevirtual 163, 3) := dk_182 0 163 (dk_at dksX0_shift_5 18 rfl rfl)
theorem dX0_shift_136 : decode cX0_shift 136 = .ok (.ireturn, 1) := dk_172 (dk_at dksX0_shift_5 21 rfl rfl)
abbrev cX0_drop : ByteArray := prog_1_method_21_code
def yX0_drop : MethodName := ⟨RX0, "drop", "(IIII)I"⟩
def dkwX0_drop_4 : List UInt8 := [180, 0, 17, 182, 0, 163, 172]
abbrev dktX0_drop_4 : List UInt8 := dkwX0_drop_4 ++ []
def dkwX0_drop_3 : List UInt8 := [167, 0, 4, 3, 16, 254, 182, 0, 184, 25, 5, 21, 6, 182, 0, 224, 4, 172, 58, 5, 42, 25, 5]
abbrev dktX0_drop_3 : List UInt8 := dkwX0_drop_3 ++ dktX0_drop_4
def dkwX0_drop_2 : List UInt8 := [160, 0, 13, 25, 5, 28, 29, 182, 0, 210, 167, 0, 4, 2, 54, 6, 42, 21, 6, 155, 0, 7, 4]
abbrev dktX0_drop_2 : List UInt8 := dkwX0_drop_2 ++ dktX0_drop_3
def dkwX0_drop_1 : List UInt8 := [21, 4, 182, 0, 199, 54, 6, 21, 6, 155, 0, 12, 25, 5, 21, 6, 182, 0, 221, 3, 172, 21, 4, 4]
abbrev dktX0_drop_1 : List UInt8 := dkwX0_drop_1 ++ dktX0_drop_2
def dkwX0_drop_0 : List UInt8 := [42, 27, 3, 182, 0, 180, 58, 5, 42, 28, 29, 21, 4, 184, 0, 192, 2, 182, 0, 184, 25, 5, 28, 29]
abbrev dktX0_drop_0 : List UInt8 := dkwX0_drop_0 ++ dktX0_drop_1
theorem dksX0_drop_0 : cX0_drop.data.toList.drop 0 = dktX0_drop_0 := by decide +kernel
theorem dksX0_drop_1 : cX0_drop.data.toList.drop 24 = dktX0_drop_1 := dk_seg dksX0_drop_0 24 rfl rfl
theorem dksX0_drop_2 : cX0_drop.data.toList.drop 48 = dktX0_drop_2 := dk_seg dksX0_drop_1 24 rfl rfl
theorem dksX0_drop_3 : cX0_drop.data.toList.drop 71 = dktX0_drop_3 := dk_seg dksX0_drop_2 23 rfl rfl
theorem dksX0_drop_4 : cX0_drop.data.toList.drop 94 = dktX0_drop_4 := dk_seg dksX0_drop_3 23 rfl rfl
theorem dX0_drop_0 : decode cX0_drop 0 = .ok (.aload_n 0, 1) := dk_42 (dk_at dksX0_drop_0 0 rfl rfl)
theorem dX0_drop_1 : decode cX0_drop 1 = .ok (.iload_n 1, 1) := dk_27 (dk_at dksX0_drop_0 1 rfl rfl)
theorem dX0_drop_2 : decode cX0_drop 2 = .ok (.iconst 0, 1) := dk_3 (dk_at dksX0_drop_0 2 rfl rfl)
theorem dX0_drop_3 : decode cX0_drop 3 = .ok (.invokevirtual 180, 3) := dk_182 0 180 (dk_at dksX0_drop_0 3 rfl rfl)
theorem dX0_drop_6 : decode cX0_drop 6 = .ok (.astore 5, 2) := dk_58 5 (dk_at dksX0_drop_0 6 rfl rfl)
theorem dX0_drop_8 : decode cX0_drop 8 = .ok (.aload_n 0, 1) := dk_42 (dk_at dksX0_drop_0 8 rfl rfl)
theorem dX0_drop_9 : decode cX0_drop 9 = .ok (.iload_n 2, 1) := dk_28 (dk_at dksX0_drop_0 9 rfl rfl)
theorem dX0_drop_10 : decode cX0_drop 10 = .ok (.iload_n 3, 1) := dk_29 (dk_at dksX0_drop_0 10 rfl rfl)
theorem dX0_drop_11 : decode cX0_drop 11 = .ok (.iload 4, 2) := dk_21 4 (dk_at dksX0_drop_0 11 rfl rfl)
theorem dX0_drop_13 : decode cX0_drop 13 = .ok (.invokestatic 192, 3) := dk_184 0 192 (dk_at dksX0_drop_0 13 rfl rfl)
theorem dX0_drop_16 : decode cX0_drop 16 = .ok (.iconst (-1), 1) := dk_2 (dk_at dksX0_drop_0 16 rfl rfl)
theorem dX0_drop_17 : decode cX0_drop 17 = .ok (.invokevirtual 184, 3) := dk_182 0 184 (dk_at dksX0_drop_0 17 rfl rfl)
theorem dX0_drop_20 : decode cX0_drop 20 = .ok (.aload 5, 2) := dk_25 5 (dk_at dksX0_drop_0 20 rfl rfl)
theorem dX0_drop_22 : decode cX0_drop 22 = .ok (.iload_n 2, 1) := dk_28 (dk_at dksX0_drop_0 22 rfl rfl)
theorem dX0_drop_23 : decode cX0_drop 23 = .ok (.iload_n 3, 1) := dk_29 (dk_at dksX0_drop_0 23 rfl rfl)
theorem dX0_drop_24 : decode cX0_drop 24 = .ok (.iload 4, 2) := dk_21 4 (dk_at dksX0_drop_1 0 rfl rfl)
theorem dX0_drop_26 : decode cX0_drop 26 = .ok (.invokevirtual 199, 3) := dk_182 0 199 (dk_at dksX0_drop_1 2 rfl rfl)
theorem dX0_drop_29 : decode cX0_drop 29 = .ok (.istore 6, 2) := dk_54 6 (dk_at dksX0_drop_1 5 rfl rfl)
theorem dX0_drop_31 : decode cX0_drop 31 = .ok (.iload 6, 2) := dk_21 6 (dk_at dksX0_drop_1 7 rfl rfl)
theorem dX0_drop_33 : decode cX0_drop 33 = .ok (.ifCond .lt 12, 3) := dk_155 0 12 (dk_at dksX0_drop_1 9 rfl rfl)
theorem dX0_drop_36 : decode cX0_drop 36 = .ok (.aload 5, 2) := dk_25 5 (dk_at dksX0_drop_1 12 rfl rfl)
theorem dX0_drop_38 : decode cX0_drop 38 = .ok (.iload 6, 2) := dk_21 6 (dk_at dksX0_drop_1 14 rfl rfl)
theorem dX0_drop_40 : decode cX0_drop 40 = .ok (.invokevirtual 221, 3) := dk_182 0 221 (dk_at dksX0_drop_1 16 rfl rfl)
theorem dX0_drop_43 : decode cX0_drop 43 = .ok (.iconst 0, 1) := dk_3 (dk_at dksX0_drop_1 19 rfl rfl)
theorem dX0_drop_44 : decode cX0_drop 44 = .ok (.ireturn, 1) := dk_172 (dk_at dksX0_drop_1 20 rfl rfl)
theorem dX0_drop_45 : decode cX0_drop 45 = .ok (.iload 4, 2) := dk_21 4 (dk_at dksX0_drop_1 21 rfl rfl)
theorem dX0_drop_47 : decode cX0_drop 47 = .ok (.iconst 1, 1) := dk_4 (dk_at dksX0_drop_1 23 rfl rfl)
theorem dX0_drop_48 : decode cX0_drop 48 = .ok (.if_icmp .ne 13, 3) := dk_160 0 13 (dk_at dksX0_drop_2 0 rfl rfl)
theorem dX0_drop_51 : decode cX0_drop 51 = .ok (.aload 5, 2) := dk_25 5 (dk_at dksX0_drop_2 3 rfl rfl)
theorem dX0_drop_53 : decode cX0_drop 53 = .ok (.iload_n 2, 1) := dk_28 (dk_at dksX0_drop_2 5 rfl rfl)
theorem dX0_drop_54 : decode cX0_drop 54 = .ok (.iload_n 3, 1) := dk_29 (dk_at dksX0_drop_2 6 rfl rfl)
theorem dX0_drop_55 : decode cX0_drop 55 = .ok (.invokevirtual 210, 3) := dk_182 0 210 (dk_at dksX0_drop_2 7 rfl rfl)
theorem dX0_drop_58 : decode cX0_drop 58 = .ok (.goto 4, 3) := dk_167 0 4 (dk_at dksX0_drop_2 10 rfl rfl)
theorem dX0_drop_61 : decode cX0_drop 61 = .ok (.iconst (-1), 1) := dk_2 (dk_at dksX0_drop_2 13 rfl rfl)
theorem dX0_drop_62 : decode cX0_drop 62 = .ok (.istore 6, 2) := dk_54 6 (dk_at dksX0_drop_2 14 rfl rfl)
theorem dX0_drop_64 : decode cX0_drop 64 = .ok (.aload_n 0, 1) := dk_42 (dk_at dksX0_drop_2 16 rfl rfl)
theorem dX0_drop_65 : decode cX0_drop 65 = .ok (.iload 6, 2) := dk_21 6 (dk_at dksX0_drop_2 17 rfl rfl)
theorem dX0_drop_67 : decode cX0_drop 67 = .ok (.ifCond .lt 7, 3) := dk_155 0 7 (dk_at dksX0_drop_2 19 rfl rfl)
theorem dX0_drop_70 : decode cX0_drop 70 = .ok (.iconst 1, 1) := dk_4 (dk_at dksX0_drop_2 22 rfl rfl)
theorem dX0_drop_71 : decode cX0_drop 71 = .ok (.goto 4, 3) := dk_167 0 4 (dk_at dksX0_drop_3 0 rfl rfl)
theorem dX0_drop_74 : decode cX0_drop 74 = .ok (.iconst 0, 1) := dk_3 (dk_at dksX0_drop_3 3 rfl rfl)
theorem dX0_drop_75 : decode cX0_drop 75 = .ok (.bipush (-2), 2) := dk_16 254 (dk_at dksX0_drop_3 4 rfl rfl)
theorem dX0_drop_77 : decode cX0_drop 77 = .ok (.invokevirtual 184, 3) := dk_182 0 184 (dk_at dksX0_drop_3 6 rfl rfl)
theorem dX0_drop_80 : decode cX0_drop 80 = .ok (.aload 5, 2) := dk_25 5 (dk_at dksX0_drop_3 9 rfl rfl)
theorem dX0_drop_82 : decode cX0_drop 82 = .ok (.iload 6, 2) := dk_21 6 (dk_at dksX0_drop_3 11 rfl rfl)
theorem dX0_drop_84 : decode cX0_drop 84 = .ok (.invokevirtual 224, 3) := dk_182 0 224 (dk_at dksX0_drop_3 13 rfl rfl)
theorem dX0_drop_87 : decode cX0_drop 87 = .ok (.iconst 1, 1) := dk_4 (dk_at dksX0_drop_3 16 rfl rfl)
theorem dX0_drop_88 : decode cX0_drop 88 = .ok (.ireturn, 1) := dk_172 (dk_at dksX0_drop_3 17 rfl rfl)
theorem dX0_drop_89 : decode cX0_drop 89 = .ok (.astore 5, 2) := dk_58 5 (dk_at dksX0_drop_3 18 rfl rfl)
theorem dX0_drop_91 : decode cX0_drop 91 = .ok (.aload_n 0, 1) := dk_42 (dk_at dksX0_drop_3 20 rfl rfl)
theorem dX0_drop_92 : decode cX0_drop 92 = .ok (.aload 5, 2) := dk_25 5 (dk_at dksX0_drop_3 21 rfl rfl)
theorem dX0_drop_94 : decode cX0_drop 94 = .ok (.getfield 17, 3) := dk_180 0 17 (dk_at dksX0_drop_4 0 rfl rfl)
theorem dX0_drop_97 : decode cX0_drop 97 = .ok (.invokevirtual 163, 3) := dk_182 0 163 (dk_at dksX0_drop_4 3 rfl rfl)
theorem dX0_drop_100 : decode cX0_drop 100 = .ok (.ireturn, 1) := dk_172 (dk_at dksX0_drop_4 6 rfl rfl)
abbrev cX0_close : ByteArray := prog_1_method_22_code
def yX0_close : MethodName := ⟨RX0, "close", "(I)I"⟩
def dkwX0_close_2 : List UInt8 := [182, 0, 248, 3, 172, 77, 42, 44, 180, 0, 17, 182, 0, 163, 172]
abbrev dktX0_close_2 : List UInt8 := dkwX0_close_2 ++ []
def dkwX0_close_1 : List UInt8 := [180, 0, 236, 181, 0, 239, 42, 44, 180, 0, 242, 181, 0, 245, 42, 16, 248, 182, 0, 140, 191, 44]
abbrev dktX0_close_1 : List UInt8 := dkwX0_close_1 ++ dktX0_close_2
def dkwX0_close_0 : List UInt8 := [42, 27, 3, 182, 0, 180, 77, 44, 182, 0, 227, 153, 0, 34, 42, 44, 180, 0, 230, 181, 0, 233, 42, 44]
abbrev dktX0_close_0 : List UInt8 := dkwX0_close_0 ++ dktX0_close_1
theorem dksX0_close_0 : cX0_close.data.toList.drop 0 = dktX0_close_0 := by decide +kernel
theorem dksX0_close_1 : cX0_close.data.toList.drop 24 = dktX0_close_1 := dk_seg dksX0_close_0 24 rfl rfl
theorem dksX0_close_2 : cX0_close.data.toList.drop 46 = dktX0_close_2 := dk_seg dksX0_close_1 22 rfl rfl
theorem dX0_close_0 : decode cX0_close 0 = .ok (.aload_n 0, 1) := dk_42 (dk_at dksX0_close_0 0 rfl rfl)
theorem dX0_close_1 : decode cX0_close 1 = .ok (.iload_n 1, 1) := dk_27 (dk_at dksX0_close_0 1 rfl rfl)
theorem dX0_close_2 : decode cX0_close 2 = .ok (.iconst 0, 1) := dk_3 (dk_at dksX0_close_0 2 rfl rfl)
theorem dX0_close_3 : decode cX0_close 3 = .ok (.invokevirtual 180, 3) := dk_182 0 180 (dk_at dksX0_close_0 3 rfl rfl)
theorem dX0_close_6 : decode cX0_close 6 = .ok (.astore_n 2, 1) := dk_77 (dk_at dksX0_close_0 6 rfl rfl)
theorem dX0_close_7 : decode cX0_close 7 = .ok (.aload_n 2, 1) := dk_44 (dk_at dksX0_close_0 7 rfl rfl)
theorem dX0_close_8 : decode cX0_close 8 = .ok (.invokevirtual 227, 3) := dk_182 0 227 (dk_at dksX0_close_0 8 rfl rfl)
theorem dX0_close_11 : decode cX0_close 11 = .ok (.ifCond .eq 34, 3) := dk_153 0 34 (dk_at dksX0_close_0 11 rfl rfl)
theorem dX0_close_14 : decode cX0_close 14 = .ok (.aload_n 0, 1) := dk_42 (dk_at dksX0_close_0 14 rfl rfl)
theorem dX0_close_15 : decode cX0_close 15 = .ok (.aload_n 2, 1) := dk_44 (dk_at dksX0_close_0 15 rfl rfl)
theorem dX0_close_16 : decode cX0_close 16 = .ok (.getfield 230, 3) := dk_180 0 230 (dk_at dksX0_close_0 16 rfl rfl)
theorem dX0_close_19 : decode cX0_close 19 = .ok (.putfield 233, 3) := dk_181 0 233 (dk_at dksX0_close_0 19 rfl rfl)
theorem dX0_close_22 : decode cX0_close 22 = .ok (.aload_n 0, 1) := dk_42 (dk_at dksX0_close_0 22 rfl rfl)
theorem dX0_close_23 : decode cX0_close 23 = .ok (.aload_n 2, 1) := dk_44 (dk_at dksX0_close_0 23 rfl rfl)
theorem dX0_close_24 : decode cX0_close 24 = .ok (.getfield 236, 3) := dk_180 0 236 (dk_at dksX0_close_1 0 rfl rfl)
theorem dX0_close_27 : decode cX0_close 27 = .ok (.putfield 239, 3) := dk_181 0 239 (dk_at dksX0_close_1 3 rfl rfl)
theorem dX0_close_30 : decode cX0_close 30 = .ok (.aload_n 0, 1) := dk_42 (dk_at dksX0_close_1 6 rfl rfl)
theorem dX0_close_31 : decode cX0_close 31 = .ok (.aload_n 2, 1) := dk_44 (dk_at dksX0_close_1 7 rfl rfl)
theorem dX0_close_32 : decode cX0_close 32 = .ok (.getfield 242, 3) := dk_180 0 242 (dk_at dksX0_close_1 8 rfl rfl)
theorem dX0_close_35 : decode cX0_close 35 = .ok (.putfield 245, 3) := dk_181 0 245 (dk_at dksX0_close_1 11 rfl rfl)
theorem dX0_close_38 : decode cX0_close 38 = .ok (.aload_n 0, 1) := dk_42 (dk_at dksX0_close_1 14 rfl rfl)
theorem dX0_close_39 : decode cX0_close 39 = .ok (.bipush (-8), 2) := dk_16 248 (dk_at dksX0_close_1 15 rfl rfl)
theorem dX0_close_41 : decode cX0_close 41 = .ok (.invokevirtual 140, 3) := dk_182 0 140 (dk_at dksX0_close_1 17 rfl rfl)
theorem dX0_close_44 : decode cX0_close 44 = .ok (.athrow, 1) := dk_191 (dk_at dksX0_close_1 20 rfl rfl)
theorem dX0_close_45 : decode cX0_close 45 = .ok (.aload_n 2, 1) := dk_44 (dk_at dksX0_close_1 21 rfl rfl)
theorem dX0_close_46 : decode cX0_close 46 = .ok (.invokevirtual 248, 3) := dk_182 0 248 (dk_at dksX0_close_2 0 rfl rfl)
theorem dX0_close_49 : decode cX0_close 49 = .ok (.iconst 0, 1) := dk_3 (dk_at dksX0_close_2 3 rfl rfl)
theorem dX0_close_50 : decode cX0_close 50 = .ok (.ireturn, 1) := dk_172 (dk_at dksX0_close_2 4 rfl rfl)
theorem dX0_close_51 : decode cX0_close 51 = .ok (.astore_n 2, 1) := dk_77 (dk_at dksX0_close_2 5 rfl rfl)
theorem dX0_close_52 : decode cX0_close 52 = .ok (.aload_n 0, 1) := dk_42 (dk_at dksX0_close_2 6 rfl rfl)
theorem dX0_close_53 : decode cX0_close 53 = .ok (.aload_n 2, 1) := dk_44 (dk_at dksX0_close_2 7 rfl rfl)
theorem dX0_close_54 : decode cX0_close 54 = .ok (.getfield 17, 3) := dk_180 0 17 (dk_at dksX0_close_2 8 rfl rfl)
theorem dX0_close_57 : decode cX0_close 57 = .ok (.invokevirtual 163, 3) := dk_182 0 163 (dk_at dksX0_close_2 11 rfl rfl)
theorem dX0_close_60 : decode cX0_close 60 = .ok (.ireturn, 1) := dk_172 (dk_at dksX0_close_2 14 rfl rfl)
abbrev cX0_size : ByteArray := prog_1_method_23_code
def yX0_size : MethodName := ⟨RX0, "size", "(II)I"⟩
def dkwX0_size_4 : List UInt8 := [182, 0, 163, 172]
abbrev dktX0_size_4 : List UInt8 := dkwX0_size_4 ++ []
def dkwX0_size_3 : List UInt8 := [192, 0, 42, 180, 0, 203, 167, 0, 10, 45, 192, 0, 42, 180, 0, 214, 172, 78, 42, 45, 180, 0, 17]
abbrev dktX0_size_3 : List UInt8 := dkwX0_size_3 ++ dktX0_size_4
def dkwX0_size_2 : List UInt8 := [167, 0, 38, 3, 167, 0, 34, 21, 4, 154, 0, 7, 3, 167, 0, 25, 28, 5, 160, 0, 13, 45]
abbrev dktX0_size_2 : List UInt8 := dkwX0_size_2 ++ dktX0_size_3
def dkwX0_size_1 : List UInt8 := [154, 0, 10, 45, 182, 0, 251, 167, 0, 54, 28, 4, 160, 0, 18, 45, 182, 0, 156, 153, 0, 7, 4]
abbrev dktX0_size_1 : List UInt8 := dkwX0_size_1 ++ dktX0_size_2
def dkwX0_size_0 : List UInt8 := [42, 27, 182, 0, 152, 78, 42, 28, 3, 6, 184, 0, 4, 2, 182, 0, 184, 45, 193, 0, 42, 54, 4, 28]
abbrev dktX0_size_0 : List UInt8 := dkwX0_size_0 ++ dktX0_size_1
theorem dksX0_size_0 : cX0_size.data.toList.drop 0 = dktX0_size_0 := by decide +kernel
theorem dksX0_size_1 : cX0_size.data.toList.drop 24 = dktX0_size_1 := dk_seg dksX0_size_0 24 rfl rfl
theorem dksX0_size_2 : cX0_size.data.toList.drop 47 = dktX0_size_2 := dk_seg dksX0_size_1 23 rfl rfl
theorem dksX0_size_3 : cX0_size.data.toList.drop 69 = dktX0_size_3 := dk_seg dksX0_size_2 22 rfl rfl
theorem dksX0_size_4 : cX0_size.data.toList.drop 92 = dktX0_size_4 := dk_seg dksX0_size_3 23 rfl rfl
theorem dX0_size_0 : decode cX0_size 0 = .ok (.aload_n 0, 1) := dk_42 (dk_at dksX0_size_0 0 rfl rfl)
theorem dX0_size_1 : decode cX0_size 1 = .ok (.iload_n 1, 1) := dk_27 (dk_at dksX0_size_0 1 rfl rfl)
theorem dX0_size_2 : decode cX0_size 2 = .ok (.invokevirtual 152, 3) := dk_182 0 152 (dk_at dksX0_size_0 2 rfl rfl)
theorem dX0_size_5 : decode cX0_size 5 = .ok (.astore_n 3, 1) := dk_78 (dk_at dksX0_size_0 5 rfl rfl)
theorem dX0_size_6 : decode cX0_size 6 = .ok (.aload_n 0, 1) := dk_42 (dk_at dksX0_size_0 6 rfl rfl)
theorem dX0_size_7 : decode cX0_size 7 = .ok (.iload_n 2, 1) := dk_28 (dk_at dksX0_size_0 7 rfl rfl)
theorem dX0_size_8 : decode cX0_size 8 = .ok (.iconst 0, 1) := dk_3 (dk_at dksX0_size_0 8 rfl rfl)
theorem dX0_size_9 : decode cX0_size 9 = .ok (.iconst 3, 1) := dk_6 (dk_at dksX0_size_0 9 rfl rfl)
theorem dX0_size_10 : decode cX0_size 10 = .ok (.invokestatic 4, 3) := dk_184 0 4 (dk_at dksX0_size_0 10 rfl rfl)
theorem dX0_size_13 : decode cX0_size 13 = .ok (.iconst (-1), 1) := dk_2 (dk_at dksX0_size_0 13 rfl rfl)
theorem dX0_size_14 : decode cX0_size 14 = .ok (.invokevirtual 184, 3) := dk_182 0 184 (dk_at dksX0_size_0 14 rfl rfl)
theorem dX0_size_17 : decode cX0_size 17 = .ok (.aload_n 3, 1) := dk_45 (dk_at dksX0_size_0 17 rfl rfl)
theorem dX0_size_18 : decode cX0_size 18 = .ok (.instanceof 42, 3) := dk_193 0 42 (dk_at dksX0_size_0 18 rfl rfl)
theorem dX0_size_21 : decode cX0_size 21 = .ok (.istore 4, 2) := dk_54 4 (dk_at dksX0_size_0 21 rfl rfl)
theorem dX0_size_23 : decode cX0_size 23 = .ok (.iload_n 2, 1) := dk_28 (dk_at dksX0_size_0 23 rfl rfl)
theorem dX0_size_24 : decode cX0_size 24 = .ok (.ifCond .ne 10, 3) := dk_154 0 10 (dk_at dksX0_size_1 0 rfl rfl)
theorem dX0_size_27 : decode cX0_size 27 = .ok (.aload_n 3, 1) := dk_45 (dk_at dksX0_size_1 3 rfl rfl)
theorem dX0_size_28 : decode cX0_size 28 = .ok (.invokevirtual 251, 3) := dk_182 0 251 (dk_at dksX0_size_1 4 rfl rfl)
theorem dX0_size_31 : decode cX0_size 31 = .ok (.goto 54, 3) := dk_167 0 54 (dk_at dksX0_size_1 7 rfl rfl)
theorem dX0_size_34 : decode cX0_size 34 = .ok (.iload_n 2, 1) := dk_28 (dk_at dksX0_size_1 10 rfl rfl)
theorem dX0_size_35 : decode cX0_size 35 = .ok (.iconst 1, 1) := dk_4 (dk_at dksX0_size_1 11 rfl rfl)
theorem dX0_size_36 : decode cX0_size 36 = .ok (.if_icmp .ne 18, 3) := dk_160 0 18 (dk_at dksX0_size_1 12 rfl rfl)
theorem dX0_size_39 : decode cX0_size 39 = .ok (.aload_n 3, 1) := dk_45 (dk_at dksX0_size_1 15 rfl rfl)
theorem dX0_size_40 : decode cX0_size 40 = .ok (.invokevirtual 156, 3) := dk_182 0 156 (dk_at dksX0_size_1 16 rfl rfl)
theorem dX0_size_43 : decode cX0_size 43 = .ok (.ifCond .eq 7, 3) := dk_153 0 7 (dk_at dksX0_size_1 19 rfl rfl)
theorem dX0_size_46 : decode cX0_size 46 = .ok (.iconst 1, 1) := dk_4 (dk_at dksX0_size_1 22 rfl rfl)
theorem dX0_size_47 : decode cX0_size 47 = .ok (.goto 38, 3) := dk_167 0 38 (dk_at dksX0_size_2 0 rfl rfl)
theorem dX0_size_50 : decode cX0_size 50 = .ok (.iconst 0, 1) := dk_3 (dk_at dksX0_size_2 3 rfl rfl)
theorem dX0_size_51 : decode cX0_size 51 = .ok (.goto 34, 3) := dk_167 0 34 (dk_at dksX0_size_2 4 rfl rfl)
theorem dX0_size_54 : decode cX0_size 54 = .ok (.iload 4, 2) := dk_21 4 (dk_at dksX0_size_2 7 rfl rfl)
theorem dX0_size_56 : decode cX0_size 56 = .ok (.ifCond .ne 7, 3) := dk_154 0 7 (dk_at dksX0_size_2 9 rfl rfl)
theorem dX0_size_59 : decode cX0_size 59 = .ok (.iconst 0, 1) := dk_3 (dk_at dksX0_size_2 12 rfl rfl)
theorem dX0_size_60 : decode cX0_size 60 = .ok (.goto 25, 3) := dk_167 0 25 (dk_at dksX0_size_2 13 rfl rfl)
theorem dX0_size_63 : decode cX0_size 63 = .ok (.iload_n 2, 1) := dk_28 (dk_at dksX0_size_2 16 rfl rfl)
theorem dX0_size_64 : decode cX0_size 64 = .ok (.iconst 2, 1) := dk_5 (dk_at dksX0_size_2 17 rfl rfl)
theorem dX0_size_65 : decode cX0_size 65 = .ok (.if_icmp .ne 13, 3) := dk_160 0 13 (dk_at dksX0_size_2 18 rfl rfl)
theorem dX0_size_68 : decode cX0_size 68 = .ok (.aload_n 3, 1) := dk_45 (dk_at dksX0_size_2 21 rfl rfl)
theorem dX0_size_69 : decode cX0_size 69 = .ok (.checkcast 42, 3) := dk_192 0 42 (dk_at dksX0_size_3 0 rfl rfl)
theorem dX0_size_72 : decode cX0_size 72 = .ok (.getfield 203, 3) := dk_180 0 203 (dk_at dksX0_size_3 3 rfl rfl)
theorem dX0_size_75 : decode cX0_size 75 = .ok (.goto 10, 3) := dk_167 0 10 (dk_at dksX0_size_3 6 rfl rfl)
theorem dX0_size_78 : decode cX0_size 78 = .ok (.aload_n 3, 1) := dk_45 (dk_at dksX0_size_3 9 rfl rfl)
theorem dX0_size_79 : decode cX0_size 79 = .ok (.checkcast 42, 3) := dk_192 0 42 (dk_at dksX0_size_3 10 rfl rfl)
theorem dX0_size_82 : decode cX0_size 82 = .ok (.getfield 214, 3) := dk_180 0 214 (dk_at dksX0_size_3 13 rfl rfl)
theorem dX0_size_85 : decode cX0_size 85 = .ok (.ireturn, 1) := dk_172 (dk_at dksX0_size_3 16 rfl rfl)
theorem dX0_size_86 : decode cX0_size 86 = .ok (.astore_n 3, 1) := dk_78 (dk_at dksX0_size_3 17 rfl rfl)
theorem dX0_size_87 : decode cX0_size 87 = .ok (.aload_n 0, 1) := dk_42 (dk_at dksX0_size_3 18 rfl rfl)
theorem dX0_size_88 : decode cX0_size 88 = .ok (.aload_n 3, 1) := dk_45 (dk_at dksX0_size_3 19 rfl rfl)
theorem dX0_size_89 : decode cX0_size 89 = .ok (.getfield 17, 3) := dk_180 0 17 (dk_at dksX0_size_3 20 rfl rfl)
theorem dX0_size_92 : decode cX0_size 92 = .ok (.invokevirtual 163, 3) := dk_182 0 163 (dk_at dksX0_size_4 0 rfl rfl)
theorem dX0_size_95 : decode cX0_size 95 = .ok (.ireturn, 1) := dk_172 (dk_at dksX0_size_4 3 rfl rfl)
abbrev cX0_pageAt : ByteArray := prog_1_method_12_code
def yX0_pageAt : MethodName := ⟨RX0, "pageAt", "(I)LCodeExchange$Page;"⟩
def dkwX0_pageAt_0 : List UInt8 := [42, 27, 182, 0, 134, 192, 0, 150, 77, 44, 199, 0, 9, 42, 2, 182, 0, 140, 191, 44, 176]
abbrev dktX0_pageAt_0 : List UInt8 := dkwX0_pageAt_0 ++ []
theorem dksX0_pageAt_0 : cX0_pageAt.data.toList.drop 0 = dktX0_pageAt_0 := by decide +kernel
theorem dX0_pageAt_0 : decode cX0_pageAt 0 = .ok (.aload_n 0, 1) := dk_42 (dk_at dksX0_pageAt_0 0 rfl rfl)
theorem dX0_pageAt_1 : decode cX0_pageAt 1 = .ok (.iload_n 1, 1) := dk_27 (dk_at dksX0_pageAt_0 1 rfl rfl)
theorem dX0_pageAt_2 : decode cX0_pageAt 2 = .ok (.invokevirtual 134, 3) := dk_182 0 134 (dk_at dksX0_pageAt_0 2 rfl rfl)
theorem dX0_pageAt_5 : decode cX0_pageAt 5 = .ok (.checkcast 150, 3) := dk_192 0 150 (dk_at dksX0_pageAt_0 5 rfl rfl)
theorem dX0_pageAt_8 : decode cX0_pageAt 8 = .ok (.astore_n 2, 1) := dk_77 (dk_at dksX0_pageAt_0 8 rfl rfl)
theorem dX0_pageAt_9 : decode cX0_pageAt 9 = .ok (.aload_n 2, 1) := dk_44 (dk_at dksX0_pageAt_0 9 rfl rfl)
theorem dX0_pageAt_10 : decode cX0_pageAt 10 = .ok (.ifnonnull 9, 3) := dk_199 0 9 (dk_at dksX0_pageAt_0 10 rfl rfl)
theorem dX0_pageAt_13 : decode cX0_pageAt 13 = .ok (.aload_n 0, 1) := dk_42 (dk_at dksX0_pageAt_0 13 rfl rfl)
theorem dX0_pageAt_14 : decode cX0_pageAt 14 = .ok (.iconst (-1), 1) := dk_2 (dk_at dksX0_pageAt_0 14 rfl rfl)
theorem dX0_pageAt_15 : decode cX0_pageAt 15 = .ok (.invokevirtual 140, 3) := dk_182 0 140 (dk_at dksX0_pageAt_0 15 rfl rfl)
theorem dX0_pageAt_18 : decode cX0_pageAt 18 = .ok (.athrow, 1) := dk_191 (dk_at dksX0_pageAt_0 18 rfl rfl)
theorem dX0_pageAt_19 : decode cX0_pageAt 19 = .ok (.aload_n 2, 1) := dk_44 (dk_at dksX0_pageAt_0 19 rfl rfl)
theorem dX0_pageAt_20 : decode cX0_pageAt 20 = .ok (.areturn, 1) := dk_176 (dk_at dksX0_pageAt_0 20 rfl rfl)
abbrev cX0_code : ByteArray := prog_1_method_24_code
def yX0_code : MethodName := ⟨RX0, "code", "(II)J"⟩
def dkwX0_code_2 : List UInt8 := [180, 0, 17, 182, 0, 163, 133, 173]
abbrev dktX0_code_2 : List UInt8 := dkwX0_code_2 ++ []
def dkwX0_code_1 : List UInt8 := [22, 4, 9, 148, 155, 0, 7, 4, 167, 0, 4, 3, 16, 254, 182, 0, 184, 22, 4, 173, 78, 42, 45]
abbrev dktX0_code_1 : List UInt8 := dkwX0_code_1 ++ dktX0_code_2
def dkwX0_code_0 : List UInt8 := [42, 27, 182, 0, 255, 78, 42, 28, 184, 0, 195, 2, 182, 0, 184, 45, 28, 182, 1, 2, 55, 4, 42]
abbrev dktX0_code_0 : List UInt8 := dkwX0_code_0 ++ dktX0_code_1
theorem dksX0_code_0 : cX0_code.data.toList.drop 0 = dktX0_code_0 := by decide +kernel
theorem dksX0_code_1 : cX0_code.data.toList.drop 23 = dktX0_code_1 := dk_seg dksX0_code_0 23 rfl rfl
theorem dksX0_code_2 : cX0_code.data.toList.drop 46 = dktX0_code_2 := dk_seg dksX0_code_1 23 rfl rfl
theorem dX0_code_0 : decode cX0_code 0 = .ok (.aload_n 0, 1) := dk_42 (dk_at dksX0_code_0 0 rfl rfl)
theorem dX0_code_1 : decode cX0_code 1 = .ok (.iload_n 1, 1) := dk_27 (dk_at dksX0_code_0 1 rfl rfl)
theorem dX0_code_2 : decode cX0_code 2 = .ok (.invokevirtual 255, 3) := dk_182 0 255 (dk_at dksX0_code_0 2 rfl rfl)
theorem dX0_code_5 : decode cX0_code 5 = .ok (.astore_n 3, 1) := dk_78 (dk_at dksX0_code_0 5 rfl rfl)
theorem dX0_code_6 : decode cX0_code 6 = .ok (.aload_n 0, 1) := dk_42 (dk_at dksX0_code_0 6 rfl rfl)
theorem dX0_code_7 : decode cX0_code 7 = .ok (.iload_n 2, 1) := dk_28 (dk_at dksX0_code_0 7 rfl rfl)
theorem dX0_code_8 : decode cX0_code 8 = .ok (.invokestatic 195, 3) := dk_184 0 195 (dk_at dksX0_code_0 8 rfl rfl)
theorem dX0_code_11 : decode cX0_code 11 = .ok (.iconst (-1), 1) := dk_2 (dk_at dksX0_code_0 11 rfl rfl)
theorem dX0_code_12 : decode cX0_code 12 = .ok (.invokevirtual 184, 3) := dk_182 0 184 (dk_at dksX0_code_0 12 rfl rfl)
theorem dX0_code_15 : decode cX0_code 15 = .ok (.aload_n 3, 1) := dk_45 (dk_at dksX0_code_0 15 rfl rfl)
theorem dX0_code_16 : decode cX0_code 16 = .ok (.iload_n 2, 1) := dk_28 (dk_at dksX0_code_0 16 rfl rfl)
theorem dX0_code_17 : decode cX0_code 17 = .ok (.invokevirtual 258, 3) := dk_182 1 2 (dk_at dksX0_code_0 17 rfl rfl)
theorem dX0_code_20 : decode cX0_code 20 = .ok (.lstore 4, 2) := dk_55 4 (dk_at dksX0_code_0 20 rfl rfl)
theorem dX0_code_22 : decode cX0_code 22 = .ok (.aload_n 0, 1) := dk_42 (dk_at dksX0_code_0 22 rfl rfl)
theorem dX0_code_23 : decode cX0_code 23 = .ok (.lload 4, 2) := dk_22 4 (dk_at dksX0_code_1 0 rfl rfl)
theorem dX0_code_25 : decode cX0_code 25 = .ok (.lconst 0, 1) := dk_9 (dk_at dksX0_code_1 2 rfl rfl)
theorem dX0_code_26 : decode cX0_code 26 = .ok (.lcmp, 1) := dk_148 (dk_at dksX0_code_1 3 rfl rfl)
theorem dX0_code_27 : decode cX0_code 27 = .ok (.ifCond .lt 7, 3) := dk_155 0 7 (dk_at dksX0_code_1 4 rfl rfl)
theorem dX0_code_30 : decode cX0_code 30 = .ok (.iconst 1, 1) := dk_4 (dk_at dksX0_code_1 7 rfl rfl)
theorem dX0_code_31 : decode cX0_code 31 = .ok (.goto 4, 3) := dk_167 0 4 (dk_at dksX0_code_1 8 rfl rfl)
theorem dX0_code_34 : decode cX0_code 34 = .ok (.iconst 0, 1) := dk_3 (dk_at dksX0_code_1 11 rfl rfl)
theorem dX0_code_35 : decode cX0_code 35 = .ok (.bipush (-2), 2) := dk_16 254 (dk_at dksX0_code_1 12 rfl rfl)
theorem dX0_code_37 : decode cX0_code 37 = .ok (.invokevirtual 184, 3) := dk_182 0 184 (dk_at dksX0_code_1 14 rfl rfl)
theorem dX0_code_40 : decode cX0_code 40 = .ok (.lload 4, 2) := dk_22 4 (dk_at dksX0_code_1 17 rfl rfl)
theorem dX0_code_42 : decode cX0_code 42 = .ok (.lreturn, 1) := dk_173 (dk_at dksX0_code_1 19 rfl rfl)
theorem dX0_code_43 : decode cX0_code 43 = .ok (.astore_n 3, 1) := dk_78 (dk_at dksX0_code_1 20 rfl rfl)
theorem dX0_code_44 : decode cX0_code 44 = .ok (.aload_n 0, 1) := dk_42 (dk_at dksX0_code_1 21 rfl rfl)
theorem dX0_code_45 : decode cX0_code 45 = .ok (.aload_n 3, 1) := dk_45 (dk_at dksX0_code_1 22 rfl rfl)
theorem dX0_code_46 : decode cX0_code 46 = .ok (.getfield 17, 3) := dk_180 0 17 (dk_at dksX0_code_2 0 rfl rfl)
theorem dX0_code_49 : decode cX0_code 49 = .ok (.invokevirtual 163, 3) := dk_182 0 163 (dk_at dksX0_code_2 3 rfl rfl)
theorem dX0_code_52 : decode cX0_code 52 = .ok (.i2l, 1) := dk_133 (dk_at dksX0_code_2 6 rfl rfl)
theorem dX0_code_53 : decode cX0_code 53 = .ok (.lreturn, 1) := dk_173 (dk_at dksX0_code_2 7 rfl rfl)
abbrev cX0_closedAt : ByteArray := prog_1_method_13_code
def yX0_closedAt : MethodName := ⟨RX0, "closedAt", "(I)LCodeExchange$Page;"⟩
def dkwX0_closedAt_0 : List UInt8 := [42, 27, 182, 0, 152, 77, 44, 182, 0, 156, 154, 0, 10, 42, 16, 251, 182, 0, 140, 191, 44, 176]
abbrev dktX0_closedAt_0 : List UInt8 := dkwX0_closedAt_0 ++ []
theorem dksX0_closedAt_0 : cX0_closedAt.data.toList.drop 0 = dktX0_closedAt_0 := by decide +kernel
theorem dX0_closedAt_0 : decode cX0_closedAt 0 = .ok (.aload_n 0, 1) := dk_42 (dk_at dksX0_closedAt_0 0 rfl rfl)
theorem dX0_closedAt_1 : decode cX0_closedAt 1 = .ok (.iload_n 1, 1) := dk_27 (dk_at dksX0_closedAt_0 1 rfl rfl)
theorem dX0_closedAt_2 : decode cX0_closedAt 2 = .ok (.invokevirtual 152, 3) := dk_182 0 152 (dk_at dksX0_closedAt_0 2 rfl rfl)
theorem dX0_closedAt_5 : decode cX0_closedAt 5 = .ok (.astore_n 2, 1) := dk_77 (dk_at dksX0_closedAt_0 5 rfl rfl)
theorem dX0_closedAt_6 : decode cX0_closedAt 6 = .ok (.aload_n 2, 1) := dk_44 (dk_at dksX0_closedAt_0 6 rfl rfl)
theorem dX0_closedAt_7 : decode cX0_closedAt 7 = .ok (.invokevirtual 156, 3) := dk_182 0 156 (dk_at dksX0_closedAt_0 7 rfl rfl)
theorem dX0_closedAt_10 : decode cX0_closedAt 10 = .ok (.ifCond .ne 10, 3) := dk_154 0 10 (dk_at dksX0_closedAt_0 10 rfl rfl)
theorem dX0_closedAt_13 : decode cX0_closedAt 13 = .ok (.aload_n 0, 1) := dk_42 (dk_at dksX0_closedAt_0 13 rfl rfl)
theorem dX0_closedAt_14 : decode cX0_closedAt 14 = .ok (.bipush (-5), 2) := dk_16 251 (dk_at dksX0_closedAt_0 14 rfl rfl)
theorem dX0_closedAt_16 : decode cX0_closedAt 16 = .ok (.invokevirtual 140, 3) := dk_182 0 140 (dk_at dksX0_closedAt_0 16 rfl rfl)
theorem dX0_closedAt_19 : decode cX0_closedAt 19 = .ok (.athrow, 1) := dk_191 (dk_at dksX0_closedAt_0 19 rfl rfl)
theorem dX0_closedAt_20 : decode cX0_closedAt 20 = .ok (.aload_n 2, 1) := dk_44 (dk_at dksX0_closedAt_0 20 rfl rfl)
theorem dX0_closedAt_21 : decode cX0_closedAt 21 = .ok (.areturn, 1) := dk_176 (dk_at dksX0_closedAt_0 21 rfl rfl)
abbrev cX0_bytesIn : ByteArray := prog_1_method_25_code
def yX0_bytesIn : MethodName := ⟨RX0, "bytesIn", "(JI)I"⟩
def dkwX0_bytesIn_3 : List UInt8 := [136, 79, 42, 89, 180, 1, 6, 4, 96, 181, 1, 6, 132, 4, 255, 167, 255, 217, 42, 180, 1, 6, 172]
abbrev dktX0_bytesIn_3 : List UInt8 := dkwX0_bytesIn_3 ++ []
def dkwX0_bytesIn_2 : List UInt8 := [21, 4, 155, 0, 40, 42, 180, 0, 49, 42, 180, 1, 6, 31, 16, 8, 21, 4, 104, 123, 20, 1, 9, 127]
abbrev dktX0_bytesIn_2 : List UInt8 := dkwX0_bytesIn_2 ++ dktX0_bytesIn_3
def dkwX0_bytesIn_1 : List UInt8 := [4, 16, 8, 184, 0, 4, 154, 0, 7, 2, 167, 0, 5, 16, 250, 182, 0, 163, 172, 29, 4, 100, 54, 4]
abbrev dktX0_bytesIn_1 : List UInt8 := dkwX0_bytesIn_1 ++ dktX0_bytesIn_2
def dkwX0_bytesIn_0 : List UInt8 := [29, 4, 16, 8, 184, 0, 4, 153, 0, 15, 42, 180, 1, 6, 29, 96, 17, 3, 232, 164, 0, 24, 42, 29]
abbrev dktX0_bytesIn_0 : List UInt8 := dkwX0_bytesIn_0 ++ dktX0_bytesIn_1
theorem dksX0_bytesIn_0 : cX0_bytesIn.data.toList.drop 0 = dktX0_bytesIn_0 := by decide +kernel
theorem dksX0_bytesIn_1 : cX0_bytesIn.data.toList.drop 24 = dktX0_bytesIn_1 := dk_seg dksX0_bytesIn_0 24 rfl rfl
theorem dksX0_bytesIn_2 : cX0_bytesIn.data.toList.drop 48 = dktX0_bytesIn_2 := dk_seg dksX0_bytesIn_1 24 rfl rfl
theorem dksX0_bytesIn_3 : cX0_bytesIn.data.toList.drop 72 = dktX0_bytesIn_3 := dk_seg dksX0_bytesIn_2 24 rfl rfl
theorem dX0_bytesIn_0 : decode cX0_bytesIn 0 = .ok (.iload_n 3, 1) := dk_29 (dk_at dksX0_bytesIn_0 0 rfl rfl)
theorem dX0_bytesIn_1 : decode cX0_bytesIn 1 = .ok (.iconst 1, 1) := dk_4 (dk_at dksX0_bytesIn_0 1 rfl rfl)
theorem dX0_bytesIn_2 : decode cX0_bytesIn 2 = .ok (.bipush 8, 2) := dk_16 8 (dk_at dksX0_bytesIn_0 2 rfl rfl)
theorem dX0_bytesIn_4 : decode cX0_bytesIn 4 = .ok (.invokestatic 4, 3) := dk_184 0 4 (dk_at dksX0_bytesIn_0 4 rfl rfl)
theorem dX0_bytesIn_7 : decode cX0_bytesIn 7 = .ok (.ifCond .eq 15, 3) := dk_153 0 15 (dk_at dksX0_bytesIn_0 7 rfl rfl)
theorem dX0_bytesIn_10 : decode cX0_bytesIn 10 = .ok (.aload_n 0, 1) := dk_42 (dk_at dksX0_bytesIn_0 10 rfl rfl)
theorem dX0_bytesIn_11 : decode cX0_bytesIn 11 = .ok (.getfield 262, 3) := dk_180 1 6 (dk_at dksX0_bytesIn_0 11 rfl rfl)
theorem dX0_bytesIn_14 : decode cX0_bytesIn 14 = .ok (.iload_n 3, 1) := dk_29 (dk_at dksX0_bytesIn_0 14 rfl rfl)
theorem dX0_bytesIn_15 : decode cX0_bytesIn 15 = .ok (.iadd, 1) := dk_96 (dk_at dksX0_bytesIn_0 15 rfl rfl)
theorem dX0_bytesIn_16 : decode cX0_bytesIn 16 = .ok (.sipush 1000, 3) := dk_17 3 232 (dk_at dksX0_bytesIn_0 16 rfl rfl)
theorem dX0_bytesIn_19 : decode cX0_bytesIn 19 = .ok (.if_icmp .le 24, 3) := dk_164 0 24 (dk_at dksX0_bytesIn_0 19 rfl rfl)
theorem dX0_bytesIn_22 : decode cX0_bytesIn 22 = .ok (.aload_n 0, 1) := dk_42 (dk_at dksX0_bytesIn_0 22 rfl rfl)
theorem dX0_bytesIn_23 : decode cX0_bytesIn 23 = .ok (.iload_n 3, 1) := dk_29 (dk_at dksX0_bytesIn_0 23 rfl rfl)
theorem dX0_bytesIn_24 : decode cX0_bytesIn 24 = .ok (.iconst 1, 1) := dk_4 (dk_at dksX0_bytesIn_1 0 rfl rfl)
theorem dX0_bytesIn_25 : decode cX0_bytesIn 25 = .ok (.bipush 8, 2) := dk_16 8 (dk_at dksX0_bytesIn_1 1 rfl rfl)
theorem dX0_bytesIn_27 : decode cX0_bytesIn 27 = .ok (.invokestatic 4, 3) := dk_184 0 4 (dk_at dksX0_bytesIn_1 3 rfl rfl)
theorem dX0_bytesIn_30 : decode cX0_bytesIn 30 = .ok (.ifCond .ne 7, 3) := dk_154 0 7 (dk_at dksX0_bytesIn_1 6 rfl rfl)
theorem dX0_bytesIn_33 : decode cX0_bytesIn 33 = .ok (.iconst (-1), 1) := dk_2 (dk_at dksX0_bytesIn_1 9 rfl rfl)
theorem dX0_bytesIn_34 : decode cX0_bytesIn 34 = .ok (.goto 5, 3) := dk_167 0 5 (dk_at dksX0_bytesIn_1 10 rfl rfl)
theorem dX0_bytesIn_37 : decode cX0_bytesIn 37 = .ok (.bipush (-6), 2) := dk_16 250 (dk_at dksX0_bytesIn_1 13 rfl rfl)
theorem dX0_bytesIn_39 : decode cX0_bytesIn 39 = .ok (.invokevirtual 163, 3) := dk_182 0 163 (dk_at dksX0_bytesIn_1 15 rfl rfl)
theorem dX0_bytesIn_42 : decode cX0_bytesIn 42 = .ok (.ireturn, 1) := dk_172 (dk_at dksX0_bytesIn_1 18 rfl rfl)
theorem dX0_bytesIn_43 : decode cX0_bytesIn 43 = .ok (.iload_n 3, 1) := dk_29 (dk_at dksX0_bytesIn_1 19 rfl rfl)
theorem dX0_bytesIn_44 : decode cX0_bytesIn 44 = .ok (.iconst 1, 1) := dk_4 (dk_at dksX0_bytesIn_1 20 rfl rfl)
theorem dX0_bytesIn_45 : decode cX0_bytesIn 45 = .ok (.isub, 1) := dk_100 (dk_at dksX0_bytesIn_1 21 rfl rfl)
theorem dX0_bytesIn_46 : decode cX0_bytesIn 46 = .ok (.istore 4, 2) := dk_54 4 (dk_at dksX0_bytesIn_1 22 rfl rfl)
theorem dX0_bytesIn_48 : decode cX0_bytesIn 48 = .ok (.iload 4, 2) := dk_21 4 (dk_at dksX0_bytesIn_2 0 rfl rfl)
theorem dX0_bytesIn_50 : decode cX0_bytesIn 50 = .ok (.ifCond .lt 40, 3) := dk_155 0 40 (dk_at dksX0_bytesIn_2 2 rfl rfl)
theorem dX0_bytesIn_53 : decode cX0_bytesIn 53 = .ok (.aload_n 0, 1) := dk_42 (dk_at dksX0_bytesIn_2 5 rfl rfl)
theorem dX0_bytesIn_54 : decode cX0_bytesIn 54 = .ok (.getfield 49, 3) := dk_180 0 49 (dk_at dksX0_bytesIn_2 6 rfl rfl)
theorem dX0_bytesIn_57 : decode cX0_bytesIn 57 = .ok (.aload_n 0, 1) := dk_42 (dk_at dksX0_bytesIn_2 9 rfl rfl)
theorem dX0_bytesIn_58 : decode cX0_bytesIn 58 = .ok (.getfield 262, 3) := dk_180 1 6 (dk_at dksX0_bytesIn_2 10 rfl rfl)
theorem dX0_bytesIn_61 : decode cX0_bytesIn 61 = .ok (.lload_n 1, 1) := dk_31 (dk_at dksX0_bytesIn_2 13 rfl rfl)
theorem dX0_bytesIn_62 : decode cX0_bytesIn 62 = .ok (.bipush 8, 2) := dk_16 8 (dk_at dksX0_bytesIn_2 14 rfl rfl)
theorem dX0_bytesIn_64 : decode cX0_bytesIn 64 = .ok (.iload 4, 2) := dk_21 4 (dk_at dksX0_bytesIn_2 16 rfl rfl)
theorem dX0_bytesIn_66 : decode cX0_bytesIn 66 = .ok (.imul, 1) := dk_104 (dk_at dksX0_bytesIn_2 18 rfl rfl)
theorem dX0_bytesIn_67 : decode cX0_bytesIn 67 = .ok (.lshr, 1) := dk_123 (dk_at dksX0_bytesIn_2 19 rfl rfl)
theorem dX0_bytesIn_68 : decode cX0_bytesIn 68 = .ok (.ldc2_w 265, 3) := dk_20 1 9 (dk_at dksX0_bytesIn_2 20 rfl rfl)
theorem dX0_bytesIn_71 : decode cX0_bytesIn 71 = .ok (.land, 1) := dk_127 (dk_at dksX0_bytesIn_2 23 rfl rfl)
theorem dX0_bytesIn_72 : decode cX0_bytesIn 72 = .ok (.l2i, 1) := dk_136 (dk_at dksX0_bytesIn_3 0 rfl rfl)
theorem dX0_bytesIn_73 : decode cX0_bytesIn 73 = .ok (.iastore, 1) := dk_79 (dk_at dksX0_bytesIn_3 1 rfl rfl)
theorem dX0_bytesIn_74 : decode cX0_bytesIn 74 = .ok (.aload_n 0, 1) := dk_42 (dk_at dksX0_bytesIn_3 2 rfl rfl)
theorem dX0_bytesIn_75 : decode cX0_bytesIn 75 = .ok (.dup, 1) := dk_89 (dk_at dksX0_bytesIn_3 3 rfl rfl)
theorem dX0_bytesIn_76 : decode cX0_bytesIn 76 = .ok (.getfield 262, 3) := dk_180 1 6 (dk_at dksX0_bytesIn_3 4 rfl rfl)
theorem dX0_bytesIn_79 : decode cX0_bytesIn 79 = .ok (.iconst 1, 1) := dk_4 (dk_at dksX0_bytesIn_3 7 rfl rfl)
theorem dX0_bytesIn_80 : decode cX0_bytesIn 80 = .ok (.iadd, 1) := dk_96 (dk_at dksX0_bytesIn_3 8 rfl rfl)
theorem dX0_bytesIn_81 : decode cX0_bytesIn 81 = .ok (.putfield 262, 3) := dk_181 1 6 (dk_at dksX0_bytesIn_3 9 rfl rfl)
theorem dX0_bytesIn_84 : decode cX0_bytesIn 84 = .ok (.iinc 4 (-1), 3) := dk_132 4 255 (dk_at dksX0_bytesIn_3 12 rfl rfl)
theorem dX0_bytesIn_87 : decode cX0_bytesIn 87 = .ok (.goto (-39), 3) := dk_167 255 217 (dk_at dksX0_bytesIn_3 15 rfl rfl)
theorem dX0_bytesIn_90 : decode cX0_bytesIn 90 = .ok (.aload_n 0, 1) := dk_42 (dk_at dksX0_bytesIn_3 18 rfl rfl)
theorem dX0_bytesIn_91 : decode cX0_bytesIn 91 = .ok (.getfield 262, 3) := dk_180 1 6 (dk_at dksX0_bytesIn_3 19 rfl rfl)
theorem dX0_bytesIn_94 : decode cX0_bytesIn 94 = .ok (.ireturn, 1) := dk_172 (dk_at dksX0_bytesIn_3 22 rfl rfl)
abbrev cX0_unitsIn : ByteArray := prog_1_method_26_code
def yX0_unitsIn : MethodName := ⟨RX0, "unitsIn", "(JI)I"⟩
def dkwX0_unitsIn_3 : List UInt8 := [42, 89, 180, 1, 11, 4, 96, 181, 1, 11, 132, 4, 255, 167, 255, 217, 42, 180, 1, 11, 172]
abbrev dktX0_unitsIn_3 : List UInt8 := dkwX0_unitsIn_3 ++ []
def dkwX0_unitsIn_2 : List UInt8 := [155, 0, 40, 42, 180, 0, 53, 42, 180, 1, 11, 31, 16, 16, 21, 4, 104, 123, 20, 1, 14, 127, 136, 79]
abbrev dktX0_unitsIn_2 : List UInt8 := dkwX0_unitsIn_2 ++ dktX0_unitsIn_3
def dkwX0_unitsIn_1 : List UInt8 := [7, 184, 0, 4, 154, 0, 7, 2, 167, 0, 5, 16, 250, 182, 0, 163, 172, 29, 4, 100, 54, 4, 21, 4]
abbrev dktX0_unitsIn_1 : List UInt8 := dkwX0_unitsIn_1 ++ dktX0_unitsIn_2
def dkwX0_unitsIn_0 : List UInt8 := [29, 4, 7, 184, 0, 4, 153, 0, 15, 42, 180, 1, 11, 29, 96, 17, 3, 232, 164, 0, 23, 42, 29, 4]
abbrev dktX0_unitsIn_0 : List UInt8 := dkwX0_unitsIn_0 ++ dktX0_unitsIn_1
theorem dksX0_unitsIn_0 : cX0_unitsIn.data.toList.drop 0 = dktX0_unitsIn_0 := by decide +kernel
theorem dksX0_unitsIn_1 : cX0_unitsIn.data.toList.drop 24 = dktX0_unitsIn_1 := dk_seg dksX0_unitsIn_0 24 rfl rfl
theorem dksX0_unitsIn_2 : cX0_unitsIn.data.toList.drop 48 = dktX0_unitsIn_2 := dk_seg dksX0_unitsIn_1 24 rfl rfl
theorem dksX0_unitsIn_3 : cX0_unitsIn.data.toList.drop 72 = dktX0_unitsIn_3 := dk_seg dksX0_unitsIn_2 24 rfl rfl
theorem dX0_unitsIn_0 : decode cX0_unitsIn 0 = .ok (.iload_n 3, 1) := dk_29 (dk_at dksX0_unitsIn_0 0 rfl rfl)
theorem dX0_unitsIn_1 : decode cX0_unitsIn 1 = .ok (.iconst 1, 1) := dk_4 (dk_at dksX0_unitsIn_0 1 rfl rfl)
theorem dX0_unitsIn_2 : decode cX0_unitsIn 2 = .ok (.iconst 4, 1) := dk_7 (dk_at dksX0_unitsIn_0 2 rfl rfl)
theorem dX0_unitsIn_3 : decode cX0_unitsIn 3 = .ok (.invokestatic 4, 3) := dk_184 0 4 (dk_at dksX0_unitsIn_0 3 rfl rfl)
theorem dX0_unitsIn_6 : decode cX0_unitsIn 6 = .ok (.ifCond .eq 15, 3) := dk_153 0 15 (dk_at dksX0_unitsIn_0 6 rfl rfl)
theorem dX0_unitsIn_9 : decode cX0_unitsIn 9 = .ok (.aload_n 0, 1) := dk_42 (dk_at dksX0_unitsIn_0 9 rfl rfl)
theorem dX0_unitsIn_10 : decode cX0_unitsIn 10 = .ok (.getfield 267, 3) := dk_180 1 11 (dk_at dksX0_unitsIn_0 10 rfl rfl)
theorem dX0_unitsIn_13 : decode cX0_unitsIn 13 = .ok (.iload_n 3, 1) := dk_29 (dk_at dksX0_unitsIn_0 13 rfl rfl)
theorem dX0_unitsIn_14 : decode cX0_unitsIn 14 = .ok (.iadd, 1) := dk_96 (dk_at dksX0_unitsIn_0 14 rfl rfl)
theorem dX0_unitsIn_15 : decode cX0_unitsIn 15 = .ok (.sipush 1000, 3) := dk_17 3 232 (dk_at dksX0_unitsIn_0 15 rfl rfl)
theorem dX0_unitsIn_18 : decode cX0_unitsIn 18 = .ok (.if_icmp .le 23, 3) := dk_164 0 23 (dk_at dksX0_unitsIn_0 18 rfl rfl)
theorem dX0_unitsIn_21 : decode cX0_unitsIn 21 = .ok (.aload_n 0, 1) := dk_42 (dk_at dksX0_unitsIn_0 21 rfl rfl)
theorem dX0_unitsIn_22 : decode cX0_unitsIn 22 = .ok (.iload_n 3, 1) := dk_29 (dk_at dksX0_unitsIn_0 22 rfl rfl)
theorem dX0_unitsIn_23 : decode cX0_unitsIn 23 = .ok (.iconst 1, 1) := dk_4 (dk_at dksX0_unitsIn_0 23 rfl rfl)
theorem dX0_unitsIn_24 : decode cX0_unitsIn 24 = .ok (.iconst 4, 1) := dk_7 (dk_at dksX0_unitsIn_1 0 rfl rfl)
theorem dX0_unitsIn_25 : decode cX0_unitsIn 25 = .ok (.invokestatic 4, 3) := dk_184 0 4 (dk_at dksX0_unitsIn_1 1 rfl rfl)
theorem dX0_unitsIn_28 : decode cX0_unitsIn 28 = .ok (.ifCond .ne 7, 3) := dk_154 0 7 (dk_at dksX0_unitsIn_1 4 rfl rfl)
theorem dX0_unitsIn_31 : decode cX0_unitsIn 31 = .ok (.iconst (-1), 1) := dk_2 (dk_at dksX0_unitsIn_1 7 rfl rfl)
theorem dX0_unitsIn_32 : decode cX0_unitsIn 32 = .ok (.goto 5, 3) := dk_167 0 5 (dk_at dksX0_unitsIn_1 8 rfl rfl)
theorem dX0_unitsIn_35 : decode cX0_unitsIn 35 = .ok (.bipush (-6), 2) := dk_16 250 (dk_at dksX0_unitsIn_1 11 rfl rfl)
theorem dX0_unitsIn_37 : decode cX0_unitsIn 37 = .ok (.invokevirtual 163, 3) := dk_182 0 163 (dk_at dksX0_unitsIn_1 13 rfl rfl)
theorem dX0_unitsIn_40 : decode cX0_unitsIn 40 = .ok (.ireturn, 1) := dk_172 (dk_at dksX0_unitsIn_1 16 rfl rfl)
theorem dX0_unitsIn_41 : decode cX0_unitsIn 41 = .ok (.iload_n 3, 1) := dk_29 (dk_at dksX0_unitsIn_1 17 rfl rfl)
theorem dX0_unitsIn_42 : decode cX0_unitsIn 42 = .ok (.iconst 1, 1) := dk_4 (dk_at dksX0_unitsIn_1 18 rfl rfl)
theorem dX0_unitsIn_43 : decode cX0_unitsIn 43 = .ok (.isub, 1) := dk_100 (dk_at dksX0_unitsIn_1 19 rfl rfl)
theorem dX0_unitsIn_44 : decode cX0_unitsIn 44 = .ok (.istore 4, 2) := dk_54 4 (dk_at dksX0_unitsIn_1 20 rfl rfl)
theorem dX0_unitsIn_46 : decode cX0_unitsIn 46 = .ok (.iload 4, 2) := dk_21 4 (dk_at dksX0_unitsIn_1 22 rfl rfl)
theorem dX0_unitsIn_48 : decode cX0_unitsIn 48 = .ok (.ifCond .lt 40, 3) := dk_155 0 40 (dk_at dksX0_unitsIn_2 0 rfl rfl)
theorem dX0_unitsIn_51 : decode cX0_unitsIn 51 = .ok (.aload_n 0, 1) := dk_42 (dk_at dksX0_unitsIn_2 3 rfl rfl)
theorem dX0_unitsIn_52 : decode cX0_unitsIn 52 = .ok (.getfield 53, 3) := dk_180 0 53 (dk_at dksX0_unitsIn_2 4 rfl rfl)
theorem dX0_unitsIn_55 : decode cX0_unitsIn 55 = .ok (.aload_n 0, 1) := dk_42 (dk_at dksX0_unitsIn_2 7 rfl rfl)
theorem dX0_unitsIn_56 : decode cX0_unitsIn 56 = .ok (.getfield 267, 3) := dk_180 1 11 (dk_at dksX0_unitsIn_2 8 rfl rfl)
theorem dX0_unitsIn_59 : decode cX0_unitsIn 59 = .ok (.lload_n 1, 1) := dk_31 (dk_at dksX0_unitsIn_2 11 rfl rfl)
theorem dX0_unitsIn_60 : decode cX0_unitsIn 60 = .ok (.bipush 16, 2) := dk_16 16 (dk_at dksX0_unitsIn_2 12 rfl rfl)
theorem dX0_unitsIn_62 : decode cX0_unitsIn 62 = .ok (.iload 4, 2) := dk_21 4 (dk_at dksX0_unitsIn_2 14 rfl rfl)
theorem dX0_unitsIn_64 : decode cX0_unitsIn 64 = .ok (.imul, 1) := dk_104 (dk_at dksX0_unitsIn_2 16 rfl rfl)
theorem dX0_unitsIn_65 : decode cX0_unitsIn 65 = .ok (.lshr, 1) := dk_123 (dk_at dksX0_unitsIn_2 17 rfl rfl)
theorem dX0_unitsIn_66 : decode cX0_unitsIn 66 = .ok (.ldc2_w 270, 3) := dk_20 1 14 (dk_at dksX0_unitsIn_2 18 rfl rfl)
theorem dX0_unitsIn_69 : decode cX0_unitsIn 69 = .ok (.land, 1) := dk_127 (dk_at dksX0_unitsIn_2 21 rfl rfl)
theorem dX0_unitsIn_70 : decode cX0_unitsIn 70 = .ok (.l2i, 1) := dk_136 (dk_at dksX0_unitsIn_2 22 rfl rfl)
theorem dX0_unitsIn_71 : decode cX0_unitsIn 71 = .ok (.iastore, 1) := dk_79 (dk_at dksX0_unitsIn_2 23 rfl rfl)
theorem dX0_unitsIn_72 : decode cX0_unitsIn 72 = .ok (.aload_n 0, 1) := dk_42 (dk_at dksX0_unitsIn_3 0 rfl rfl)
theorem dX0_unitsIn_73 : decode cX0_unitsIn 73 = .ok (.dup, 1) := dk_89 (dk_at dksX0_unitsIn_3 1 rfl rfl)
theorem dX0_unitsIn_74 : decode cX0_unitsIn 74 = .ok (.getfield 267, 3) := dk_180 1 11 (dk_at dksX0_unitsIn_3 2 rfl rfl)
theorem dX0_unitsIn_77 : decode cX0_unitsIn 77 = .ok (.iconst 1, 1) := dk_4 (dk_at dksX0_unitsIn_3 5 rfl rfl)
theorem dX0_unitsIn_78 : decode cX0_unitsIn 78 = .ok (.iadd, 1) := dk_96 (dk_at dksX0_unitsIn_3 6 rfl rfl)
theorem dX0_unitsIn_79 : decode cX0_unitsIn 79 = .ok (.putfield 267, 3) := dk_181 1 11 (dk_at dksX0_unitsIn_3 7 rfl rfl)
theorem dX0_unitsIn_82 : decode cX0_unitsIn 82 = .ok (.iinc 4 (-1), 3) := dk_132 4 255 (dk_at dksX0_unitsIn_3 10 rfl rfl)
theorem dX0_unitsIn_85 : decode cX0_unitsIn 85 = .ok (.goto (-39), 3) := dk_167 255 217 (dk_at dksX0_unitsIn_3 13 rfl rfl)
theorem dX0_unitsIn_88 : decode cX0_unitsIn 88 = .ok (.aload_n 0, 1) := dk_42 (dk_at dksX0_unitsIn_3 16 rfl rfl)
theorem dX0_unitsIn_89 : decode cX0_unitsIn 89 = .ok (.getfield 267, 3) := dk_180 1 11 (dk_at dksX0_unitsIn_3 17 rfl rfl)
theorem dX0_unitsIn_92 : decode cX0_unitsIn 92 = .ok (.ireturn, 1) := dk_172 (dk_at dksX0_unitsIn_3 20 rfl rfl)
abbrev cX0_fill : ByteArray := prog_1_method_27_code
def yX0_fill : MethodName := ⟨RX0, "fill", "(I)I"⟩
def dkwX0_fill_7 : List UInt8 := [160, 0, 7, 28, 167, 0, 7, 42, 180, 1, 11, 181, 1, 11, 28, 172]
abbrev dktX0_fill_7 : List UInt8 := dkwX0_fill_7 ++ []
def dkwX0_fill_6 : List UInt8 := [184, 1, 25, 42, 27, 5, 160, 0, 7, 28, 167, 0, 7, 42, 180, 1, 6, 181, 1, 6, 42, 27, 6]
abbrev dktX0_fill_6 : List UInt8 := dkwX0_fill_6 ++ dktX0_fill_7
def dkwX0_fill_5 : List UInt8 := [180, 1, 22, 3, 27, 5, 160, 0, 10, 42, 180, 0, 49, 167, 0, 7, 42, 180, 0, 53, 3, 28]
abbrev dktX0_fill_5 : List UInt8 := dkwX0_fill_5 ++ dktX0_fill_6
def dkwX0_fill_4 : List UInt8 := [16, 254, 167, 0, 5, 16, 250, 182, 0, 163, 172, 42, 180, 0, 102, 180, 1, 19, 61, 42, 180, 0, 102]
abbrev dktX0_fill_4 : List UInt8 := dkwX0_fill_4 ++ dktX0_fill_5
def dkwX0_fill_3 : List UInt8 := [180, 0, 102, 180, 1, 19, 17, 3, 232, 164, 0, 25, 42, 42, 180, 1, 16, 7, 27, 100, 159, 0, 8]
abbrev dktX0_fill_3 : List UInt8 := dkwX0_fill_3 ++ dktX0_fill_4
def dkwX0_fill_2 : List UInt8 := [160, 0, 11, 42, 3, 181, 1, 11, 167, 0, 119, 42, 180, 1, 16, 7, 27, 100, 160, 0, 16, 42]
abbrev dktX0_fill_2 : List UInt8 := dkwX0_fill_2 ++ dktX0_fill_3
def dkwX0_fill_1 : List UInt8 := [167, 0, 7, 42, 180, 1, 11, 61, 27, 154, 0, 11, 42, 3, 181, 1, 6, 167, 0, 132, 27, 4]
abbrev dktX0_fill_1 : List UInt8 := dkwX0_fill_1 ++ dktX0_fill_2
def dkwX0_fill_0 : List UInt8 := [27, 3, 6, 184, 0, 4, 154, 0, 9, 42, 2, 182, 0, 163, 172, 27, 154, 0, 10, 42, 180, 1, 6]
abbrev dktX0_fill_0 : List UInt8 := dkwX0_fill_0 ++ dktX0_fill_1
theorem dksX0_fill_0 : cX0_fill.data.toList.drop 0 = dktX0_fill_0 := by decide +kernel
theorem dksX0_fill_1 : cX0_fill.data.toList.drop 23 = dktX0_fill_1 := dk_seg dksX0_fill_0 23 rfl rfl
theorem dksX0_fill_2 : cX0_fill.data.toList.drop 45 = dktX0_fill_2 := dk_seg dksX0_fill_1 22 rfl rfl
theorem dksX0_fill_3 : cX0_fill.data.toList.drop 67 = dktX0_fill_3 := dk_seg dksX0_fill_2 22 rfl rfl
theorem dksX0_fill_4 : cX0_fill.data.toList.drop 90 = dktX0_fill_4 := dk_seg dksX0_fill_3 23 rfl rfl
theorem dksX0_fill_5 : cX0_fill.data.toList.drop 113 = dktX0_fill_5 := dk_seg dksX0_fill_4 23 rfl rfl
theorem dksX0_fill_6 : cX0_fill.data.toList.drop 135 = dktX0_fill_6 := dk_seg dksX0_fill_5 22 rfl rfl
theorem dksX0_fill_7 : cX0_fill.data.toList.drop 158 = dktX0_fill_7 := dk_seg dksX0_fill_6 23 rfl rfl
theorem dX0_fill_0 : decode cX0_fill 0 = .ok (.iload_n 1, 1) := dk_27 (dk_at dksX0_fill_0 0 rfl rfl)
theorem dX0_fill_1 : decode cX0_fill 1 = .ok (.iconst 0, 1) := dk_3 (dk_at dksX0_fill_0 1 rfl rfl)
theorem dX0_fill_2 : decode cX0_fill 2 = .ok (.iconst 3, 1) := dk_6 (dk_at dksX0_fill_0 2 rfl rfl)
theorem dX0_fill_3 : decode cX0_fill 3 = .ok (.invokestatic 4, 3) := dk_184 0 4 (dk_at dksX0_fill_0 3 rfl rfl)
theorem dX0_fill_6 : decode cX0_fill 6 = .ok (.ifCond .ne 9, 3) := dk_154 0 9 (dk_at dksX0_fill_0 6 rfl rfl)
theorem dX0_fill_9 : decode cX0_fill 9 = .ok (.aload_n 0, 1) := dk_42 (dk_at dksX0_fill_0 9 rfl rfl)
theorem dX0_fill_10 : decode cX0_fill 10 = .ok (.iconst (-1), 1) := dk_2 (dk_at dksX0_fill_0 10 rfl rfl)
theorem dX0_fill_11 : decode cX0_fill 11 = .ok (.invokevirtual 163, 3) := dk_182 0 163 (dk_at dksX0_fill_0 11 rfl rfl)
theorem dX0_fill_14 : decode cX0_fill 14 = .ok (.ireturn, 1) := dk_172 (dk_at dksX0_fill_0 14 rfl rfl)
theorem dX0_fill_15 : decode cX0_fill 15 = .ok (.iload_n 1, 1) := dk_27 (dk_at dksX0_fill_0 15 rfl rfl)
theorem dX0_fill_16 : decode cX0_fill 16 = .ok (.ifCond .ne 10, 3) := dk_154 0 10 (dk_at dksX0_fill_0 16 rfl rfl)
theorem dX0_fill_19 : decode cX0_fill 19 = .ok (.aload_n 0, 1) := dk_42 (dk_at dksX0_fill_0 19 rfl rfl)
theorem dX0_fill_20 : decode cX0_fill 20 = .ok (.getfield 262, 3) := dk_180 1 6 (dk_at dksX0_fill_0 20 rfl rfl)
theorem dX0_fill_23 : decode cX0_fill 23 = .ok (.goto 7, 3) := dk_167 0 7 (dk_at dksX0_fill_1 0 rfl rfl)
theorem dX0_fill_26 : decode cX0_fill 26 = .ok (.aload_n 0, 1) := dk_42 (dk_at dksX0_fill_1 3 rfl rfl)
theorem dX0_fill_27 : decode cX0_fill 27 = .ok (.getfield 267, 3) := dk_180 1 11 (dk_at dksX0_fill_1 4 rfl rfl)
theorem dX0_fill_30 : decode cX0_fill 30 = .ok (.istore_n 2, 1) := dk_61 (dk_at dksX0_fill_1 7 rfl rfl)
theorem dX0_fill_31 : decode cX0_fill 31 = .ok (.iload_n 1, 1) := dk_27 (dk_at dksX0_fill_1 8 rfl rfl)
theorem dX0_fill_32 : decode cX0_fill 32 = .ok (.ifCond .ne 11, 3) := dk_154 0 11 (dk_at dksX0_fill_1 9 rfl rfl)
theorem dX0_fill_35 : decode cX0_fill 35 = .ok (.aload_n 0, 1) := dk_42 (dk_at dksX0_fill_1 12 rfl rfl)
theorem dX0_fill_36 : decode cX0_fill 36 = .ok (.iconst 0, 1) := dk_3 (dk_at dksX0_fill_1 13 rfl rfl)
theorem dX0_fill_37 : decode cX0_fill 37 = .ok (.putfield 262, 3) := dk_181 1 6 (dk_at dksX0_fill_1 14 rfl rfl)
theorem dX0_fill_40 : decode cX0_fill 40 = .ok (.goto 132, 3) := dk_167 0 132 (dk_at dksX0_fill_1 17 rfl rfl)
theorem dX0_fill_43 : decode cX0_fill 43 = .ok (.iload_n 1, 1) := dk_27 (dk_at dksX0_fill_1 20 rfl rfl)
theorem dX0_fill_44 : decode cX0_fill 44 = .ok (.iconst 1, 1) := dk_4 (dk_at dksX0_fill_1 21 rfl rfl)
theorem dX0_fill_45 : decode cX0_fill 45 = .ok (.if_icmp .ne 11, 3) := dk_160 0 11 (dk_at dksX0_fill_2 0 rfl rfl)
theorem dX0_fill_48 : decode cX0_fill 48 = .ok (.aload_n 0, 1) := dk_42 (dk_at dksX0_fill_2 3 rfl rfl)
theorem dX0_fill_49 : decode cX0_fill 49 = .ok (.iconst 0, 1) := dk_3 (dk_at dksX0_fill_2 4 rfl rfl)
theorem dX0_fill_50 : decode cX0_fill 50 = .ok (.putfield 267, 3) := dk_181 1 11 (dk_at dksX0_fill_2 5 rfl rfl)
theorem dX0_fill_53 : decode cX0_fill 53 = .ok (.goto 119, 3) := dk_167 0 119 (dk_at dksX0_fill_2 8 rfl rfl)
theorem dX0_fill_56 : decode cX0_fill 56 = .ok (.aload_n 0, 1) := dk_42 (dk_at dksX0_fill_2 11 rfl rfl)
theorem dX0_fill_57 : decode cX0_fill 57 = .ok (.getfield 272, 3) := dk_180 1 16 (dk_at dksX0_fill_2 12 rfl rfl)
theorem dX0_fill_60 : decode cX0_fill 60 = .ok (.iconst 4, 1) := dk_7 (dk_at dksX0_fill_2 15 rfl rfl)
theorem dX0_fill_61 : decode cX0_fill 61 = .ok (.iload_n 1, 1) := dk_27 (dk_at dksX0_fill_2 16 rfl rfl)
theorem dX0_fill_62 : decode cX0_fill 62 = .ok (.isub, 1) := dk_100 (dk_at dksX0_fill_2 17 rfl rfl)
theorem dX0_fill_63 : decode cX0_fill 63 = .ok (.if_icmp .ne 16, 3) := dk_160 0 16 (dk_at dksX0_fill_2 18 rfl rfl)
theorem dX0_fill_66 : decode cX0_fill 66 = .ok (.aload_n 0, 1) := dk_42 (dk_at dksX0_fill_2 21 rfl rfl)
theorem dX0_fill_67 : decode cX0_fill 67 = .ok (.getfield 102, 3) := dk_180 0 102 (dk_at dksX0_fill_3 0 rfl rfl)
theorem dX0_fill_70 : decode cX0_fill 70 = .ok (.getfield 275, 3) := dk_180 1 19 (dk_at dksX0_fill_3 3 rfl rfl)
theorem dX0_fill_73 : decode cX0_fill 73 = .ok (.sipush 1000, 3) := dk_17 3 232 (dk_at dksX0_fill_3 6 rfl rfl)
theorem dX0_fill_76 : decode cX0_fill 76 = .ok (.if_icmp .le 25, 3) := dk_164 0 25 (dk_at dksX0_fill_3 9 rfl rfl)
theorem dX0_fill_79 : decode cX0_fill 79 = .ok (.aload_n 0, 1) := dk_42 (dk_at dksX0_fill_3 12 rfl rfl)
theorem dX0_fill_80 : decode cX0_fill 80 = .ok (.aload_n 0, 1) := dk_42 (dk_at dksX0_fill_3 13 rfl rfl)
theorem dX0_fill_81 : decode cX0_fill 81 = .ok (.getfield 272, 3) := dk_180 1 16 (dk_at dksX0_fill_3 14 rfl rfl)
theorem dX0_fill_84 : decode cX0_fill 84 = .ok (.iconst 4, 1) := dk_7 (dk_at dksX0_fill_3 17 rfl rfl)
theorem dX0_fill_85 : decode cX0_fill 85 = .ok (.iload_n 1, 1) := dk_27 (dk_at dksX0_fill_3 18 rfl rfl)
theorem dX0_fill_86 : decode cX0_fill 86 = .ok (.isub, 1) := dk_100 (dk_at dksX0_fill_3 19 rfl rfl)
theorem dX0_fill_87 : decode cX0_fill 87 = .ok (.if_icmp .eq 8, 3) := dk_159 0 8 (dk_at dksX0_fill_3 20 rfl rfl)
theorem dX0_fill_90 : decode cX0_fill 90 = .ok (.bipush (-2), 2) := dk_16 254 (dk_at dksX0_fill_4 0 rfl rfl)
theorem dX0_fill_92 : decode cX0_fill 92 = .ok (.goto 5, 3) := dk_167 0 5 (dk_at dksX0_fill_4 2 rfl rfl)
theorem dX0_fill_95 : decode cX0_fill 95 = .ok (.bipush (-6), 2) := dk_16 250 (dk_at dksX0_fill_4 5 rfl rfl)
theorem dX0_fill_97 : decode cX0_fill 97 = .ok (.invokevirtual 163, 3) := dk_182 0 163 (dk_at dksX0_fill_4 7 rfl rfl)
theorem dX0_fill_100 : decode cX0_fill 100 = .ok (.ireturn, 1) := dk_172 (dk_at dksX0_fill_4 10 rfl rfl)
theorem dX0_fill_101 : decode cX0_fill 101 = .ok (.aload_n 0, 1) := dk_42 (dk_at dksX0_fill_4 11 rfl rfl)
theorem dX0_fill_102 : decode cX0_fill 102 = .ok (.getfield 102, 3) := dk_180 0 102 (dk_at dksX0_fill_4 12 rfl rfl)
theorem dX0_fill_105 : decode cX0_fill 105 = .ok (.getfield 275, 3) := dk_180 1 19 (dk_at dksX0_fill_4 15 rfl rfl)
theorem dX0_fill_108 : decode cX0_fill 108 = .ok (.istore_n 2, 1) := dk_61 (dk_at dksX0_fill_4 18 rfl rfl)
theorem dX0_fill_109 : decode cX0_fill 109 = .ok (.aload_n 0, 1) := dk_42 (dk_at dksX0_fill_4 19 rfl rfl)
theorem dX0_fill_110 : decode cX0_fill 110 = .ok (.getfield 102, 3) := dk_180 0 102 (dk_at dksX0_fill_4 20 rfl rfl)
theorem dX0_fill_113 : decode cX0_fill 113 = .ok (.getfield 278, 3) := dk_180 1 22 (dk_at dksX0_fill_5 0 rfl rfl)
theorem dX0_fill_116 : decode cX0_fill 116 = .ok (.iconst 0, 1) := dk_3 (dk_at dksX0_fill_5 3 rfl rfl)
theorem dX0_fill_117 : decode cX0_fill 117 = .ok (.iload_n 1, 1) := dk_27 (dk_at dksX0_fill_5 4 rfl rfl)
theorem dX0_fill_118 : decode cX0_fill 118 = .ok (.iconst 2, 1) := dk_5 (dk_at dksX0_fill_5 5 rfl rfl)
theorem dX0_fill_119 : decode cX0_fill 119 = .ok (.if_icmp .ne 10, 3) := dk_160 0 10 (dk_at dksX0_fill_5 6 rfl rfl)
theorem dX0_fill_122 : decode cX0_fill 122 = .ok (.aload_n 0, 1) := dk_42 (dk_at dksX0_fill_5 9 rfl rfl)
theorem dX0_fill_123 : decode cX0_fill 123 = .ok (.getfield 49, 3) := dk_180 0 49 (dk_at dksX0_fill_5 10 rfl rfl)
theorem dX0_fill_126 : decode cX0_fill 126 = .ok (.goto 7, 3) := dk_167 0 7 (dk_at dksX0_fill_5 13 rfl rfl)
theorem dX0_fill_129 : decode cX0_fill 129 = .ok (.aload_n 0, 1) := dk_42 (dk_at dksX0_fill_5 16 rfl rfl)
theorem dX0_fill_130 : decode cX0_fill 130 = .ok (.getfield 53, 3) := dk_180 0 53 (dk_at dksX0_fill_5 17 rfl rfl)
theorem dX0_fill_133 : decode cX0_fill 133 = .ok (.iconst 0, 1) := dk_3 (dk_at dksX0_fill_5 20 rfl rfl)
theorem dX0_fill_134 : decode cX0_fill 134 = .ok (.iload_n 2, 1) := dk_28 (dk_at dksX0_fill_5 21 rfl rfl)
theorem dX0_fill_135 : decode cX0_fill 135 = .ok (.invokestatic 281, 3) := dk_184 1 25 (dk_at dksX0_fill_6 0 rfl rfl)
theorem dX0_fill_138 : decode cX0_fill 138 = .ok (.aload_n 0, 1) := dk_42 (dk_at dksX0_fill_6 3 rfl rfl)
theorem dX0_fill_139 : decode cX0_fill 139 = .ok (.iload_n 1, 1) := dk_27 (dk_at dksX0_fill_6 4 rfl rfl)
theorem dX0_fill_140 : decode cX0_fill 140 = .ok (.iconst 2, 1) := dk_5 (dk_at dksX0_fill_6 5 rfl rfl)
theorem dX0_fill_141 : decode cX0_fill 141 = .ok (.if_icmp .ne 7, 3) := dk_160 0 7 (dk_at dksX0_fill_6 6 rfl rfl)
theorem dX0_fill_144 : decode cX0_fill 144 = .ok (.iload_n 2, 1) := dk_28 (dk_at dksX0_fill_6 9 rfl rfl)
theorem dX0_fill_145 : decode cX0_fill 145 = .ok (.goto 7, 3) := dk_167 0 7 (dk_at dksX0_fill_6 10 rfl rfl)
theorem dX0_fill_148 : decode cX0_fill 148 = .ok (.aload_n 0, 1) := dk_42 (dk_at dksX0_fill_6 13 rfl rfl)
theorem dX0_fill_149 : decode cX0_fill 149 = .ok (.getfield 262, 3) := dk_180 1 6 (dk_at dksX0_fill_6 14 rfl rfl)
theorem dX0_fill_152 : decode cX0_fill 152 = .ok (.putfield 262, 3) := dk_181 1 6 (dk_at dksX0_fill_6 17 rfl rfl)
theorem dX0_fill_155 : decode cX0_fill 155 = .ok (.aload_n 0, 1) := dk_42 (dk_at dksX0_fill_6 20 rfl rfl)
theorem dX0_fill_156 : decode cX0_fill 156 = .ok (.iload_n 1, 1) := dk_27 (dk_at dksX0_fill_6 21 rfl rfl)
theorem dX0_fill_157 : decode cX0_fill 157 = .ok (.iconst 3, 1) := dk_6 (dk_at dksX0_fill_6 22 rfl rfl)
theorem dX0_fill_158 : decode cX0_fill 158 = .ok (.if_icmp .ne 7, 3) := dk_160 0 7 (dk_at dksX0_fill_7 0 rfl rfl)
theorem dX0_fill_161 : decode cX0_fill 161 = .ok (.iload_n 2, 1) := dk_28 (dk_at dksX0_fill_7 3 rfl rfl)
theorem dX0_fill_162 : decode cX0_fill 162 = .ok (.goto 7, 3) := dk_167 0 7 (dk_at dksX0_fill_7 4 rfl rfl)
theorem dX0_fill_165 : decode cX0_fill 165 = .ok (.aload_n 0, 1) := dk_42 (dk_at dksX0_fill_7 7 rfl rfl)
theorem dX0_fill_166 : decode cX0_fill 166 = .ok (.getfield 267, 3) := dk_180 1 11 (dk_at dksX0_fill_7 8 rfl rfl)
theorem dX0_fill_169 : decode cX0_fill 169 = .ok (.putfield 267, 3) := dk_181 1 11 (dk_at dksX0_fill_7 11 rfl rfl)
theorem dX0_fill_172 : decode cX0_fill 172 = .ok (.iload_n 2, 1) := dk_28 (dk_at dksX0_fill_7 14 rfl rfl)
theorem dX0_fill_173 : decode cX0_fill 173 = .ok (.ireturn, 1) := dk_172 (dk_at dksX0_fill_7 15 rfl rfl)
abbrev cX0_decode : ByteArray := prog_1_method_30_code
def yX0_decode : MethodName := ⟨RX0, "decode", "(II)I"⟩
def dkwX0_decode_2 : List UInt8 := [182, 1, 46, 42, 4, 182, 1, 50, 172, 78, 42, 45, 180, 0, 17, 182, 0, 163, 172]
abbrev dktX0_decode_2 : List UInt8 := dkwX0_decode_2 ++ []
def dkwX0_decode_1 : List UInt8 := [182, 1, 43, 42, 42, 180, 0, 90, 45, 28, 42, 180, 0, 49, 42, 180, 1, 6, 42, 180, 0, 106]
abbrev dktX0_decode_1 : List UInt8 := dkwX0_decode_1 ++ dktX0_decode_2
def dkwX0_decode_0 : List UInt8 := [42, 27, 182, 0, 255, 78, 42, 28, 3, 6, 184, 0, 4, 2, 182, 0, 184, 42, 180, 0, 106, 3]
abbrev dktX0_decode_0 : List UInt8 := dkwX0_decode_0 ++ dktX0_decode_1
theorem dksX0_decode_0 : cX0_decode.data.toList.drop 0 = dktX0_decode_0 := by decide +kernel
theorem dksX0_decode_1 : cX0_decode.data.toList.drop 22 = dktX0_decode_1 := dk_seg dksX0_decode_0 22 rfl rfl
theorem dksX0_decode_2 : cX0_decode.data.toList.drop 44 = dktX0_decode_2 := dk_seg dksX0_decode_1 22 rfl rfl
theorem dX0_decode_0 : decode cX0_decode 0 = .ok (.aload_n 0, 1) := dk_42 (dk_at dksX0_decode_0 0 rfl rfl)
theorem dX0_decode_1 : decode cX0_decode 1 = .ok (.iload_n 1, 1) := dk_27 (dk_at dksX0_decode_0 1 rfl rfl)
theorem dX0_decode_2 : decode cX0_decode 2 = .ok (.invokevirtual 255, 3) := dk_182 0 255 (dk_at dksX0_decode_0 2 rfl rfl)
theorem dX0_decode_5 : decode cX0_decode 5 = .ok (.astore_n 3, 1) := dk_78 (dk_at dksX0_decode_0 5 rfl rfl)
theorem dX0_decode_6 : decode cX0_decode 6 = .ok (.aload_n 0, 1) := dk_42 (dk_at dksX0_decode_0 6 rfl rfl)
theorem dX0_decode_7 : decode cX0_decode 7 = .ok (.iload_n 2, 1) := dk_28 (dk_at dksX0_decode_0 7 rfl rfl)
theorem dX0_decode_8 : decode cX0_decode 8 = .ok (.iconst 0, 1) := dk_3 (dk_at dksX0_decode_0 8 rfl rfl)
theorem dX0_decode_9 : decode cX0_decode 9 = .ok (.iconst 3, 1) := dk_6 (dk_at dksX0_decode_0 9 rfl rfl)
theorem dX0_decode_10 : decode cX0_decode 10 = .ok (.invokestatic 4, 3) := dk_184 0 4 (dk_at dksX0_decode_0 10 rfl rfl)
theorem dX0_decode_13 : decode cX0_decode 13 = .ok (.iconst (-1), 1) := dk_2 (dk_at dksX0_decode_0 13 rfl rfl)
theorem dX0_decode_14 : decode cX0_decode 14 = .ok (.invokevirtual 184, 3) := dk_182 0 184 (dk_at dksX0_decode_0 14 rfl rfl)
theorem dX0_decode_17 : decode cX0_decode 17 = .ok (.aload_n 0, 1) := dk_42 (dk_at dksX0_decode_0 17 rfl rfl)
theorem dX0_decode_18 : decode cX0_decode 18 = .ok (.getfield 106, 3) := dk_180 0 106 (dk_at dksX0_decode_0 18 rfl rfl)
theorem dX0_decode_21 : decode cX0_decode 21 = .ok (.iconst 0, 1) := dk_3 (dk_at dksX0_decode_0 21 rfl rfl)
theorem dX0_decode_22 : decode cX0_decode 22 = .ok (.invokevirtual 299, 3) := dk_182 1 43 (dk_at dksX0_decode_1 0 rfl rfl)
theorem dX0_decode_25 : decode cX0_decode 25 = .ok (.aload_n 0, 1) := dk_42 (dk_at dksX0_decode_1 3 rfl rfl)
theorem dX0_decode_26 : decode cX0_decode 26 = .ok (.aload_n 0, 1) := dk_42 (dk_at dksX0_decode_1 4 rfl rfl)
theorem dX0_decode_27 : decode cX0_decode 27 = .ok (.getfield 90, 3) := dk_180 0 90 (dk_at dksX0_decode_1 5 rfl rfl)
theorem dX0_decode_30 : decode cX0_decode 30 = .ok (.aload_n 3, 1) := dk_45 (dk_at dksX0_decode_1 8 rfl rfl)
theorem dX0_decode_31 : decode cX0_decode 31 = .ok (.iload_n 2, 1) := dk_28 (dk_at dksX0_decode_1 9 rfl rfl)
theorem dX0_decode_32 : decode cX0_decode 32 = .ok (.aload_n 0, 1) := dk_42 (dk_at dksX0_decode_1 10 rfl rfl)
theorem dX0_decode_33 : decode cX0_decode 33 = .ok (.getfield 49, 3) := dk_180 0 49 (dk_at dksX0_decode_1 11 rfl rfl)
theorem dX0_decode_36 : decode cX0_decode 36 = .ok (.aload_n 0, 1) := dk_42 (dk_at dksX0_decode_1 14 rfl rfl)
theorem dX0_decode_37 : decode cX0_decode 37 = .ok (.getfield 262, 3) := dk_180 1 6 (dk_at dksX0_decode_1 15 rfl rfl)
theorem dX0_decode_40 : decode cX0_decode 40 = .ok (.aload_n 0, 1) := dk_42 (dk_at dksX0_decode_1 18 rfl rfl)
theorem dX0_decode_41 : decode cX0_decode 41 = .ok (.getfield 106, 3) := dk_180 0 106 (dk_at dksX0_decode_1 19 rfl rfl)
theorem dX0_decode_44 : decode cX0_decode 44 = .ok (.invokevirtual 302, 3) := dk_182 1 46 (dk_at dksX0_decode_2 0 rfl rfl)
theorem dX0_decode_47 : decode cX0_decode 47 = .ok (.aload_n 0, 1) := dk_42 (dk_at dksX0_decode_2 3 rfl rfl)
theorem dX0_decode_48 : decode cX0_decode 48 = .ok (.iconst 1, 1) := dk_4 (dk_at dksX0_decode_2 4 rfl rfl)
theorem dX0_decode_49 : decode cX0_decode 49 = .ok (.invokevirtual 306, 3) := dk_182 1 50 (dk_at dksX0_decode_2 5 rfl rfl)
theorem dX0_decode_52 : decode cX0_decode 52 = .ok (.ireturn, 1) := dk_172 (dk_at dksX0_decode_2 8 rfl rfl)
theorem dX0_decode_53 : decode cX0_decode 53 = .ok (.astore_n 3, 1) := dk_78 (dk_at dksX0_decode_2 9 rfl rfl)
theorem dX0_decode_54 : decode cX0_decode 54 = .ok (.aload_n 0, 1) := dk_42 (dk_at dksX0_decode_2 10 rfl rfl)
theorem dX0_decode_55 : decode cX0_decode 55 = .ok (.aload_n 3, 1) := dk_45 (dk_at dksX0_decode_2 11 rfl rfl)
theorem dX0_decode_56 : decode cX0_decode 56 = .ok (.getfield 17, 3) := dk_180 0 17 (dk_at dksX0_decode_2 12 rfl rfl)
theorem dX0_decode_59 : decode cX0_decode 59 = .ok (.invokevirtual 163, 3) := dk_182 0 163 (dk_at dksX0_decode_2 15 rfl rfl)
theorem dX0_decode_62 : decode cX0_decode 62 = .ok (.ireturn, 1) := dk_172 (dk_at dksX0_decode_2 18 rfl rfl)
abbrev cX0_run : ByteArray := prog_1_method_28_code
def yX0_run : MethodName := ⟨RX0, "run", "(LCodeExchange$Machine;LCodeExchange$Page;I[IILCodeExchange$Row;)V"⟩
def dkwX0_run_1 : List UInt8 := [182, 1, 37, 132, 7, 1, 167, 255, 237, 43, 182, 1, 40, 177]
abbrev dktX0_run_1 : List UInt8 := dkwX0_run_1 ++ []
def dkwX0_run_0 : List UInt8 := [43, 44, 29, 25, 6, 182, 1, 31, 3, 54, 7, 21, 7, 21, 5, 162, 0, 18, 43, 25, 4, 21, 7, 46]
abbrev dktX0_run_0 : List UInt8 := dkwX0_run_0 ++ dktX0_run_1
theorem dksX0_run_0 : cX0_run.data.toList.drop 0 = dktX0_run_0 := by decide +kernel
theorem dksX0_run_1 : cX0_run.data.toList.drop 24 = dktX0_run_1 := dk_seg dksX0_run_0 24 rfl rfl
theorem dX0_run_0 : decode cX0_run 0 = .ok (.aload_n 1, 1) := dk_43 (dk_at dksX0_run_0 0 rfl rfl)
theorem dX0_run_1 : decode cX0_run 1 = .ok (.aload_n 2, 1) := dk_44 (dk_at dksX0_run_0 1 rfl rfl)
theorem dX0_run_2 : decode cX0_run 2 = .ok (.iload_n 3, 1) := dk_29 (dk_at dksX0_run_0 2 rfl rfl)
theorem dX0_run_3 : decode cX0_run 3 = .ok (.aload 6, 2) := dk_25 6 (dk_at dksX0_run_0 3 rfl rfl)
theorem dX0_run_5 : decode cX0_run 5 = .ok (.invokevirtual 287, 3) := dk_182 1 31 (dk_at dksX0_run_0 5 rfl rfl)
theorem dX0_run_8 : decode cX0_run 8 = .ok (.iconst 0, 1) := dk_3 (dk_at dksX0_run_0 8 rfl rfl)
theorem dX0_run_9 : decode cX0_run 9 = .ok (.istore 7, 2) := dk_54 7 (dk_at dksX0_run_0 9 rfl rfl)
theorem dX0_run_11 : decode cX0_run 11 = .ok (.iload 7, 2) := dk_21 7 (dk_at dksX0_run_0 11 rfl rfl)
theorem dX0_run_13 : decode cX0_run 13 = .ok (.iload 5, 2) := dk_21 5 (dk_at dksX0_run_0 13 rfl rfl)
theorem dX0_run_15 : decode cX0_run 15 = .ok (.if_icmp .ge 18, 3) := dk_162 0 18 (dk_at dksX0_run_0 15 rfl rfl)
theorem dX0_run_18 : decode cX0_run 18 = .ok (.aload_n 1, 1) := dk_43 (dk_at dksX0_run_0 18 rfl rfl)
theorem dX0_run_19 : decode cX0_run 19 = .ok (.aload 4, 2) := dk_25 4 (dk_at dksX0_run_0 19 rfl rfl)
theorem dX0_run_21 : decode cX0_run 21 = .ok (.iload 7, 2) := dk_21 7 (dk_at dksX0_run_0 21 rfl rfl)
theorem dX0_run_23 : decode cX0_run 23 = .ok (.iaload, 1) := dk_46 (dk_at dksX0_run_0 23 rfl rfl)
theorem dX0_run_24 : decode cX0_run 24 = .ok (.invokevirtual 293, 3) := dk_182 1 37 (dk_at dksX0_run_1 0 rfl rfl)
theorem dX0_run_27 : decode cX0_run 27 = .ok (.iinc 7 1, 3) := dk_132 7 1 (dk_at dksX0_run_1 3 rfl rfl)
theorem dX0_run_30 : decode cX0_run 30 = .ok (.goto (-19), 3) := dk_167 255 237 (dk_at dksX0_run_1 6 rfl rfl)
theorem dX0_run_33 : decode cX0_run 33 = .ok (.aload_n 1, 1) := dk_43 (dk_at dksX0_run_1 9 rfl rfl)
theorem dX0_run_34 : decode cX0_run 34 = .ok (.invokevirtual 296, 3) := dk_182 1 40 (dk_at dksX0_run_1 10 rfl rfl)
theorem dX0_run_37 : decode cX0_run 37 = .ok (.return_, 1) := dk_177 (dk_at dksX0_run_1 13 rfl rfl)
abbrev cX0_isHigh : ByteArray := prog_1_method_3_code
def yX0_isHigh : MethodName := ⟨RX0, "isHigh", "(I)Z"⟩
def dkwX0_isHigh_0 : List UInt8 := [26, 18, 8, 18, 10, 184, 0, 4, 172]
abbrev dktX0_isHigh_0 : List UInt8 := dkwX0_isHigh_0 ++ []
theorem dksX0_isHigh_0 : cX0_isHigh.data.toList.drop 0 = dktX0_isHigh_0 := by decide +kernel
theorem dX0_isHigh_0 : decode cX0_isHigh 0 = .ok (.iload_n 0, 1) := dk_26 (dk_at dksX0_isHigh_0 0 rfl rfl)
theorem dX0_isHigh_1 : decode cX0_isHigh 1 = .ok (.ldc 8, 2) := dk_18 8 (dk_at dksX0_isHigh_0 1 rfl rfl)
theorem dX0_isHigh_3 : decode cX0_isHigh 3 = .ok (.ldc 10, 2) := dk_18 10 (dk_at dksX0_isHigh_0 3 rfl rfl)
theorem dX0_isHigh_5 : decode cX0_isHigh 5 = .ok (.invokestatic 4, 3) := dk_184 0 4 (dk_at dksX0_isHigh_0 5 rfl rfl)
theorem dX0_isHigh_8 : decode cX0_isHigh 8 = .ok (.ireturn, 1) := dk_172 (dk_at dksX0_isHigh_0 8 rfl rfl)
abbrev cX0_isLow : ByteArray := prog_1_method_4_code
def yX0_isLow : MethodName := ⟨RX0, "isLow", "(I)Z"⟩
def dkwX0_isLow_0 : List UInt8 := [26, 18, 11, 18, 9, 184, 0, 4, 172]
abbrev dktX0_isLow_0 : List UInt8 := dkwX0_isLow_0 ++ []
theorem dksX0_isLow_0 : cX0_isLow.data.toList.drop 0 = dktX0_isLow_0 := by decide +kernel
theorem dX0_isLow_0 : decode cX0_isLow 0 = .ok (.iload_n 0, 1) := dk_26 (dk_at dksX0_isLow_0 0 rfl rfl)
theorem dX0_isLow_1 : decode cX0_isLow 1 = .ok (.ldc 11, 2) := dk_18 11 (dk_at dksX0_isLow_0 1 rfl rfl)
theorem dX0_isLow_3 : decode cX0_isLow 3 = .ok (.ldc 9, 2) := dk_18 9 (dk_at dksX0_isLow_0 3 rfl rfl)
theorem dX0_isLow_5 : decode cX0_isLow 5 = .ok (.invokestatic 4, 3) := dk_184 0 4 (dk_at dksX0_isLow_0 5 rfl rfl)
theorem dX0_isLow_8 : decode cX0_isLow 8 = .ok (.ireturn, 1) := dk_172 (dk_at dksX0_isLow_0 8 rfl rfl)
abbrev cX0_paired : ByteArray := prog_1_method_5_code
def yX0_paired : MethodName := ⟨RX0, "paired", "(II)I"⟩
def dkwX0_paired_0 : List UInt8 := [18, 12, 26, 18, 8, 100, 16, 10, 120, 96, 27, 96, 18, 11, 100, 172]
abbrev dktX0_paired_0 : List UInt8 := dkwX0_paired_0 ++ []
theorem dksX0_paired_0 : cX0_paired.data.toList.drop 0 = dktX0_paired_0 := by decide +kernel
theorem dX0_paired_0 : decode cX0_paired 0 = .ok (.ldc 12, 2) := dk_18 12 (dk_at dksX0_paired_0 0 rfl rfl)
theorem dX0_paired_2 : decode cX0_paired 2 = .ok (.iload_n 0, 1) := dk_26 (dk_at dksX0_paired_0 2 rfl rfl)
theorem dX0_paired_3 : decode cX0_paired 3 = .ok (.ldc 8, 2) := dk_18 8 (dk_at dksX0_paired_0 3 rfl rfl)
theorem dX0_paired_5 : decode cX0_paired 5 = .ok (.isub, 1) := dk_100 (dk_at dksX0_paired_0 5 rfl rfl)
theorem dX0_paired_6 : decode cX0_paired 6 = .ok (.bipush 10, 2) := dk_16 10 (dk_at dksX0_paired_0 6 rfl rfl)
theorem dX0_paired_8 : decode cX0_paired 8 = .ok (.ishl, 1) := dk_120 (dk_at dksX0_paired_0 8 rfl rfl)
theorem dX0_paired_9 : decode cX0_paired 9 = .ok (.iadd, 1) := dk_96 (dk_at dksX0_paired_0 9 rfl rfl)
theorem dX0_paired_10 : decode cX0_paired 10 = .ok (.iload_n 1, 1) := dk_27 (dk_at dksX0_paired_0 10 rfl rfl)
theorem dX0_paired_11 : decode cX0_paired 11 = .ok (.iadd, 1) := dk_96 (dk_at dksX0_paired_0 11 rfl rfl)
theorem dX0_paired_12 : decode cX0_paired 12 = .ok (.ldc 11, 2) := dk_18 11 (dk_at dksX0_paired_0 12 rfl rfl)
theorem dX0_paired_14 : decode cX0_paired 14 = .ok (.isub, 1) := dk_100 (dk_at dksX0_paired_0 14 rfl rfl)
theorem dX0_paired_15 : decode cX0_paired 15 = .ok (.ireturn, 1) := dk_172 (dk_at dksX0_paired_0 15 rfl rfl)
abbrev cX0_putPoint : ByteArray := prog_1_method_7_code
def yX0_putPoint : MethodName := ⟨RX0, "putPoint", "(LCodeExchange$Sink;I)V"⟩
def dkwX0_putPoint_2 : List UInt8 := [185, 0, 23, 2, 0, 177]
abbrev dktX0_putPoint_2 : List UInt8 := dkwX0_putPoint_2 ++ []
def dkwX0_putPoint_1 : List UInt8 := [16, 10, 122, 96, 185, 0, 23, 2, 0, 42, 18, 11, 27, 18, 12, 100, 17, 3, 255, 126, 96]
abbrev dktX0_putPoint_1 : List UInt8 := dkwX0_putPoint_1 ++ dktX0_putPoint_2
def dkwX0_putPoint_0 : List UInt8 := [27, 18, 12, 162, 0, 13, 42, 27, 185, 0, 23, 2, 0, 167, 0, 36, 42, 18, 8, 27, 18, 12, 100]
abbrev dktX0_putPoint_0 : List UInt8 := dkwX0_putPoint_0 ++ dktX0_putPoint_1
theorem dksX0_putPoint_0 : cX0_putPoint.data.toList.drop 0 = dktX0_putPoint_0 := by decide +kernel
theorem dksX0_putPoint_1 : cX0_putPoint.data.toList.drop 23 = dktX0_putPoint_1 := dk_seg dksX0_putPoint_0 23 rfl rfl
theorem dksX0_putPoint_2 : cX0_putPoint.data.toList.drop 44 = dktX0_putPoint_2 := dk_seg dksX0_putPoint_1 21 rfl rfl
theorem dX0_putPoint_0 : decode cX0_putPoint 0 = .ok (.iload_n 1, 1) := dk_27 (dk_at dksX0_putPoint_0 0 rfl rfl)
theorem dX0_putPoint_1 : decode cX0_putPoint 1 = .ok (.ldc 12, 2) := dk_18 12 (dk_at dksX0_putPoint_0 1 rfl rfl)
theorem dX0_putPoint_3 : decode cX0_putPoint 3 = .ok (.if_icmp .ge 13, 3) := dk_162 0 13 (dk_at dksX0_putPoint_0 3 rfl rfl)
theorem dX0_putPoint_6 : decode cX0_putPoint 6 = .ok (.aload_n 0, 1) := dk_42 (dk_at dksX0_putPoint_0 6 rfl rfl)
theorem dX0_putPoint_7 : decode cX0_putPoint 7 = .ok (.iload_n 1, 1) := dk_27 (dk_at dksX0_putPoint_0 7 rfl rfl)
theorem dX0_putPoint_8 : decode cX0_putPoint 8 = .ok (.invokeinterface 23 2, 5) := by decide +kernel
theorem dX0_putPoint_13 : decode cX0_putPoint 13 = .ok (.goto 36, 3) := dk_167 0 36 (dk_at dksX0_putPoint_0 13 rfl rfl)
theorem dX0_putPoint_16 : decode cX0_putPoint 16 = .ok (.aload_n 0, 1) := dk_42 (dk_at dksX0_putPoint_0 16 rfl rfl)
theorem dX0_putPoint_17 : decode cX0_putPoint 17 = .ok (.ldc 8, 2) := dk_18 8 (dk_at dksX0_putPoint_0 17 rfl rfl)
theorem dX0_putPoint_19 : decode cX0_putPoint 19 = .ok (.iload_n 1, 1) := dk_27 (dk_at dksX0_putPoint_0 19 rfl rfl)
theorem dX0_putPoint_20 : decode cX0_putPoint 20 = .ok (.ldc 12, 2) := dk_18 12 (dk_at dksX0_putPoint_0 20 rfl rfl)
theorem dX0_putPoint_22 : decode cX0_putPoint 22 = .ok (.isub, 1) := dk_100 (dk_at dksX0_putPoint_0 22 rfl rfl)
theorem dX0_putPoint_23 : decode cX0_putPoint 23 = .ok (.bipush 10, 2) := dk_16 10 (dk_at dksX0_putPoint_1 0 rfl rfl)
theorem dX0_putPoint_25 : decode cX0_putPoint 25 = .ok (.ishr, 1) := dk_122 (dk_at dksX0_putPoint_1 2 rfl rfl)
theorem dX0_putPoint_26 : decode cX0_putPoint 26 = .ok (.iadd, 1) := dk_96 (dk_at dksX0_putPoint_1 3 rfl rfl)
theorem dX0_putPoint_27 : decode cX0_putPoint 27 = .ok (.invokeinterface 23 2, 5) := by decide +kernel
theorem dX0_putPoint_32 : decode cX0_putPoint 32 = .ok (.aload_n 0, 1) := dk_42 (dk_at dksX0_putPoint_1 9 rfl rfl)
theorem dX0_putPoint_33 : decode cX0_putPoint 33 = .ok (.ldc 11, 2) := dk_18 11 (dk_at dksX0_putPoint_1 10 rfl rfl)
theorem dX0_putPoint_35 : decode cX0_putPoint 35 = .ok (.iload_n 1, 1) := dk_27 (dk_at dksX0_putPoint_1 12 rfl rfl)
theorem dX0_putPoint_36 : decode cX0_putPoint 36 = .ok (.ldc 12, 2) := dk_18 12 (dk_at dksX0_putPoint_1 13 rfl rfl)
theorem dX0_putPoint_38 : decode cX0_putPoint 38 = .ok (.isub, 1) := dk_100 (dk_at dksX0_putPoint_1 15 rfl rfl)
theorem dX0_putPoint_39 : decode cX0_putPoint 39 = .ok (.sipush 1023, 3) := dk_17 3 255 (dk_at dksX0_putPoint_1 16 rfl rfl)
theorem dX0_putPoint_42 : decode cX0_putPoint 42 = .ok (.iand, 1) := dk_126 (dk_at dksX0_putPoint_1 19 rfl rfl)
theorem dX0_putPoint_43 : decode cX0_putPoint 43 = .ok (.iadd, 1) := dk_96 (dk_at dksX0_putPoint_1 20 rfl rfl)
theorem dX0_putPoint_44 : decode cX0_putPoint 44 = .ok (.invokeinterface 23 2, 5) := by decide +kernel
theorem dX0_putPoint_49 : decode cX0_putPoint 49 = .ok (.return_, 1) := dk_177 (dk_at dksX0_putPoint_2 5 rfl rfl)
abbrev cX0_fallbackOf : ByteArray := prog_1_method_35_code
def yX0_fallbackOf : MethodName := ⟨RX0, "fallbackOf", "(I)I"⟩
def dkwX0_fallbackOf_1 : List UInt8 := [132, 2, 1, 167, 255, 233, 2, 172]
abbrev dktX0_fallbackOf_1 : List UInt8 := dkwX0_fallbackOf_1 ++ []
def dkwX0_fallbackOf_0 : List UInt8 := [3, 61, 28, 42, 180, 1, 53, 162, 0, 21, 42, 180, 0, 60, 28, 46, 27, 160, 0, 5, 28, 172]
abbrev dktX0_fallbackOf_0 : List UInt8 := dkwX0_fallbackOf_0 ++ dktX0_fallbackOf_1
theorem dksX0_fallbackOf_0 : cX0_fallbackOf.data.toList.drop 0 = dktX0_fallbackOf_0 := by decide +kernel
theorem dksX0_fallbackOf_1 : cX0_fallbackOf.data.toList.drop 22 = dktX0_fallbackOf_1 := dk_seg dksX0_fallbackOf_0 22 rfl rfl
theorem dX0_fallbackOf_0 : decode cX0_fallbackOf 0 = .ok (.iconst 0, 1) := dk_3 (dk_at dksX0_fallbackOf_0 0 rfl rfl)
theorem dX0_fallbackOf_1 : decode cX0_fallbackOf 1 = .ok (.istore_n 2, 1) := dk_61 (dk_at dksX0_fallbackOf_0 1 rfl rfl)
theorem dX0_fallbackOf_2 : decode cX0_fallbackOf 2 = .ok (.iload_n 2, 1) := dk_28 (dk_at dksX0_fallbackOf_0 2 rfl rfl)
theorem dX0_fallbackOf_3 : decode cX0_fallbackOf 3 = .ok (.aload_n 0, 1) := dk_42 (dk_at dksX0_fallbackOf_0 3 rfl rfl)
theorem dX0_fallbackOf_4 : decode cX0_fallbackOf 4 = .ok (.getfield 309, 3) := dk_180 1 53 (dk_at dksX0_fallbackOf_0 4 rfl rfl)
theorem dX0_fallbackOf_7 : decode cX0_fallbackOf 7 = .ok (.if_icmp .ge 21, 3) := dk_162 0 21 (dk_at dksX0_fallbackOf_0 7 rfl rfl)
theorem dX0_fallbackOf_10 : decode cX0_fallbackOf 10 = .ok (.aload_n 0, 1) := dk_42 (dk_at dksX0_fallbackOf_0 10 rfl rfl)
theorem dX0_fallbackOf_11 : decode cX0_fallbackOf 11 = .ok (.getfield 60, 3) := dk_180 0 60 (dk_at dksX0_fallbackOf_0 11 rfl rfl)
theorem dX0_fallbackOf_14 : decode cX0_fallbackOf 14 = .ok (.iload_n 2, 1) := dk_28 (dk_at dksX0_fallbackOf_0 14 rfl rfl)
theorem dX0_fallbackOf_15 : decode cX0_fallbackOf 15 = .ok (.iaload, 1) := dk_46 (dk_at dksX0_fallbackOf_0 15 rfl rfl)
theorem dX0_fallbackOf_16 : decode cX0_fallbackOf 16 = .ok (.iload_n 1, 1) := dk_27 (dk_at dksX0_fallbackOf_0 16 rfl rfl)
theorem dX0_fallbackOf_17 : decode cX0_fallbackOf 17 = .ok (.if_icmp .ne 5, 3) := dk_160 0 5 (dk_at dksX0_fallbackOf_0 17 rfl rfl)
theorem dX0_fallbackOf_20 : decode cX0_fallbackOf 20 = .ok (.iload_n 2, 1) := dk_28 (dk_at dksX0_fallbackOf_0 20 rfl rfl)
theorem dX0_fallbackOf_21 : decode cX0_fallbackOf 21 = .ok (.ireturn, 1) := dk_172 (dk_at dksX0_fallbackOf_0 21 rfl rfl)
theorem dX0_fallbackOf_22 : decode cX0_fallbackOf 22 = .ok (.iinc 2 1, 3) := dk_132 2 1 (dk_at dksX0_fallbackOf_1 0 rfl rfl)
theorem dX0_fallbackOf_25 : decode cX0_fallbackOf 25 = .ok (.goto (-23), 3) := dk_167 255 233 (dk_at dksX0_fallbackOf_1 3 rfl rfl)
theorem dX0_fallbackOf_28 : decode cX0_fallbackOf 28 = .ok (.iconst (-1), 1) := dk_2 (dk_at dksX0_fallbackOf_1 6 rfl rfl)
theorem dX0_fallbackOf_29 : decode cX0_fallbackOf 29 = .ok (.ireturn, 1) := dk_172 (dk_at dksX0_fallbackOf_1 7 rfl rfl)
abbrev cX0_becomes : ByteArray := prog_1_method_29_code
def yX0_becomes : MethodName := ⟨RX0, "becomes", "(I)I"⟩
def dkwX0_becomes_1 : List UInt8 := [180, 0, 102, 180, 1, 19, 172]
abbrev dktX0_becomes_1 : List UInt8 := dkwX0_becomes_1 ++ []
def dkwX0_becomes_0 : List UInt8 := [42, 180, 0, 102, 77, 42, 42, 180, 0, 106, 181, 0, 102, 42, 44, 181, 0, 106, 42, 27, 181, 1, 16, 42]
abbrev dktX0_becomes_0 : List UInt8 := dkwX0_becomes_0 ++ dktX0_becomes_1
theorem dksX0_becomes_0 : cX0_becomes.data.toList.drop 0 = dktX0_becomes_0 := by decide +kernel
theorem dksX0_becomes_1 : cX0_becomes.data.toList.drop 24 = dktX0_becomes_1 := dk_seg dksX0_becomes_0 24 rfl rfl
theorem dX0_becomes_0 : decode cX0_becomes 0 = .ok (.aload_n 0, 1) := dk_42 (dk_at dksX0_becomes_0 0 rfl rfl)
theorem dX0_becomes_1 : decode cX0_becomes 1 = .ok (.getfield 102, 3) := dk_180 0 102 (dk_at dksX0_becomes_0 1 rfl rfl)
theorem dX0_becomes_4 : decode cX0_becomes 4 = .ok (.astore_n 2, 1) := dk_77 (dk_at dksX0_becomes_0 4 rfl rfl)
theorem dX0_becomes_5 : decode cX0_becomes 5 = .ok (.aload_n 0, 1) := dk_42 (dk_at dksX0_becomes_0 5 rfl rfl)
theorem dX0_becomes_6 : decode cX0_becomes 6 = .ok (.aload_n 0, 1) := dk_42 (dk_at dksX0_becomes_0 6 rfl rfl)
theorem dX0_becomes_7 : decode cX0_becomes 7 = .ok (.getfield 106, 3) := dk_180 0 106 (dk_at dksX0_becomes_0 7 rfl rfl)
theorem dX0_becomes_10 : decode cX0_becomes 10 = .ok (.putfield 102, 3) := dk_181 0 102 (dk_at dksX0_becomes_0 10 rfl rfl)
theorem dX0_becomes_13 : decode cX0_becomes 13 = .ok (.aload_n 0, 1) := dk_42 (dk_at dksX0_becomes_0 13 rfl rfl)
theorem dX0_becomes_14 : decode cX0_becomes 14 = .ok (.aload_n 2, 1) := dk_44 (dk_at dksX0_becomes_0 14 rfl rfl)
theorem dX0_becomes_15 : decode cX0_becomes 15 = .ok (.putfield 106, 3) := dk_181 0 106 (dk_at dksX0_becomes_0 15 rfl rfl)
theorem dX0_becomes_18 : decode cX0_becomes 18 = .ok (.aload_n 0, 1) := dk_42 (dk_at dksX0_becomes_0 18 rfl rfl)
theorem dX0_becomes_19 : decode cX0_becomes 19 = .ok (.iload_n 1, 1) := dk_27 (dk_at dksX0_becomes_0 19 rfl rfl)
theorem dX0_becomes_20 : decode cX0_becomes 20 = .ok (.putfield 272, 3) := dk_181 1 16 (dk_at dksX0_becomes_0 20 rfl rfl)
theorem dX0_becomes_23 : decode cX0_becomes 23 = .ok (.aload_n 0, 1) := dk_42 (dk_at dksX0_becomes_0 23 rfl rfl)
theorem dX0_becomes_24 : decode cX0_becomes 24 = .ok (.getfield 102, 3) := dk_180 0 102 (dk_at dksX0_becomes_1 0 rfl rfl)
theorem dX0_becomes_27 : decode cX0_becomes 27 = .ok (.getfield 275, 3) := dk_180 1 19 (dk_at dksX0_becomes_1 3 rfl rfl)
theorem dX0_becomes_30 : decode cX0_becomes 30 = .ok (.ireturn, 1) := dk_172 (dk_at dksX0_becomes_1 6 rfl rfl)
abbrev cX0_encode : ByteArray := prog_1_method_31_code
def yX0_encode : MethodName := ⟨RX0, "encode", "(II)I"⟩
def dkwX0_encode_2 : List UInt8 := [182, 1, 46, 42, 5, 182, 1, 50, 172, 78, 42, 45, 180, 0, 17, 182, 0, 163, 172]
abbrev dktX0_encode_2 : List UInt8 := dkwX0_encode_2 ++ []
def dkwX0_encode_1 : List UInt8 := [182, 1, 43, 42, 42, 180, 0, 95, 45, 28, 42, 180, 0, 53, 42, 180, 1, 11, 42, 180, 0, 106]
abbrev dktX0_encode_1 : List UInt8 := dkwX0_encode_1 ++ dktX0_encode_2
def dkwX0_encode_0 : List UInt8 := [42, 27, 182, 0, 255, 78, 42, 28, 3, 7, 184, 0, 4, 2, 182, 0, 184, 42, 180, 0, 106, 3]
abbrev dktX0_encode_0 : List UInt8 := dkwX0_encode_0 ++ dktX0_encode_1
theorem dksX0_encode_0 : cX0_encode.data.toList.drop 0 = dktX0_encode_0 := by decide +kernel
theorem dksX0_encode_1 : cX0_encode.data.toList.drop 22 = dktX0_encode_1 := dk_seg dksX0_encode_0 22 rfl rfl
theorem dksX0_encode_2 : cX0_encode.data.toList.drop 44 = dktX0_encode_2 := dk_seg dksX0_encode_1 22 rfl rfl
theorem dX0_encode_0 : decode cX0_encode 0 = .ok (.aload_n 0, 1) := dk_42 (dk_at dksX0_encode_0 0 rfl rfl)
theorem dX0_encode_1 : decode cX0_encode 1 = .ok (.iload_n 1, 1) := dk_27 (dk_at dksX0_encode_0 1 rfl rfl)
theorem dX0_encode_2 : decode cX0_encode 2 = .ok (.invokevirtual 255, 3) := dk_182 0 255 (dk_at dksX0_encode_0 2 rfl rfl)
theorem dX0_encode_5 : decode cX0_encode 5 = .ok (.astore_n 3, 1) := dk_78 (dk_at dksX0_encode_0 5 rfl rfl)
theorem dX0_encode_6 : decode cX0_encode 6 = .ok (.aload_n 0, 1) := dk_42 (dk_at dksX0_encode_0 6 rfl rfl)
theorem dX0_encode_7 : decode cX0_encode 7 = .ok (.iload_n 2, 1) := dk_28 (dk_at dksX0_encode_0 7 rfl rfl)
theorem dX0_encode_8 : decode cX0_encode 8 = .ok (.iconst 0, 1) := dk_3 (dk_at dksX0_encode_0 8 rfl rfl)
theorem dX0_encode_9 : decode cX0_encode 9 = .ok (.iconst 4, 1) := dk_7 (dk_at dksX0_encode_0 9 rfl rfl)
theorem dX0_encode_10 : decode cX0_encode 10 = .ok (.invokestatic 4, 3) := dk_184 0 4 (dk_at dksX0_encode_0 10 rfl rfl)
theorem dX0_encode_13 : decode cX0_encode 13 = .ok (.iconst (-1), 1) := dk_2 (dk_at dksX0_encode_0 13 rfl rfl)
theorem dX0_encode_14 : decode cX0_encode 14 = .ok (.invokevirtual 184, 3) := dk_182 0 184 (dk_at dksX0_encode_0 14 rfl rfl)
theorem dX0_encode_17 : decode cX0_encode 17 = .ok (.aload_n 0, 1) := dk_42 (dk_at dksX0_encode_0 17 rfl rfl)
theorem dX0_encode_18 : decode cX0_encode 18 = .ok (.getfield 106, 3) := dk_180 0 106 (dk_at dksX0_encode_0 18 rfl rfl)
theorem dX0_encode_21 : decode cX0_encode 21 = .ok (.iconst 0, 1) := dk_3 (dk_at dksX0_encode_0 21 rfl rfl)
theorem dX0_encode_22 : decode cX0_encode 22 = .ok (.invokevirtual 299, 3) := dk_182 1 43 (dk_at dksX0_encode_1 0 rfl rfl)
theorem dX0_encode_25 : decode cX0_encode 25 = .ok (.aload_n 0, 1) := dk_42 (dk_at dksX0_encode_1 3 rfl rfl)
theorem dX0_encode_26 : decode cX0_encode 26 = .ok (.aload_n 0, 1) := dk_42 (dk_at dksX0_encode_1 4 rfl rfl)
theorem dX0_encode_27 : decode cX0_encode 27 = .ok (.getfield 95, 3) := dk_180 0 95 (dk_at dksX0_encode_1 5 rfl rfl)
theorem dX0_encode_30 : decode cX0_encode 30 = .ok (.aload_n 3, 1) := dk_45 (dk_at dksX0_encode_1 8 rfl rfl)
theorem dX0_encode_31 : decode cX0_encode 31 = .ok (.iload_n 2, 1) := dk_28 (dk_at dksX0_encode_1 9 rfl rfl)
theorem dX0_encode_32 : decode cX0_encode 32 = .ok (.aload_n 0, 1) := dk_42 (dk_at dksX0_encode_1 10 rfl rfl)
theorem dX0_encode_33 : decode cX0_encode 33 = .ok (.getfield 53, 3) := dk_180 0 53 (dk_at dksX0_encode_1 11 rfl rfl)
theorem dX0_encode_36 : decode cX0_encode 36 = .ok (.aload_n 0, 1) := dk_42 (dk_at dksX0_encode_1 14 rfl rfl)
theorem dX0_encode_37 : decode cX0_encode 37 = .ok (.getfield 267, 3) := dk_180 1 11 (dk_at dksX0_encode_1 15 rfl rfl)
theorem dX0_encode_40 : decode cX0_encode 40 = .ok (.aload_n 0, 1) := dk_42 (dk_at dksX0_encode_1 18 rfl rfl)
theorem dX0_encode_41 : decode cX0_encode 41 = .ok (.getfield 106, 3) := dk_180 0 106 (dk_at dksX0_encode_1 19 rfl rfl)
theorem dX0_encode_44 : decode cX0_encode 44 = .ok (.invokevirtual 302, 3) := dk_182 1 46 (dk_at dksX0_encode_2 0 rfl rfl)
theorem dX0_encode_47 : decode cX0_encode 47 = .ok (.aload_n 0, 1) := dk_42 (dk_at dksX0_encode_2 3 rfl rfl)
theorem dX0_encode_48 : decode cX0_encode 48 = .ok (.iconst 2, 1) := dk_5 (dk_at dksX0_encode_2 4 rfl rfl)
theorem dX0_encode_49 : decode cX0_encode 49 = .ok (.invokevirtual 306, 3) := dk_182 1 50 (dk_at dksX0_encode_2 5 rfl rfl)
theorem dX0_encode_52 : decode cX0_encode 52 = .ok (.ireturn, 1) := dk_172 (dk_at dksX0_encode_2 8 rfl rfl)
theorem dX0_encode_53 : decode cX0_encode 53 = .ok (.astore_n 3, 1) := dk_78 (dk_at dksX0_encode_2 9 rfl rfl)
theorem dX0_encode_54 : decode cX0_encode 54 = .ok (.aload_n 0, 1) := dk_42 (dk_at dksX0_encode_2 10 rfl rfl)
theorem dX0_encode_55 : decode cX0_encode 55 = .ok (.aload_n 3, 1) := dk_45 (dk_at dksX0_encode_2 11 rfl rfl)
theorem dX0_encode_56 : decode cX0_encode 56 = .ok (.getfield 17, 3) := dk_180 0 17 (dk_at dksX0_encode_2 12 rfl rfl)
theorem dX0_encode_59 : decode cX0_encode 59 = .ok (.invokevirtual 163, 3) := dk_182 0 163 (dk_at dksX0_encode_2 15 rfl rfl)
theorem dX0_encode_62 : decode cX0_encode 62 = .ok (.ireturn, 1) := dk_172 (dk_at dksX0_encode_2 18 rfl rfl)
abbrev cX0_transcode : ByteArray := prog_1_method_32_code
def yX0_transcode : MethodName := ⟨RX0, "transcode", "(IIII)I"⟩
def dkwX0_transcode_5 : List UInt8 := [180, 0, 106, 182, 1, 46, 42, 5, 182, 1, 50, 172, 58, 5, 42, 25, 5, 180, 0, 17, 182, 0, 163, 172]
abbrev dktX0_transcode_5 : List UInt8 := dkwX0_transcode_5 ++ []
def dkwX0_transcode_4 : List UInt8 := [42, 180, 0, 95, 25, 6, 21, 4, 42, 180, 0, 109, 180, 1, 22, 42, 180, 0, 109, 180, 1, 19, 42]
abbrev dktX0_transcode_4 : List UInt8 := dkwX0_transcode_4 ++ dktX0_transcode_5
def dkwX0_transcode_3 : List UInt8 := [42, 180, 0, 49, 42, 180, 1, 6, 42, 180, 0, 109, 182, 1, 46, 42, 180, 0, 106, 3, 182, 1, 43, 42]
abbrev dktX0_transcode_3 : List UInt8 := dkwX0_transcode_3 ++ dktX0_transcode_4
def dkwX0_transcode_2 : List UInt8 := [167, 0, 4, 3, 2, 182, 0, 184, 42, 180, 0, 109, 3, 182, 1, 43, 42, 42, 180, 0, 90, 25, 5, 28]
abbrev dktX0_transcode_2 : List UInt8 := dkwX0_transcode_2 ++ dktX0_transcode_3
def dkwX0_transcode_1 : List UInt8 := [58, 6, 42, 28, 3, 6, 184, 0, 4, 153, 0, 17, 21, 4, 3, 7, 184, 0, 4, 153, 0, 7, 4]
abbrev dktX0_transcode_1 : List UInt8 := dkwX0_transcode_1 ++ dktX0_transcode_2
def dkwX0_transcode_0 : List UInt8 := [42, 27, 182, 0, 152, 87, 42, 29, 182, 0, 152, 87, 42, 27, 182, 0, 255, 58, 5, 42, 29, 182, 0, 255]
abbrev dktX0_transcode_0 : List UInt8 := dkwX0_transcode_0 ++ dktX0_transcode_1
theorem dksX0_transcode_0 : cX0_transcode.data.toList.drop 0 = dktX0_transcode_0 := by decide +kernel
theorem dksX0_transcode_1 : cX0_transcode.data.toList.drop 24 = dktX0_transcode_1 := dk_seg dksX0_transcode_0 24 rfl rfl
theorem dksX0_transcode_2 : cX0_transcode.data.toList.drop 47 = dktX0_transcode_2 := dk_seg dksX0_transcode_1 23 rfl rfl
theorem dksX0_transcode_3 : cX0_transcode.data.toList.drop 71 = dktX0_transcode_3 := dk_seg dksX0_transcode_2 24 rfl rfl
theorem dksX0_transcode_4 : cX0_transcode.data.toList.drop 95 = dktX0_transcode_4 := dk_seg dksX0_transcode_3 24 rfl rfl
theorem dksX0_transcode_5 : cX0_transcode.data.toList.drop 118 = dktX0_transcode_5 := dk_seg dksX0_transcode_4 23 rfl rfl
theorem dX0_transcode_0 : decode cX0_transcode 0 = .ok (.aload_n 0, 1) := dk_42 (dk_at dksX0_transcode_0 0 rfl rfl)
theorem dX0_transcode_1 : decode cX0_transcode 1 = .ok (.iload_n 1, 1) := dk_27 (dk_at dksX0_transcode_0 1 rfl rfl)
theorem dX0_transcode_2 : decode cX0_transcode 2 = .ok (.invokevirtual 152, 3) := dk_182 0 152 (dk_at dksX0_transcode_0 2 rfl rfl)
theorem dX0_transcode_5 : decode cX0_transcode 5 = .ok (.pop, 1) := dk_87 (dk_at dksX0_transcode_0 5 rfl rfl)
theorem dX0_transcode_6 : decode cX0_transcode 6 = .ok (.aload_n 0, 1) := dk_42 (dk_at dksX0_transcode_0 6 rfl rfl)
theorem dX0_transcode_7 : decode cX0_transcode 7 = .ok (.iload_n 3, 1) := dk_29 (dk_at dksX0_transcode_0 7 rfl rfl)
theorem dX0_transcode_8 : decode cX0_transcode 8 = .ok (.invokevirtual 152, 3) := dk_182 0 152 (dk_at dksX0_transcode_0 8 rfl rfl)
theorem dX0_transcode_11 : decode cX0_transcode 11 = .ok (.pop, 1) := dk_87 (dk_at dksX0_transcode_0 11 rfl rfl)
theorem dX0_transcode_12 : decode cX0_transcode 12 = .ok (.aload_n 0, 1) := dk_42 (dk_at dksX0_transcode_0 12 rfl rfl)
theorem dX0_transcode_13 : decode cX0_transcode 13 = .ok (.iload_n 1, 1) := dk_27 (dk_at dksX0_transcode_0 13 rfl rfl)
theorem dX0_transcode_14 : decode cX0_transcode 14 = .ok (.invokevirtual 255, 3) := dk_182 0 255 (dk_at dksX0_transcode_0 14 rfl rfl)
theorem dX0_transcode_17 : decode cX0_transcode 17 = .ok (.astore 5, 2) := dk_58 5 (dk_at dksX0_transcode_0 17 rfl rfl)
theorem dX0_transcode_19 : decode cX0_transcode 19 = .ok (.aload_n 0, 1) := dk_42 (dk_at dksX0_transcode_0 19 rfl rfl)
theorem dX0_transcode_20 : decode cX0_transcode 20 = .ok (.iload_n 3, 1) := dk_29 (dk_at dksX0_transcode_0 20 rfl rfl)
theorem dX0_transcode_21 : decode cX0_transcode 21 = .ok (.invokevirtual 255, 3) := dk_182 0 255 (dk_at dksX0_transcode_0 21 rfl rfl)
theorem dX0_transcode_24 : decode cX0_transcode 24 = .ok (.astore 6, 2) := dk_58 6 (dk_at dksX0_transcode_1 0 rfl rfl)
theorem dX0_transcode_26 : decode cX0_transcode 26 = .ok (.aload_n 0, 1) := dk_42 (dk_at dksX0_transcode_1 2 rfl rfl)
theorem dX0_transcode_27 : decode cX0_transcode 27 = .ok (.iload_n 2, 1) := dk_28 (dk_at dksX0_transcode_1 3 rfl rfl)
theorem dX0_transcode_28 : decode cX0_transcode 28 = .ok (.iconst 0, 1) := dk_3 (dk_at dksX0_transcode_1 4 rfl rfl)
theorem dX0_transcode_29 : decode cX0_transcode 29 = .ok (.iconst 3, 1) := dk_6 (dk_at dksX0_transcode_1 5 rfl rfl)
theorem dX0_transcode_30 : decode cX0_transcode 30 = .ok (.invokestatic 4, 3) := dk_184 0 4 (dk_at dksX0_transcode_1 6 rfl rfl)
theorem dX0_transcode_33 : decode cX0_transcode 33 = .ok (.ifCond .eq 17, 3) := dk_153 0 17 (dk_at dksX0_transcode_1 9 rfl rfl)
theorem dX0_transcode_36 : decode cX0_transcode 36 = .ok (.iload 4, 2) := dk_21 4 (dk_at dksX0_transcode_1 12 rfl rfl)
theorem dX0_transcode_38 : decode cX0_transcode 38 = .ok (.iconst 0, 1) := dk_3 (dk_at dksX0_transcode_1 14 rfl rfl)
theorem dX0_transcode_39 : decode cX0_transcode 39 = .ok (.iconst 4, 1) := dk_7 (dk_at dksX0_transcode_1 15 rfl rfl)
theorem dX0_transcode_40 : decode cX0_transcode 40 = .ok (.invokestatic 4, 3) := dk_184 0 4 (dk_at dksX0_transcode_1 16 rfl rfl)
theorem dX0_transcode_43 : decode cX0_transcode 43 = .ok (.ifCond .eq 7, 3) := dk_153 0 7 (dk_at dksX0_transcode_1 19 rfl rfl)
theorem dX0_transcode_46 : decode cX0_transcode 46 = .ok (.iconst 1, 1) := dk_4 (dk_at dksX0_transcode_1 22 rfl rfl)
theorem dX0_transcode_47 : decode cX0_transcode 47 = .ok (.goto 4, 3) := dk_167 0 4 (dk_at dksX0_transcode_2 0 rfl rfl)
theorem dX0_transcode_50 : decode cX0_transcode 50 = .ok (.iconst 0, 1) := dk_3 (dk_at dksX0_transcode_2 3 rfl rfl)
theorem dX0_transcode_51 : decode cX0_transcode 51 = .ok (.iconst (-1), 1) := dk_2 (dk_at dksX0_transcode_2 4 rfl rfl)
theorem dX0_transcode_52 : decode cX0_transcode 52 = .ok (.invokevirtual 184, 3) := dk_182 0 184 (dk_at dksX0_transcode_2 5 rfl rfl)
theorem dX0_transcode_55 : decode cX0_transcode 55 = .ok (.aload_n 0, 1) := dk_42 (dk_at dksX0_transcode_2 8 rfl rfl)
theorem dX0_transcode_56 : decode cX0_transcode 56 = .ok (.getfield 109, 3) := dk_180 0 109 (dk_at dksX0_transcode_2 9 rfl rfl)
theorem dX0_transcode_59 : decode cX0_transcode 59 = .ok (.iconst 0, 1) := dk_3 (dk_at dksX0_transcode_2 12 rfl rfl)
theorem dX0_transcode_60 : decode cX0_transcode 60 = .ok (.invokevirtual 299, 3) := dk_182 1 43 (dk_at dksX0_transcode_2 13 rfl rfl)
theorem dX0_transcode_63 : decode cX0_transcode 63 = .ok (.aload_n 0, 1) := dk_42 (dk_at dksX0_transcode_2 16 rfl rfl)
theorem dX0_transcode_64 : decode cX0_transcode 64 = .ok (.aload_n 0, 1) := dk_42 (dk_at dksX0_transcode_2 17 rfl rfl)
theorem dX0_transcode_65 : decode cX0_transcode 65 = .ok (.getfield 90, 3) := dk_180 0 90 (dk_at dksX0_transcode_2 18 rfl rfl)
theorem dX0_transcode_68 : decode cX0_transcode 68 = .ok (.aload 5, 2) := dk_25 5 (dk_at dksX0_transcode_2 21 rfl rfl)
theorem dX0_transcode_70 : decode cX0_transcode 70 = .ok (.iload_n 2, 1) := dk_28 (dk_at dksX0_transcode_2 23 rfl rfl)
theorem dX0_transcode_71 : decode cX0_transcode 71 = .ok (.aload_n 0, 1) := dk_42 (dk_at dksX0_transcode_3 0 rfl rfl)
theorem dX0_transcode_72 : decode cX0_transcode 72 = .ok (.getfield 49, 3) := dk_180 0 49 (dk_at dksX0_transcode_3 1 rfl rfl)
theorem dX0_transcode_75 : decode cX0_transcode 75 = .ok (.aload_n 0, 1) := dk_42 (dk_at dksX0_transcode_3 4 rfl rfl)
theorem dX0_transcode_76 : decode cX0_transcode 76 = .ok (.getfield 262, 3) := dk_180 1 6 (dk_at dksX0_transcode_3 5 rfl rfl)
theorem dX0_transcode_79 : decode cX0_transcode 79 = .ok (.aload_n 0, 1) := dk_42 (dk_at dksX0_transcode_3 8 rfl rfl)
theorem dX0_transcode_80 : decode cX0_transcode 80 = .ok (.getfield 109, 3) := dk_180 0 109 (dk_at dksX0_transcode_3 9 rfl rfl)
theorem dX0_transcode_83 : decode cX0_transcode 83 = .ok (.invokevirtual 302, 3) := dk_182 1 46 (dk_at dksX0_transcode_3 12 rfl rfl)
theorem dX0_transcode_86 : decode cX0_transcode 86 = .ok (.aload_n 0, 1) := dk_42 (dk_at dksX0_transcode_3 15 rfl rfl)
theorem dX0_transcode_87 : decode cX0_transcode 87 = .ok (.getfield 106, 3) := dk_180 0 106 (dk_at dksX0_transcode_3 16 rfl rfl)
theorem dX0_transcode_90 : decode cX0_transcode 90 = .ok (.iconst 0, 1) := dk_3 (dk_at dksX0_transcode_3 19 rfl rfl)
theorem dX0_transcode_91 : decode cX0_transcode 91 = .ok (.invokevirtual 299, 3) := dk_182 1 43 (dk_at dksX0_transcode_3 20 rfl rfl)
theorem dX0_transcode_94 : decode cX0_transcode 94 = .ok (.aload_n 0, 1) := dk_42 (dk_at dksX0_transcode_3 23 rfl rfl)
theorem dX0_transcode_95 : decode cX0_transcode 95 = .ok (.aload_n 0, 1) := dk_42 (dk_at dksX0_transcode_4 0 rfl rfl)
theorem dX0_transcode_96 : decode cX0_transcode 96 = .ok (.getfield 95, 3) := dk_180 0 95 (dk_at dksX0_transcode_4 1 rfl rfl)
theorem dX0_transcode_99 : decode cX0_transcode 99 = .ok (.aload 6, 2) := dk_25 6 (dk_at dksX0_transcode_4 4 rfl rfl)
theorem dX0_transcode_101 : decode cX0_transcode 101 = .ok (.iload 4, 2) := dk_21 4 (dk_at dksX0_transcode_4 6 rfl rfl)
theorem dX0_transcode_103 : decode cX0_transcode 103 = .ok (.aload_n 0, 1) := dk_42 (dk_at dksX0_transcode_4 8 rfl rfl)
theorem dX0_transcode_104 : decode cX0_transcode 104 = .ok (.getfield 109, 3) := dk_180 0 109 (dk_at dksX0_transcode_4 9 rfl rfl)
theorem dX0_transcode_107 : decode cX0_transcode 107 = .ok (.getfield 278, 3) := dk_180 1 22 (dk_at dksX0_transcode_4 12 rfl rfl)
theorem dX0_transcode_110 : decode cX0_transcode 110 = .ok (.aload_n 0, 1) := dk_42 (dk_at dksX0_transcode_4 15 rfl rfl)
theorem dX0_transcode_111 : decode cX0_transcode 111 = .ok (.getfield 109, 3) := dk_180 0 109 (dk_at dksX0_transcode_4 16 rfl rfl)
theorem dX0_transcode_114 : decode cX0_transcode 114 = .ok (.getfield 275, 3) := dk_180 1 19 (dk_at dksX0_transcode_4 19 rfl rfl)
theorem dX0_transcode_117 : decode cX0_transcode 117 = .ok (.aload_n 0, 1) := dk_42 (dk_at dksX0_transcode_4 22 rfl rfl)
theorem dX0_transcode_118 : decode cX0_transcode 118 = .ok (.getfield 106, 3) := dk_180 0 106 (dk_at dksX0_transcode_5 0 rfl rfl)
theorem dX0_transcode_121 : decode cX0_transcode 121 = .ok (.invokevirtual 302, 3) := dk_182 1 46 (dk_at dksX0_transcode_5 3 rfl rfl)
theorem dX0_transcode_124 : decode cX0_transcode 124 = .ok (.aload_n 0, 1) := dk_42 (dk_at dksX0_transcode_5 6 rfl rfl)
theorem dX0_transcode_125 : decode cX0_transcode 125 = .ok (.iconst 2, 1) := dk_5 (dk_at dksX0_transcode_5 7 rfl rfl)
theorem dX0_transcode_126 : decode cX0_transcode 126 = .ok (.invokevirtual 306, 3) := dk_182 1 50 (dk_at dksX0_transcode_5 8 rfl rfl)
theorem dX0_transcode_129 : decode cX0_transcode 129 = .ok (.ireturn, 1) := dk_172 (dk_at dksX0_transcode_5 11 rfl rfl)
theorem dX0_transcode_130 : decode cX0_transcode 130 = .ok (.astore 5, 2) := dk_58 5 (dk_at dksX0_transcode_5 12 rfl rfl)
theorem dX0_transcode_132 : decode cX0_transcode 132 = .ok (.aload_n 0, 1) := dk_42 (dk_at dksX0_transcode_5 14 rfl rfl)
theorem dX0_transcode_133 : decode cX0_transcode 133 = .ok (.aload 5, 2) := dk_25 5 (dk_at dksX0_transcode_5 15 rfl rfl)
theorem dX0_transcode_135 : decode cX0_transcode 135 = .ok (.getfield 17, 3) := dk_180 0 17 (dk_at dksX0_transcode_5 17 rfl rfl)
theorem dX0_transcode_138 : decode cX0_transcode 138 = .ok (.invokevirtual 163, 3) := dk_182 0 163 (dk_at dksX0_transcode_5 20 rfl rfl)
theorem dX0_transcode_141 : decode cX0_transcode 141 = .ok (.ireturn, 1) := dk_172 (dk_at dksX0_transcode_5 23 rfl rfl)
abbrev cX0_result : ByteArray := prog_1_method_33_code
def yX0_result : MethodName := ⟨RX0, "result", "(I)I"⟩
def dkwX0_result_1 : List UInt8 := [42, 180, 0, 102, 180, 1, 22, 27, 46, 167, 0, 9, 42, 16, 254, 182, 0, 163, 172]
abbrev dktX0_result_1 : List UInt8 := dkwX0_result_1 ++ []
def dkwX0_result_0 : List UInt8 := [42, 180, 1, 16, 158, 0, 32, 27, 3, 42, 180, 0, 102, 180, 1, 19, 4, 100, 184, 0, 4, 153, 0, 15]
abbrev dktX0_result_0 : List UInt8 := dkwX0_result_0 ++ dktX0_result_1
theorem dksX0_result_0 : cX0_result.data.toList.drop 0 = dktX0_result_0 := by decide +kernel
theorem dksX0_result_1 : cX0_result.data.toList.drop 24 = dktX0_result_1 := dk_seg dksX0_result_0 24 rfl rfl
theorem dX0_result_0 : decode cX0_result 0 = .ok (.aload_n 0, 1) := dk_42 (dk_at dksX0_result_0 0 rfl rfl)
theorem dX0_result_1 : decode cX0_result 1 = .ok (.getfield 272, 3) := dk_180 1 16 (dk_at dksX0_result_0 1 rfl rfl)
theorem dX0_result_4 : decode cX0_result 4 = .ok (.ifCond .le 32, 3) := dk_158 0 32 (dk_at dksX0_result_0 4 rfl rfl)
theorem dX0_result_7 : decode cX0_result 7 = .ok (.iload_n 1, 1) := dk_27 (dk_at dksX0_result_0 7 rfl rfl)
theorem dX0_result_8 : decode cX0_result 8 = .ok (.iconst 0, 1) := dk_3 (dk_at dksX0_result_0 8 rfl rfl)
theorem dX0_result_9 : decode cX0_result 9 = .ok (.aload_n 0, 1) := dk_42 (dk_at dksX0_result_0 9 rfl rfl)
theorem dX0_result_10 : decode cX0_result 10 = .ok (.getfield 102, 3) := dk_180 0 102 (dk_at dksX0_result_0 10 rfl rfl)
theorem dX0_result_13 : decode cX0_result 13 = .ok (.getfield 275, 3) := dk_180 1 19 (dk_at dksX0_result_0 13 rfl rfl)
theorem dX0_result_16 : decode cX0_result 16 = .ok (.iconst 1, 1) := dk_4 (dk_at dksX0_result_0 16 rfl rfl)
theorem dX0_result_17 : decode cX0_result 17 = .ok (.isub, 1) := dk_100 (dk_at dksX0_result_0 17 rfl rfl)
theorem dX0_result_18 : decode cX0_result 18 = .ok (.invokestatic 4, 3) := dk_184 0 4 (dk_at dksX0_result_0 18 rfl rfl)
theorem dX0_result_21 : decode cX0_result 21 = .ok (.ifCond .eq 15, 3) := dk_153 0 15 (dk_at dksX0_result_0 21 rfl rfl)
theorem dX0_result_24 : decode cX0_result 24 = .ok (.aload_n 0, 1) := dk_42 (dk_at dksX0_result_1 0 rfl rfl)
theorem dX0_result_25 : decode cX0_result 25 = .ok (.getfield 102, 3) := dk_180 0 102 (dk_at dksX0_result_1 1 rfl rfl)
theorem dX0_result_28 : decode cX0_result 28 = .ok (.getfield 278, 3) := dk_180 1 22 (dk_at dksX0_result_1 4 rfl rfl)
theorem dX0_result_31 : decode cX0_result 31 = .ok (.iload_n 1, 1) := dk_27 (dk_at dksX0_result_1 7 rfl rfl)
theorem dX0_result_32 : decode cX0_result 32 = .ok (.iaload, 1) := dk_46 (dk_at dksX0_result_1 8 rfl rfl)
theorem dX0_result_33 : decode cX0_result 33 = .ok (.goto 9, 3) := dk_167 0 9 (dk_at dksX0_result_1 9 rfl rfl)
theorem dX0_result_36 : decode cX0_result 36 = .ok (.aload_n 0, 1) := dk_42 (dk_at dksX0_result_1 12 rfl rfl)
theorem dX0_result_37 : decode cX0_result 37 = .ok (.bipush (-2), 2) := dk_16 254 (dk_at dksX0_result_1 13 rfl rfl)
theorem dX0_result_39 : decode cX0_result 39 = .ok (.invokevirtual 163, 3) := dk_182 0 163 (dk_at dksX0_result_1 15 rfl rfl)
theorem dX0_result_42 : decode cX0_result 42 = .ok (.ireturn, 1) := dk_172 (dk_at dksX0_result_1 18 rfl rfl)
abbrev cX0_sign : ByteArray := prog_1_method_34_code
def yX0_sign : MethodName := ⟨RX0, "sign", "(II)I"⟩
def dkwX0_sign_1 : List UInt8 := [180, 0, 57, 27, 46, 62, 42, 180, 0, 57, 27, 28, 79, 29, 172]
abbrev dktX0_sign_1 : List UInt8 := dkwX0_sign_1 ++ []
def dkwX0_sign_0 : List UInt8 := [27, 3, 4, 184, 0, 4, 153, 0, 10, 28, 184, 0, 195, 154, 0, 9, 42, 2, 182, 0, 163, 172, 42]
abbrev dktX0_sign_0 : List UInt8 := dkwX0_sign_0 ++ dktX0_sign_1
theorem dksX0_sign_0 : cX0_sign.data.toList.drop 0 = dktX0_sign_0 := by decide +kernel
theorem dksX0_sign_1 : cX0_sign.data.toList.drop 23 = dktX0_sign_1 := dk_seg dksX0_sign_0 23 rfl rfl
theorem dX0_sign_0 : decode cX0_sign 0 = .ok (.iload_n 1, 1) := dk_27 (dk_at dksX0_sign_0 0 rfl rfl)
theorem dX0_sign_1 : decode cX0_sign 1 = .ok (.iconst 0, 1) := dk_3 (dk_at dksX0_sign_0 1 rfl rfl)
theorem dX0_sign_2 : decode cX0_sign 2 = .ok (.iconst 1, 1) := dk_4 (dk_at dksX0_sign_0 2 rfl rfl)
theorem dX0_sign_3 : decode cX0_sign 3 = .ok (.invokestatic 4, 3) := dk_184 0 4 (dk_at dksX0_sign_0 3 rfl rfl)
theorem dX0_sign_6 : decode cX0_sign 6 = .ok (.ifCond .eq 10, 3) := dk_153 0 10 (dk_at dksX0_sign_0 6 rfl rfl)
theorem dX0_sign_9 : decode cX0_sign 9 = .ok (.iload_n 2, 1) := dk_28 (dk_at dksX0_sign_0 9 rfl rfl)
theorem dX0_sign_10 : decode cX0_sign 10 = .ok (.invokestatic 195, 3) := dk_184 0 195 (dk_at dksX0_sign_0 10 rfl rfl)
theorem dX0_sign_13 : decode cX0_sign 13 = .ok (.ifCond .ne 9, 3) := dk_154 0 9 (dk_at dksX0_sign_0 13 rfl rfl)
theorem dX0_sign_16 : decode cX0_sign 16 = .ok (.aload_n 0, 1) := dk_42 (dk_at dksX0_sign_0 16 rfl rfl)
theorem dX0_sign_17 : decode cX0_sign 17 = .ok (.iconst (-1), 1) := dk_2 (dk_at dksX0_sign_0 17 rfl rfl)
theorem dX0_sign_18 : decode cX0_sign 18 = .ok (.invokevirtual 163, 3) := dk_182 0 163 (dk_at dksX0_sign_0 18 rfl rfl)
theorem dX0_sign_21 : decode cX0_sign 21 = .ok (.ireturn, 1) := dk_172 (dk_at dksX0_sign_0 21 rfl rfl)
theorem dX0_sign_22 : decode cX0_sign 22 = .ok (.aload_n 0, 1) := dk_42 (dk_at dksX0_sign_0 22 rfl rfl)
theorem dX0_sign_23 : decode cX0_sign 23 = .ok (.getfield 57, 3) := dk_180 0 57 (dk_at dksX0_sign_1 0 rfl rfl)
theorem dX0_sign_26 : decode cX0_sign 26 = .ok (.iload_n 1, 1) := dk_27 (dk_at dksX0_sign_1 3 rfl rfl)
theorem dX0_sign_27 : decode cX0_sign 27 = .ok (.iaload, 1) := dk_46 (dk_at dksX0_sign_1 4 rfl rfl)
theorem dX0_sign_28 : decode cX0_sign 28 = .ok (.istore_n 3, 1) := dk_62 (dk_at dksX0_sign_1 5 rfl rfl)
theorem dX0_sign_29 : decode cX0_sign 29 = .ok (.aload_n 0, 1) := dk_42 (dk_at dksX0_sign_1 6 rfl rfl)
theorem dX0_sign_30 : decode cX0_sign 30 = .ok (.getfield 57, 3) := dk_180 0 57 (dk_at dksX0_sign_1 7 rfl rfl)
theorem dX0_sign_33 : decode cX0_sign 33 = .ok (.iload_n 1, 1) := dk_27 (dk_at dksX0_sign_1 10 rfl rfl)
theorem dX0_sign_34 : decode cX0_sign 34 = .ok (.iload_n 2, 1) := dk_28 (dk_at dksX0_sign_1 11 rfl rfl)
theorem dX0_sign_35 : decode cX0_sign 35 = .ok (.iastore, 1) := dk_79 (dk_at dksX0_sign_1 12 rfl rfl)
theorem dX0_sign_36 : decode cX0_sign 36 = .ok (.iload_n 3, 1) := dk_29 (dk_at dksX0_sign_1 13 rfl rfl)
theorem dX0_sign_37 : decode cX0_sign 37 = .ok (.ireturn, 1) := dk_172 (dk_at dksX0_sign_1 14 rfl rfl)
abbrev cX0_fallback : ByteArray := prog_1_method_40_code
def yX0_fallback : MethodName := ⟨RX0, "fallback", "(I)I"⟩
def dkwX0_fallback_5 : List UInt8 := [182, 1, 80, 42, 3, 181, 1, 11, 42, 180, 1, 53, 172, 77, 42, 44, 180, 0, 17, 182, 0, 163, 172]
abbrev dktX0_fallback_5 : List UInt8 := dkwX0_fallback_5 ++ []
def dkwX0_fallback_4 : List UInt8 := [42, 180, 1, 53, 16, 40, 162, 0, 7, 4, 167, 0, 4, 3, 16, 250, 182, 0, 184, 42, 27, 28, 29]
abbrev dktX0_fallback_4 : List UInt8 := dkwX0_fallback_4 ++ dktX0_fallback_5
def dkwX0_fallback_3 : List UInt8 := [182, 1, 76, 132, 4, 1, 167, 255, 234, 42, 3, 181, 1, 11, 42, 180, 1, 53, 172, 42, 29, 156, 0, 12]
abbrev dktX0_fallback_3 : List UInt8 := dkwX0_fallback_3 ++ dktX0_fallback_4
def dkwX0_fallback_2 : List UInt8 := [4, 100, 181, 1, 53, 29, 54, 4, 21, 4, 42, 180, 1, 53, 162, 0, 19, 42, 21, 4, 21, 4, 4, 96]
abbrev dktX0_fallback_2 : List UInt8 := dkwX0_fallback_2 ++ dktX0_fallback_3
def dkwX0_fallback_1 : List UInt8 := [16, 248, 182, 0, 184, 42, 27, 182, 1, 56, 62, 28, 154, 0, 55, 29, 155, 0, 41, 42, 89, 180, 1, 53]
abbrev dktX0_fallback_1 : List UInt8 := dkwX0_fallback_1 ++ dktX0_fallback_2
def dkwX0_fallback_0 : List UInt8 := [42, 27, 184, 0, 195, 2, 182, 0, 184, 42, 182, 1, 73, 61, 42, 28, 155, 0, 7, 4, 167, 0, 4, 3]
abbrev dktX0_fallback_0 : List UInt8 := dkwX0_fallback_0 ++ dktX0_fallback_1
theorem dksX0_fallback_0 : cX0_fallback.data.toList.drop 0 = dktX0_fallback_0 := by decide +kernel
theorem dksX0_fallback_1 : cX0_fallback.data.toList.drop 24 = dktX0_fallback_1 := dk_seg dksX0_fallback_0 24 rfl rfl
theorem dksX0_fallback_2 : cX0_fallback.data.toList.drop 48 = dktX0_fallback_2 := dk_seg dksX0_fallback_1 24 rfl rfl
theorem dksX0_fallback_3 : cX0_fallback.data.toList.drop 72 = dktX0_fallback_3 := dk_seg dksX0_fallback_2 24 rfl rfl
theorem dksX0_fallback_4 : cX0_fallback.data.toList.drop 96 = dktX0_fallback_4 := dk_seg dksX0_fallback_3 24 rfl rfl
theorem dksX0_fallback_5 : cX0_fallback.data.toList.drop 119 = dktX0_fallback_5 := dk_seg dksX0_fallback_4 23 rfl rfl
theorem dX0_fallback_0 : decode cX0_fallback 0 = .ok (.aload_n 0, 1) := dk_42 (dk_at dksX0_fallback_0 0 rfl rfl)
theorem dX0_fallback_1 : decode cX0_fallback 1 = .ok (.iload_n 1, 1) := dk_27 (dk_at dksX0_fallback_0 1 rfl rfl)
theorem dX0_fallback_2 : decode cX0_fallback 2 = .ok (.invokestatic 195, 3) := dk_184 0 195 (dk_at dksX0_fallback_0 2 rfl rfl)
theorem dX0_fallback_5 : decode cX0_fallback 5 = .ok (.iconst (-1), 1) := dk_2 (dk_at dksX0_fallback_0 5 rfl rfl)
theorem dX0_fallback_6 : decode cX0_fallback 6 = .ok (.invokevirtual 184, 3) := dk_182 0 184 (dk_at dksX0_fallback_0 6 rfl rfl)
theorem dX0_fallback_9 : decode cX0_fallback 9 = .ok (.aload_n 0, 1) := dk_42 (dk_at dksX0_fallback_0 9 rfl rfl)
theorem dX0_fallback_10 : decode cX0_fallback 10 = .ok (.invokevirtual 329, 3) := dk_182 1 73 (dk_at dksX0_fallback_0 10 rfl rfl)
theorem dX0_fallback_13 : decode cX0_fallback 13 = .ok (.istore_n 2, 1) := dk_61 (dk_at dksX0_fallback_0 13 rfl rfl)
theorem dX0_fallback_14 : decode cX0_fallback 14 = .ok (.aload_n 0, 1) := dk_42 (dk_at dksX0_fallback_0 14 rfl rfl)
theorem dX0_fallback_15 : decode cX0_fallback 15 = .ok (.iload_n 2, 1) := dk_28 (dk_at dksX0_fallback_0 15 rfl rfl)
theorem dX0_fallback_16 : decode cX0_fallback 16 = .ok (.ifCond .lt 7, 3) := dk_155 0 7 (dk_at dksX0_fallback_0 16 rfl rfl)
theorem dX0_fallback_19 : decode cX0_fallback 19 = .ok (.iconst 1, 1) := dk_4 (dk_at dksX0_fallback_0 19 rfl rfl)
theorem dX0_fallback_20 : decode cX0_fallback 20 = .ok (.goto 4, 3) := dk_167 0 4 (dk_at dksX0_fallback_0 20 rfl rfl)
theorem dX0_fallback_23 : decode cX0_fallback 23 = .ok (.iconst 0, 1) := dk_3 (dk_at dksX0_fallback_0 23 rfl rfl)
theorem dX0_fallback_24 : decode cX0_fallback 24 = .ok (.bipush (-8), 2) := dk_16 248 (dk_at dksX0_fallback_1 0 rfl rfl)
theorem dX0_fallback_26 : decode cX0_fallback 26 = .ok (.invokevirtual 184, 3) := dk_182 0 184 (dk_at dksX0_fallback_1 2 rfl rfl)
theorem dX0_fallback_29 : decode cX0_fallback 29 = .ok (.aload_n 0, 1) := dk_42 (dk_at dksX0_fallback_1 5 rfl rfl)
theorem dX0_fallback_30 : decode cX0_fallback 30 = .ok (.iload_n 1, 1) := dk_27 (dk_at dksX0_fallback_1 6 rfl rfl)
theorem dX0_fallback_31 : decode cX0_fallback 31 = .ok (.invokevirtual 312, 3) := dk_182 1 56 (dk_at dksX0_fallback_1 7 rfl rfl)
theorem dX0_fallback_34 : decode cX0_fallback 34 = .ok (.istore_n 3, 1) := dk_62 (dk_at dksX0_fallback_1 10 rfl rfl)
theorem dX0_fallback_35 : decode cX0_fallback 35 = .ok (.iload_n 2, 1) := dk_28 (dk_at dksX0_fallback_1 11 rfl rfl)
theorem dX0_fallback_36 : decode cX0_fallback 36 = .ok (.ifCond .ne 55, 3) := dk_154 0 55 (dk_at dksX0_fallback_1 12 rfl rfl)
theorem dX0_fallback_39 : decode cX0_fallback 39 = .ok (.iload_n 3, 1) := dk_29 (dk_at dksX0_fallback_1 15 rfl rfl)
theorem dX0_fallback_40 : decode cX0_fallback 40 = .ok (.ifCond .lt 41, 3) := dk_155 0 41 (dk_at dksX0_fallback_1 16 rfl rfl)
theorem dX0_fallback_43 : decode cX0_fallback 43 = .ok (.aload_n 0, 1) := dk_42 (dk_at dksX0_fallback_1 19 rfl rfl)
theorem dX0_fallback_44 : decode cX0_fallback 44 = .ok (.dup, 1) := dk_89 (dk_at dksX0_fallback_1 20 rfl rfl)
theorem dX0_fallback_45 : decode cX0_fallback 45 = .ok (.getfield 309, 3) := dk_180 1 53 (dk_at dksX0_fallback_1 21 rfl rfl)
theorem dX0_fallback_48 : decode cX0_fallback 48 = .ok (.iconst 1, 1) := dk_4 (dk_at dksX0_fallback_2 0 rfl rfl)
theorem dX0_fallback_49 : decode cX0_fallback 49 = .ok (.isub, 1) := dk_100 (dk_at dksX0_fallback_2 1 rfl rfl)
theorem dX0_fallback_50 : decode cX0_fallback 50 = .ok (.putfield 309, 3) := dk_181 1 53 (dk_at dksX0_fallback_2 2 rfl rfl)
theorem dX0_fallback_53 : decode cX0_fallback 53 = .ok (.iload_n 3, 1) := dk_29 (dk_at dksX0_fallback_2 5 rfl rfl)
theorem dX0_fallback_54 : decode cX0_fallback 54 = .ok (.istore 4, 2) := dk_54 4 (dk_at dksX0_fallback_2 6 rfl rfl)
theorem dX0_fallback_56 : decode cX0_fallback 56 = .ok (.iload 4, 2) := dk_21 4 (dk_at dksX0_fallback_2 8 rfl rfl)
theorem dX0_fallback_58 : decode cX0_fallback 58 = .ok (.aload_n 0, 1) := dk_42 (dk_at dksX0_fallback_2 10 rfl rfl)
theorem dX0_fallback_59 : decode cX0_fallback 59 = .ok (.getfield 309, 3) := dk_180 1 53 (dk_at dksX0_fallback_2 11 rfl rfl)
theorem dX0_fallback_62 : decode cX0_fallback 62 = .ok (.if_icmp .ge 19, 3) := dk_162 0 19 (dk_at dksX0_fallback_2 14 rfl rfl)
theorem dX0_fallback_65 : decode cX0_fallback 65 = .ok (.aload_n 0, 1) := dk_42 (dk_at dksX0_fallback_2 17 rfl rfl)
theorem dX0_fallback_66 : decode cX0_fallback 66 = .ok (.iload 4, 2) := dk_21 4 (dk_at dksX0_fallback_2 18 rfl rfl)
theorem dX0_fallback_68 : decode cX0_fallback 68 = .ok (.iload 4, 2) := dk_21 4 (dk_at dksX0_fallback_2 20 rfl rfl)
theorem dX0_fallback_70 : decode cX0_fallback 70 = .ok (.iconst 1, 1) := dk_4 (dk_at dksX0_fallback_2 22 rfl rfl)
theorem dX0_fallback_71 : decode cX0_fallback 71 = .ok (.iadd, 1) := dk_96 (dk_at dksX0_fallback_2 23 rfl rfl)
theorem dX0_fallback_72 : decode cX0_fallback 72 = .ok (.invokevirtual 332, 3) := dk_182 1 76 (dk_at dksX0_fallback_3 0 rfl rfl)
theorem dX0_fallback_75 : decode cX0_fallback 75 = .ok (.iinc 4 1, 3) := dk_132 4 1 (dk_at dksX0_fallback_3 3 rfl rfl)
theorem dX0_fallback_78 : decode cX0_fallback 78 = .ok (.goto (-22), 3) := dk_167 255 234 (dk_at dksX0_fallback_3 6 rfl rfl)
theorem dX0_fallback_81 : decode cX0_fallback 81 = .ok (.aload_n 0, 1) := dk_42 (dk_at dksX0_fallback_3 9 rfl rfl)
theorem dX0_fallback_82 : decode cX0_fallback 82 = .ok (.iconst 0, 1) := dk_3 (dk_at dksX0_fallback_3 10 rfl rfl)
theorem dX0_fallback_83 : decode cX0_fallback 83 = .ok (.putfield 267, 3) := dk_181 1 11 (dk_at dksX0_fallback_3 11 rfl rfl)
theorem dX0_fallback_86 : decode cX0_fallback 86 = .ok (.aload_n 0, 1) := dk_42 (dk_at dksX0_fallback_3 14 rfl rfl)
theorem dX0_fallback_87 : decode cX0_fallback 87 = .ok (.getfield 309, 3) := dk_180 1 53 (dk_at dksX0_fallback_3 15 rfl rfl)
theorem dX0_fallback_90 : decode cX0_fallback 90 = .ok (.ireturn, 1) := dk_172 (dk_at dksX0_fallback_3 18 rfl rfl)
theorem dX0_fallback_91 : decode cX0_fallback 91 = .ok (.aload_n 0, 1) := dk_42 (dk_at dksX0_fallback_3 19 rfl rfl)
theorem dX0_fallback_92 : decode cX0_fallback 92 = .ok (.iload_n 3, 1) := dk_29 (dk_at dksX0_fallback_3 20 rfl rfl)
theorem dX0_fallback_93 : decode cX0_fallback 93 = .ok (.ifCond .ge 12, 3) := dk_156 0 12 (dk_at dksX0_fallback_3 21 rfl rfl)
theorem dX0_fallback_96 : decode cX0_fallback 96 = .ok (.aload_n 0, 1) := dk_42 (dk_at dksX0_fallback_4 0 rfl rfl)
theorem dX0_fallback_97 : decode cX0_fallback 97 = .ok (.getfield 309, 3) := dk_180 1 53 (dk_at dksX0_fallback_4 1 rfl rfl)
theorem dX0_fallback_100 : decode cX0_fallback 100 = .ok (.bipush 40, 2) := dk_16 40 (dk_at dksX0_fallback_4 4 rfl rfl)
theorem dX0_fallback_102 : decode cX0_fallback 102 = .ok (.if_icmp .ge 7, 3) := dk_162 0 7 (dk_at dksX0_fallback_4 6 rfl rfl)
theorem dX0_fallback_105 : decode cX0_fallback 105 = .ok (.iconst 1, 1) := dk_4 (dk_at dksX0_fallback_4 9 rfl rfl)
theorem dX0_fallback_106 : decode cX0_fallback 106 = .ok (.goto 4, 3) := dk_167 0 4 (dk_at dksX0_fallback_4 10 rfl rfl)
theorem dX0_fallback_109 : decode cX0_fallback 109 = .ok (.iconst 0, 1) := dk_3 (dk_at dksX0_fallback_4 13 rfl rfl)
theorem dX0_fallback_110 : decode cX0_fallback 110 = .ok (.bipush (-6), 2) := dk_16 250 (dk_at dksX0_fallback_4 14 rfl rfl)
theorem dX0_fallback_112 : decode cX0_fallback 112 = .ok (.invokevirtual 184, 3) := dk_182 0 184 (dk_at dksX0_fallback_4 16 rfl rfl)
theorem dX0_fallback_115 : decode cX0_fallback 115 = .ok (.aload_n 0, 1) := dk_42 (dk_at dksX0_fallback_4 19 rfl rfl)
theorem dX0_fallback_116 : decode cX0_fallback 116 = .ok (.iload_n 1, 1) := dk_27 (dk_at dksX0_fallback_4 20 rfl rfl)
theorem dX0_fallback_117 : decode cX0_fallback 117 = .ok (.iload_n 2, 1) := dk_28 (dk_at dksX0_fallback_4 21 rfl rfl)
theorem dX0_fallback_118 : decode cX0_fallback 118 = .ok (.iload_n 3, 1) := dk_29 (dk_at dksX0_fallback_4 22 rfl rfl)
theorem dX0_fallback_119 : decode cX0_fallback 119 = .ok (.invokevirtual 336, 3) := dk_182 1 80 (dk_at dksX0_fallback_5 0 rfl rfl)
theorem dX0_fallback_122 : decode cX0_fallback 122 = .ok (.aload_n 0, 1) := dk_42 (dk_at dksX0_fallback_5 3 rfl rfl)
theorem dX0_fallback_123 : decode cX0_fallback 123 = .ok (.iconst 0, 1) := dk_3 (dk_at dksX0_fallback_5 4 rfl rfl)
theorem dX0_fallback_124 : decode cX0_fallback 124 = .ok (.putfield 267, 3) := dk_181 1 11 (dk_at dksX0_fallback_5 5 rfl rfl)
theorem dX0_fallback_127 : decode cX0_fallback 127 = .ok (.aload_n 0, 1) := dk_42 (dk_at dksX0_fallback_5 8 rfl rfl)
theorem dX0_fallback_128 : decode cX0_fallback 128 = .ok (.getfield 309, 3) := dk_180 1 53 (dk_at dksX0_fallback_5 9 rfl rfl)
theorem dX0_fallback_131 : decode cX0_fallback 131 = .ok (.ireturn, 1) := dk_172 (dk_at dksX0_fallback_5 12 rfl rfl)
theorem dX0_fallback_132 : decode cX0_fallback 132 = .ok (.astore_n 2, 1) := dk_77 (dk_at dksX0_fallback_5 13 rfl rfl)
theorem dX0_fallback_133 : decode cX0_fallback 133 = .ok (.aload_n 0, 1) := dk_42 (dk_at dksX0_fallback_5 14 rfl rfl)
theorem dX0_fallback_134 : decode cX0_fallback 134 = .ok (.aload_n 2, 1) := dk_44 (dk_at dksX0_fallback_5 15 rfl rfl)
theorem dX0_fallback_135 : decode cX0_fallback 135 = .ok (.getfield 17, 3) := dk_180 0 17 (dk_at dksX0_fallback_5 16 rfl rfl)
theorem dX0_fallback_138 : decode cX0_fallback 138 = .ok (.invokevirtual 163, 3) := dk_182 0 163 (dk_at dksX0_fallback_5 19 rfl rfl)
theorem dX0_fallback_141 : decode cX0_fallback 141 = .ok (.ireturn, 1) := dk_172 (dk_at dksX0_fallback_5 22 rfl rfl)
abbrev cX0_takeText : ByteArray := prog_1_method_39_code
def yX0_takeText : MethodName := ⟨RX0, "takeText", "()I"⟩
def dkwX0_takeText_4 : List UInt8 := [132, 2, 1, 167, 255, 163, 27, 172]
abbrev dktX0_takeText_4 : List UInt8 := dkwX0_takeText_4 ++ []
def dkwX0_takeText_3 : List UInt8 := [153, 0, 8, 27, 7, 160, 0, 5, 2, 172, 42, 180, 0, 66, 17, 0, 160, 27, 96, 29, 79, 132, 1, 1]
abbrev dktX0_takeText_3 : List UInt8 := dkwX0_takeText_3 ++ dktX0_takeText_4
def dkwX0_takeText_2 : List UInt8 := [153, 0, 19, 29, 42, 180, 0, 53, 28, 4, 96, 46, 184, 1, 70, 62, 132, 2, 1, 29, 184, 0, 195]
abbrev dktX0_takeText_2 : List UInt8 := dkwX0_takeText_2 ++ dktX0_takeText_3
def dkwX0_takeText_1 : List UInt8 := [153, 0, 43, 28, 4, 96, 42, 180, 1, 11, 162, 0, 33, 42, 180, 0, 53, 28, 4, 96, 46, 184, 1, 67]
abbrev dktX0_takeText_1 : List UInt8 := dkwX0_takeText_1 ++ dktX0_takeText_2
def dkwX0_takeText_0 : List UInt8 := [3, 60, 3, 61, 28, 42, 180, 1, 11, 162, 0, 91, 42, 180, 0, 53, 28, 46, 62, 29, 184, 1, 64]
abbrev dktX0_takeText_0 : List UInt8 := dkwX0_takeText_0 ++ dktX0_takeText_1
theorem dksX0_takeText_0 : cX0_takeText.data.toList.drop 0 = dktX0_takeText_0 := by decide +kernel
theorem dksX0_takeText_1 : cX0_takeText.data.toList.drop 23 = dktX0_takeText_1 := dk_seg dksX0_takeText_0 23 rfl rfl
theorem dksX0_takeText_2 : cX0_takeText.data.toList.drop 47 = dktX0_takeText_2 := dk_seg dksX0_takeText_1 24 rfl rfl
theorem dksX0_takeText_3 : cX0_takeText.data.toList.drop 70 = dktX0_takeText_3 := dk_seg dksX0_takeText_2 23 rfl rfl
theorem dksX0_takeText_4 : cX0_takeText.data.toList.drop 94 = dktX0_takeText_4 := dk_seg dksX0_takeText_3 24 rfl rfl
theorem dX0_takeText_0 : decode cX0_takeText 0 = .ok (.iconst 0, 1) := dk_3 (dk_at dksX0_takeText_0 0 rfl rfl)
theorem dX0_takeText_1 : decode cX0_takeText 1 = .ok (.istore_n 1, 1) := dk_60 (dk_at dksX0_takeText_0 1 rfl rfl)
theorem dX0_takeText_2 : decode cX0_takeText 2 = .ok (.iconst 0, 1) := dk_3 (dk_at dksX0_takeText_0 2 rfl rfl)
theorem dX0_takeText_3 : decode cX0_takeText 3 = .ok (.istore_n 2, 1) := dk_61 (dk_at dksX0_takeText_0 3 rfl rfl)
theorem dX0_takeText_4 : decode cX0_takeText 4 = .ok (.iload_n 2, 1) := dk_28 (dk_at dksX0_takeText_0 4 rfl rfl)
theorem dX0_takeText_5 : decode cX0_takeText 5 = .ok (.aload_n 0, 1) := dk_42 (dk_at dksX0_takeText_0 5 rfl rfl)
theorem dX0_takeText_6 : decode cX0_takeText 6 = .ok (.getfield 267, 3) := dk_180 1 11 (dk_at dksX0_takeText_0 6 rfl rfl)
theorem dX0_takeText_9 : decode cX0_takeText 9 = .ok (.if_icmp .ge 91, 3) := dk_162 0 91 (dk_at dksX0_takeText_0 9 rfl rfl)
theorem dX0_takeText_12 : decode cX0_takeText 12 = .ok (.aload_n 0, 1) := dk_42 (dk_at dksX0_takeText_0 12 rfl rfl)
theorem dX0_takeText_13 : decode cX0_takeText 13 = .ok (.getfield 53, 3) := dk_180 0 53 (dk_at dksX0_takeText_0 13 rfl rfl)
theorem dX0_takeText_16 : decode cX0_takeText 16 = .ok (.iload_n 2, 1) := dk_28 (dk_at dksX0_takeText_0 16 rfl rfl)
theorem dX0_takeText_17 : decode cX0_takeText 17 = .ok (.iaload, 1) := dk_46 (dk_at dksX0_takeText_0 17 rfl rfl)
theorem dX0_takeText_18 : decode cX0_takeText 18 = .ok (.istore_n 3, 1) := dk_62 (dk_at dksX0_takeText_0 18 rfl rfl)
theorem dX0_takeText_19 : decode cX0_takeText 19 = .ok (.iload_n 3, 1) := dk_29 (dk_at dksX0_takeText_0 19 rfl rfl)
theorem dX0_takeText_20 : decode cX0_takeText 20 = .ok (.invokestatic 320, 3) := dk_184 1 64 (dk_at dksX0_takeText_0 20 rfl rfl)
theorem dX0_takeText_23 : decode cX0_takeText 23 = .ok (.ifCond .eq 43, 3) := dk_153 0 43 (dk_at dksX0_takeText_1 0 rfl rfl)
theorem dX0_takeText_26 : decode cX0_takeText 26 = .ok (.iload_n 2, 1) := dk_28 (dk_at dksX0_takeText_1 3 rfl rfl)
theorem dX0_takeText_27 : decode cX0_takeText 27 = .ok (.iconst 1, 1) := dk_4 (dk_at dksX0_takeText_1 4 rfl rfl)
theorem dX0_takeText_28 : decode cX0_takeText 28 = .ok (.iadd, 1) := dk_96 (dk_at dksX0_takeText_1 5 rfl rfl)
theorem dX0_takeText_29 : decode cX0_takeText 29 = .ok (.aload_n 0, 1) := dk_42 (dk_at dksX0_takeText_1 6 rfl rfl)
theorem dX0_takeText_30 : decode cX0_takeText 30 = .ok (.getfield 267, 3) := dk_180 1 11 (dk_at dksX0_takeText_1 7 rfl rfl)
theorem dX0_takeText_33 : decode cX0_takeText 33 = .ok (.if_icmp .ge 33, 3) := dk_162 0 33 (dk_at dksX0_takeText_1 10 rfl rfl)
theorem dX0_takeText_36 : decode cX0_takeText 36 = .ok (.aload_n 0, 1) := dk_42 (dk_at dksX0_takeText_1 13 rfl rfl)
theorem dX0_takeText_37 : decode cX0_takeText 37 = .ok (.getfield 53, 3) := dk_180 0 53 (dk_at dksX0_takeText_1 14 rfl rfl)
theorem dX0_takeText_40 : decode cX0_takeText 40 = .ok (.iload_n 2, 1) := dk_28 (dk_at dksX0_takeText_1 17 rfl rfl)
theorem dX0_takeText_41 : decode cX0_takeText 41 = .ok (.iconst 1, 1) := dk_4 (dk_at dksX0_takeText_1 18 rfl rfl)
theorem dX0_takeText_42 : decode cX0_takeText 42 = .ok (.iadd, 1) := dk_96 (dk_at dksX0_takeText_1 19 rfl rfl)
theorem dX0_takeText_43 : decode cX0_takeText 43 = .ok (.iaload, 1) := dk_46 (dk_at dksX0_takeText_1 20 rfl rfl)
theorem dX0_takeText_44 : decode cX0_takeText 44 = .ok (.invokestatic 323, 3) := dk_184 1 67 (dk_at dksX0_takeText_1 21 rfl rfl)
theorem dX0_takeText_47 : decode cX0_takeText 47 = .ok (.ifCond .eq 19, 3) := dk_153 0 19 (dk_at dksX0_takeText_2 0 rfl rfl)
theorem dX0_takeText_50 : decode cX0_takeText 50 = .ok (.iload_n 3, 1) := dk_29 (dk_at dksX0_takeText_2 3 rfl rfl)
theorem dX0_takeText_51 : decode cX0_takeText 51 = .ok (.aload_n 0, 1) := dk_42 (dk_at dksX0_takeText_2 4 rfl rfl)
theorem dX0_takeText_52 : decode cX0_takeText 52 = .ok (.getfield 53, 3) := dk_180 0 53 (dk_at dksX0_takeText_2 5 rfl rfl)
theorem dX0_takeText_55 : decode cX0_takeText 55 = .ok (.iload_n 2, 1) := dk_28 (dk_at dksX0_takeText_2 8 rfl rfl)
theorem dX0_takeText_56 : decode cX0_takeText 56 = .ok (.iconst 1, 1) := dk_4 (dk_at dksX0_takeText_2 9 rfl rfl)
theorem dX0_takeText_57 : decode cX0_takeText 57 = .ok (.iadd, 1) := dk_96 (dk_at dksX0_takeText_2 10 rfl rfl)
theorem dX0_takeText_58 : decode cX0_takeText 58 = .ok (.iaload, 1) := dk_46 (dk_at dksX0_takeText_2 11 rfl rfl)
theorem dX0_takeText_59 : decode cX0_takeText 59 = .ok (.invokestatic 326, 3) := dk_184 1 70 (dk_at dksX0_takeText_2 12 rfl rfl)
theorem dX0_takeText_62 : decode cX0_takeText 62 = .ok (.istore_n 3, 1) := dk_62 (dk_at dksX0_takeText_2 15 rfl rfl)
theorem dX0_takeText_63 : decode cX0_takeText 63 = .ok (.iinc 2 1, 3) := dk_132 2 1 (dk_at dksX0_takeText_2 16 rfl rfl)
theorem dX0_takeText_66 : decode cX0_takeText 66 = .ok (.iload_n 3, 1) := dk_29 (dk_at dksX0_takeText_2 19 rfl rfl)
theorem dX0_takeText_67 : decode cX0_takeText 67 = .ok (.invokestatic 195, 3) := dk_184 0 195 (dk_at dksX0_takeText_2 20 rfl rfl)
theorem dX0_takeText_70 : decode cX0_takeText 70 = .ok (.ifCond .eq 8, 3) := dk_153 0 8 (dk_at dksX0_takeText_3 0 rfl rfl)
theorem dX0_takeText_73 : decode cX0_takeText 73 = .ok (.iload_n 1, 1) := dk_27 (dk_at dksX0_takeText_3 3 rfl rfl)
theorem dX0_takeText_74 : decode cX0_takeText 74 = .ok (.iconst 4, 1) := dk_7 (dk_at dksX0_takeText_3 4 rfl rfl)
theorem dX0_takeText_75 : decode cX0_takeText 75 = .ok (.if_icmp .ne 5, 3) := dk_160 0 5 (dk_at dksX0_takeText_3 5 rfl rfl)
theorem dX0_takeText_78 : decode cX0_takeText 78 = .ok (.iconst (-1), 1) := dk_2 (dk_at dksX0_takeText_3 8 rfl rfl)
theorem dX0_takeText_79 : decode cX0_takeText 79 = .ok (.ireturn, 1) := dk_172 (dk_at dksX0_takeText_3 9 rfl rfl)
theorem dX0_takeText_80 : decode cX0_takeText 80 = .ok (.aload_n 0, 1) := dk_42 (dk_at dksX0_takeText_3 10 rfl rfl)
theorem dX0_takeText_81 : decode cX0_takeText 81 = .ok (.getfield 66, 3) := dk_180 0 66 (dk_at dksX0_takeText_3 11 rfl rfl)
theorem dX0_takeText_84 : decode cX0_takeText 84 = .ok (.sipush 160, 3) := dk_17 0 160 (dk_at dksX0_takeText_3 14 rfl rfl)
theorem dX0_takeText_87 : decode cX0_takeText 87 = .ok (.iload_n 1, 1) := dk_27 (dk_at dksX0_takeText_3 17 rfl rfl)
theorem dX0_takeText_88 : decode cX0_takeText 88 = .ok (.iadd, 1) := dk_96 (dk_at dksX0_takeText_3 18 rfl rfl)
theorem dX0_takeText_89 : decode cX0_takeText 89 = .ok (.iload_n 3, 1) := dk_29 (dk_at dksX0_takeText_3 19 rfl rfl)
theorem dX0_takeText_90 : decode cX0_takeText 90 = .ok (.iastore, 1) := dk_79 (dk_at dksX0_takeText_3 20 rfl rfl)
theorem dX0_takeText_91 : decode cX0_takeText 91 = .ok (.iinc 1 1, 3) := dk_132 1 1 (dk_at dksX0_takeText_3 21 rfl rfl)
theorem dX0_takeText_94 : decode cX0_takeText 94 = .ok (.iinc 2 1, 3) := dk_132 2 1 (dk_at dksX0_takeText_4 0 rfl rfl)
theorem dX0_takeText_97 : decode cX0_takeText 97 = .ok (.goto (-93), 3) := dk_167 255 163 (dk_at dksX0_takeText_4 3 rfl rfl)
theorem dX0_takeText_100 : decode cX0_takeText 100 = .ok (.iload_n 1, 1) := dk_27 (dk_at dksX0_takeText_4 6 rfl rfl)
theorem dX0_takeText_101 : decode cX0_takeText 101 = .ok (.ireturn, 1) := dk_172 (dk_at dksX0_takeText_4 7 rfl rfl)
abbrev cX0_setFallback : ByteArray := prog_1_method_36_code
def yX0_setFallback : MethodName := ⟨RX0, "setFallback", "(II)V"⟩
def dkwX0_setFallback_2 : List UInt8 := [96, 46, 79, 132, 3, 1, 167, 255, 228, 177]
abbrev dktX0_setFallback_2 : List UInt8 := dkwX0_setFallback_2 ++ []
def dkwX0_setFallback_1 : List UInt8 := [3, 62, 29, 7, 162, 0, 29, 42, 180, 0, 66, 7, 27, 104, 29, 96, 42, 180, 0, 66, 7, 28, 104, 29]
abbrev dktX0_setFallback_1 : List UInt8 := dkwX0_setFallback_1 ++ dktX0_setFallback_2
def dkwX0_setFallback_0 : List UInt8 := [42, 180, 0, 60, 27, 42, 180, 0, 60, 28, 46, 79, 42, 180, 0, 63, 27, 42, 180, 0, 63, 28, 46, 79]
abbrev dktX0_setFallback_0 : List UInt8 := dkwX0_setFallback_0 ++ dktX0_setFallback_1
theorem dksX0_setFallback_0 : cX0_setFallback.data.toList.drop 0 = dktX0_setFallback_0 := by decide +kernel
theorem dksX0_setFallback_1 : cX0_setFallback.data.toList.drop 24 = dktX0_setFallback_1 := dk_seg dksX0_setFallback_0 24 rfl rfl
theorem dksX0_setFallback_2 : cX0_setFallback.data.toList.drop 48 = dktX0_setFallback_2 := dk_seg dksX0_setFallback_1 24 rfl rfl
theorem dX0_setFallback_0 : decode cX0_setFallback 0 = .ok (.aload_n 0, 1) := dk_42 (dk_at dksX0_setFallback_0 0 rfl rfl)
theorem dX0_setFallback_1 : decode cX0_setFallback 1 = .ok (.getfield 60, 3) := dk_180 0 60 (dk_at dksX0_setFallback_0 1 rfl rfl)
theorem dX0_setFallback_4 : decode cX0_setFallback 4 = .ok (.iload_n 1, 1) := dk_27 (dk_at dksX0_setFallback_0 4 rfl rfl)
theorem dX0_setFallback_5 : decode cX0_setFallback 5 = .ok (.aload_n 0, 1) := dk_42 (dk_at dksX0_setFallback_0 5 rfl rfl)
theorem dX0_setFallback_6 : decode cX0_setFallback 6 = .ok (.getfield 60, 3) := dk_180 0 60 (dk_at dksX0_setFallback_0 6 rfl rfl)
theorem dX0_setFallback_9 : decode cX0_setFallback 9 = .ok (.iload_n 2, 1) := dk_28 (dk_at dksX0_setFallback_0 9 rfl rfl)
theorem dX0_setFallback_10 : decode cX0_setFallback 10 = .ok (.iaload, 1) := dk_46 (dk_at dksX0_setFallback_0 10 rfl rfl)
theorem dX0_setFallback_11 : decode cX0_setFallback 11 = .ok (.iastore, 1) := dk_79 (dk_at dksX0_setFallback_0 11 rfl rfl)
theorem dX0_setFallback_12 : decode cX0_setFallback 12 = .ok (.aload_n 0, 1) := dk_42 (dk_at dksX0_setFallback_0 12 rfl rfl)
theorem dX0_setFallback_13 : decode cX0_setFallback 13 = .ok (.getfield 63, 3) := dk_180 0 63 (dk_at dksX0_setFallback_0 13 rfl rfl)
theorem dX0_setFallback_16 : decode cX0_setFallback 16 = .ok (.iload_n 1, 1) := dk_27 (dk_at dksX0_setFallback_0 16 rfl rfl)
theorem dX0_setFallback_17 : decode cX0_setFallback 17 = .ok (.aload_n 0, 1) := dk_42 (dk_at dksX0_setFallback_0 17 rfl rfl)
theorem dX0_setFallback_18 : decode cX0_setFallback 18 = .ok (.getfield 63, 3) := dk_180 0 63 (dk_at dksX0_setFallback_0 18 rfl rfl)
theorem dX0_setFallback_21 : decode cX0_setFallback 21 = .ok (.iload_n 2, 1) := dk_28 (dk_at dksX0_setFallback_0 21 rfl rfl)
theorem dX0_setFallback_22 : decode cX0_setFallback 22 = .ok (.iaload, 1) := dk_46 (dk_at dksX0_setFallback_0 22 rfl rfl)
theorem dX0_setFallback_23 : decode cX0_setFallback 23 = .ok (.iastore, 1) := dk_79 (dk_at dksX0_setFallback_0 23 rfl rfl)
theorem dX0_setFallback_24 : decode cX0_setFallback 24 = .ok (.iconst 0, 1) := dk_3 (dk_at dksX0_setFallback_1 0 rfl rfl)
theorem dX0_setFallback_25 : decode cX0_setFallback 25 = .ok (.istore_n 3, 1) := dk_62 (dk_at dksX0_setFallback_1 1 rfl rfl)
theorem dX0_setFallback_26 : decode cX0_setFallback 26 = .ok (.iload_n 3, 1) := dk_29 (dk_at dksX0_setFallback_1 2 rfl rfl)
theorem dX0_setFallback_27 : decode cX0_setFallback 27 = .ok (.iconst 4, 1) := dk_7 (dk_at dksX0_setFallback_1 3 rfl rfl)
theorem dX0_setFallback_28 : decode cX0_setFallback 28 = .ok (.if_icmp .ge 29, 3) := dk_162 0 29 (dk_at dksX0_setFallback_1 4 rfl rfl)
theorem dX0_setFallback_31 : decode cX0_setFallback 31 = .ok (.aload_n 0, 1) := dk_42 (dk_at dksX0_setFallback_1 7 rfl rfl)
theorem dX0_setFallback_32 : decode cX0_setFallback 32 = .ok (.getfield 66, 3) := dk_180 0 66 (dk_at dksX0_setFallback_1 8 rfl rfl)
theorem dX0_setFallback_35 : decode cX0_setFallback 35 = .ok (.iconst 4, 1) := dk_7 (dk_at dksX0_setFallback_1 11 rfl rfl)
theorem dX0_setFallback_36 : decode cX0_setFallback 36 = .ok (.iload_n 1, 1) := dk_27 (dk_at dksX0_setFallback_1 12 rfl rfl)
theorem dX0_setFallback_37 : decode cX0_setFallback 37 = .ok (.imul, 1) := dk_104 (dk_at dksX0_setFallback_1 13 rfl rfl)
theorem dX0_setFallback_38 : decode cX0_setFallback 38 = .ok (.iload_n 3, 1) := dk_29 (dk_at dksX0_setFallback_1 14 rfl rfl)
theorem dX0_setFallback_39 : decode cX0_setFallback 39 = .ok (.iadd, 1) := dk_96 (dk_at dksX0_setFallback_1 15 rfl rfl)
theorem dX0_setFallback_40 : decode cX0_setFallback 40 = .ok (.aload_n 0, 1) := dk_42 (dk_at dksX0_setFallback_1 16 rfl rfl)
theorem dX0_setFallback_41 : decode cX0_setFallback 41 = .ok (.getfield 66, 3) := dk_180 0 66 (dk_at dksX0_setFallback_1 17 rfl rfl)
theorem dX0_setFallback_44 : decode cX0_setFallback 44 = .ok (.iconst 4, 1) := dk_7 (dk_at dksX0_setFallback_1 20 rfl rfl)
theorem dX0_setFallback_45 : decode cX0_setFallback 45 = .ok (.iload_n 2, 1) := dk_28 (dk_at dksX0_setFallback_1 21 rfl rfl)
theorem dX0_setFallback_46 : decode cX0_setFallback 46 = .ok (.imul, 1) := dk_104 (dk_at dksX0_setFallback_1 22 rfl rfl)
theorem dX0_setFallback_47 : decode cX0_setFallback 47 = .ok (.iload_n 3, 1) := dk_29 (dk_at dksX0_setFallback_1 23 rfl rfl)
theorem dX0_setFallback_48 : decode cX0_setFallback 48 = .ok (.iadd, 1) := dk_96 (dk_at dksX0_setFallback_2 0 rfl rfl)
theorem dX0_setFallback_49 : decode cX0_setFallback 49 = .ok (.iaload, 1) := dk_46 (dk_at dksX0_setFallback_2 1 rfl rfl)
theorem dX0_setFallback_50 : decode cX0_setFallback 50 = .ok (.iastore, 1) := dk_79 (dk_at dksX0_setFallback_2 2 rfl rfl)
theorem dX0_setFallback_51 : decode cX0_setFallback 51 = .ok (.iinc 3 1, 3) := dk_132 3 1 (dk_at dksX0_setFallback_2 3 rfl rfl)
theorem dX0_setFallback_54 : decode cX0_setFallback 54 = .ok (.goto (-28), 3) := dk_167 255 228 (dk_at dksX0_setFallback_2 6 rfl rfl)
theorem dX0_setFallback_57 : decode cX0_setFallback 57 = .ok (.return_, 1) := dk_177 (dk_at dksX0_setFallback_2 9 rfl rfl)
abbrev cX0_lay : ByteArray := prog_1_method_41_code
def yX0_lay : MethodName := ⟨RX0, "lay", "(III)V"⟩
def dkwX0_lay_8 : List UInt8 := [132, 6, 1, 167, 255, 228, 42, 21, 5, 153, 0, 8, 16, 244, 167, 0, 5, 16, 245, 182, 0, 140, 191]
abbrev dktX0_lay_8 : List UInt8 := dkwX0_lay_8 ++ []
def dkwX0_lay_7 : List UInt8 := [162, 0, 28, 42, 180, 0, 66, 7, 21, 4, 104, 21, 6, 96, 42, 180, 0, 112, 21, 6, 46, 79]
abbrev dktX0_lay_7 : List UInt8 := dkwX0_lay_7 ++ dktX0_lay_8
def dkwX0_lay_6 : List UInt8 := [155, 0, 50, 42, 180, 0, 63, 21, 4, 42, 180, 0, 112, 7, 46, 79, 3, 54, 6, 21, 6, 7]
abbrev dktX0_lay_6 : List UInt8 := dkwX0_lay_6 ++ dktX0_lay_7
def dkwX0_lay_5 : List UInt8 := [153, 0, 4, 177, 42, 89, 180, 1, 53, 29, 156, 0, 7, 4, 167, 0, 4, 3, 100, 181, 1, 53, 29]
abbrev dktX0_lay_5 : List UInt8 := dkwX0_lay_5 ++ dktX0_lay_6
def dkwX0_lay_4 : List UInt8 := [4, 167, 0, 4, 3, 96, 181, 1, 53, 42, 182, 1, 84, 54, 5, 21, 5, 153, 0, 11, 42, 182, 1, 87]
abbrev dktX0_lay_4 : List UInt8 := dkwX0_lay_4 ++ dktX0_lay_5
def dkwX0_lay_3 : List UInt8 := [180, 0, 63, 16, 40, 28, 79, 42, 21, 4, 16, 40, 182, 1, 76, 42, 89, 180, 1, 53, 29, 156, 0, 7]
abbrev dktX0_lay_3 : List UInt8 := dkwX0_lay_3 ++ dktX0_lay_4
def dkwX0_lay_2 : List UInt8 := [21, 4, 104, 21, 5, 96, 46, 79, 132, 5, 1, 167, 255, 228, 42, 180, 0, 60, 16, 40, 27, 79, 42]
abbrev dktX0_lay_2 : List UInt8 := dkwX0_lay_2 ++ dktX0_lay_3
def dkwX0_lay_1 : List UInt8 := [21, 4, 46, 79, 3, 54, 5, 21, 5, 7, 162, 0, 28, 42, 180, 0, 112, 21, 5, 42, 180, 0, 66, 7]
abbrev dktX0_lay_1 : List UInt8 := dkwX0_lay_1 ++ dktX0_lay_2
def dkwX0_lay_0 : List UInt8 := [29, 156, 0, 10, 42, 180, 1, 53, 167, 0, 4, 29, 54, 4, 42, 180, 0, 112, 7, 42, 180, 0, 63]
abbrev dktX0_lay_0 : List UInt8 := dkwX0_lay_0 ++ dktX0_lay_1
theorem dksX0_lay_0 : cX0_lay.data.toList.drop 0 = dktX0_lay_0 := by decide +kernel
theorem dksX0_lay_1 : cX0_lay.data.toList.drop 23 = dktX0_lay_1 := dk_seg dksX0_lay_0 23 rfl rfl
theorem dksX0_lay_2 : cX0_lay.data.toList.drop 47 = dktX0_lay_2 := dk_seg dksX0_lay_1 24 rfl rfl
theorem dksX0_lay_3 : cX0_lay.data.toList.drop 70 = dktX0_lay_3 := dk_seg dksX0_lay_2 23 rfl rfl
theorem dksX0_lay_4 : cX0_lay.data.toList.drop 94 = dktX0_lay_4 := dk_seg dksX0_lay_3 24 rfl rfl
theorem dksX0_lay_5 : cX0_lay.data.toList.drop 118 = dktX0_lay_5 := dk_seg dksX0_lay_4 24 rfl rfl
theorem dksX0_lay_6 : cX0_lay.data.toList.drop 141 = dktX0_lay_6 := dk_seg dksX0_lay_5 23 rfl rfl
theorem dksX0_lay_7 : cX0_lay.data.toList.drop 163 = dktX0_lay_7 := dk_seg dksX0_lay_6 22 rfl rfl
theorem dksX0_lay_8 : cX0_lay.data.toList.drop 185 = dktX0_lay_8 := dk_seg dksX0_lay_7 22 rfl rfl
theorem dX0_lay_0 : decode cX0_lay 0 = .ok (.iload_n 3, 1) := dk_29 (dk_at dksX0_lay_0 0 rfl rfl)
theorem dX0_lay_1 : decode cX0_lay 1 = .ok (.ifCond .ge 10, 3) := dk_156 0 10 (dk_at dksX0_lay_0 1 rfl rfl)
theorem dX0_lay_4 : decode cX0_lay 4 = .ok (.aload_n 0, 1) := dk_42 (dk_at dksX0_lay_0 4 rfl rfl)
theorem dX0_lay_5 : decode cX0_lay 5 = .ok (.getfield 309, 3) := dk_180 1 53 (dk_at dksX0_lay_0 5 rfl rfl)
theorem dX0_lay_8 : decode cX0_lay 8 = .ok (.goto 4, 3) := dk_167 0 4 (dk_at dksX0_lay_0 8 rfl rfl)
theorem dX0_lay_11 : decode cX0_lay 11 = .ok (.iload_n 3, 1) := dk_29 (dk_at dksX0_lay_0 11 rfl rfl)
theorem dX0_lay_12 : decode cX0_lay 12 = .ok (.istore 4, 2) := dk_54 4 (dk_at dksX0_lay_0 12 rfl rfl)
theorem dX0_lay_14 : decode cX0_lay 14 = .ok (.aload_n 0, 1) := dk_42 (dk_at dksX0_lay_0 14 rfl rfl)
theorem dX0_lay_15 : decode cX0_lay 15 = .ok (.getfield 112, 3) := dk_180 0 112 (dk_at dksX0_lay_0 15 rfl rfl)
theorem dX0_lay_18 : decode cX0_lay 18 = .ok (.iconst 4, 1) := dk_7 (dk_at dksX0_lay_0 18 rfl rfl)
theorem dX0_lay_19 : decode cX0_lay 19 = .ok (.aload_n 0, 1) := dk_42 (dk_at dksX0_lay_0 19 rfl rfl)
theorem dX0_lay_20 : decode cX0_lay 20 = .ok (.getfield 63, 3) := dk_180 0 63 (dk_at dksX0_lay_0 20 rfl rfl)
theorem dX0_lay_23 : decode cX0_lay 23 = .ok (.iload 4, 2) := dk_21 4 (dk_at dksX0_lay_1 0 rfl rfl)
theorem dX0_lay_25 : decode cX0_lay 25 = .ok (.iaload, 1) := dk_46 (dk_at dksX0_lay_1 2 rfl rfl)
theorem dX0_lay_26 : decode cX0_lay 26 = .ok (.iastore, 1) := dk_79 (dk_at dksX0_lay_1 3 rfl rfl)
theorem dX0_lay_27 : decode cX0_lay 27 = .ok (.iconst 0, 1) := dk_3 (dk_at dksX0_lay_1 4 rfl rfl)
theorem dX0_lay_28 : decode cX0_lay 28 = .ok (.istore 5, 2) := dk_54 5 (dk_at dksX0_lay_1 5 rfl rfl)
theorem dX0_lay_30 : decode cX0_lay 30 = .ok (.iload 5, 2) := dk_21 5 (dk_at dksX0_lay_1 7 rfl rfl)
theorem dX0_lay_32 : decode cX0_lay 32 = .ok (.iconst 4, 1) := dk_7 (dk_at dksX0_lay_1 9 rfl rfl)
theorem dX0_lay_33 : decode cX0_lay 33 = .ok (.if_icmp .ge 28, 3) := dk_162 0 28 (dk_at dksX0_lay_1 10 rfl rfl)
theorem dX0_lay_36 : decode cX0_lay 36 = .ok (.aload_n 0, 1) := dk_42 (dk_at dksX0_lay_1 13 rfl rfl)
theorem dX0_lay_37 : decode cX0_lay 37 = .ok (.getfield 112, 3) := dk_180 0 112 (dk_at dksX0_lay_1 14 rfl rfl)
theorem dX0_lay_40 : decode cX0_lay 40 = .ok (.iload 5, 2) := dk_21 5 (dk_at dksX0_lay_1 17 rfl rfl)
theorem dX0_lay_42 : decode cX0_lay 42 = .ok (.aload_n 0, 1) := dk_42 (dk_at dksX0_lay_1 19 rfl rfl)
theorem dX0_lay_43 : decode cX0_lay 43 = .ok (.getfield 66, 3) := dk_180 0 66 (dk_at dksX0_lay_1 20 rfl rfl)
theorem dX0_lay_46 : decode cX0_lay 46 = .ok (.iconst 4, 1) := dk_7 (dk_at dksX0_lay_1 23 rfl rfl)
theorem dX0_lay_47 : decode cX0_lay 47 = .ok (.iload 4, 2) := dk_21 4 (dk_at dksX0_lay_2 0 rfl rfl)
theorem dX0_lay_49 : decode cX0_lay 49 = .ok (.imul, 1) := dk_104 (dk_at dksX0_lay_2 2 rfl rfl)
theorem dX0_lay_50 : decode cX0_lay 50 = .ok (.iload 5, 2) := dk_21 5 (dk_at dksX0_lay_2 3 rfl rfl)
theorem dX0_lay_52 : decode cX0_lay 52 = .ok (.iadd, 1) := dk_96 (dk_at dksX0_lay_2 5 rfl rfl)
theorem dX0_lay_53 : decode cX0_lay 53 = .ok (.iaload, 1) := dk_46 (dk_at dksX0_lay_2 6 rfl rfl)
theorem dX0_lay_54 : decode cX0_lay 54 = .ok (.iastore, 1) := dk_79 (dk_at dksX0_lay_2 7 rfl rfl)
theorem dX0_lay_55 : decode cX0_lay 55 = .ok (.iinc 5 1, 3) := dk_132 5 1 (dk_at dksX0_lay_2 8 rfl rfl)
theorem dX0_lay_58 : decode cX0_lay 58 = .ok (.goto (-28), 3) := dk_167 255 228 (dk_at dksX0_lay_2 11 rfl rfl)
theorem dX0_lay_61 : decode cX0_lay 61 = .ok (.aload_n 0, 1) := dk_42 (dk_at dksX0_lay_2 14 rfl rfl)
theorem dX0_lay_62 : decode cX0_lay 62 = .ok (.getfield 60, 3) := dk_180 0 60 (dk_at dksX0_lay_2 15 rfl rfl)
theorem dX0_lay_65 : decode cX0_lay 65 = .ok (.bipush 40, 2) := dk_16 40 (dk_at dksX0_lay_2 18 rfl rfl)
theorem dX0_lay_67 : decode cX0_lay 67 = .ok (.iload_n 1, 1) := dk_27 (dk_at dksX0_lay_2 20 rfl rfl)
theorem dX0_lay_68 : decode cX0_lay 68 = .ok (.iastore, 1) := dk_79 (dk_at dksX0_lay_2 21 rfl rfl)
theorem dX0_lay_69 : decode cX0_lay 69 = .ok (.aload_n 0, 1) := dk_42 (dk_at dksX0_lay_2 22 rfl rfl)
theorem dX0_lay_70 : decode cX0_lay 70 = .ok (.getfield 63, 3) := dk_180 0 63 (dk_at dksX0_lay_3 0 rfl rfl)
theorem dX0_lay_73 : decode cX0_lay 73 = .ok (.bipush 40, 2) := dk_16 40 (dk_at dksX0_lay_3 3 rfl rfl)
theorem dX0_lay_75 : decode cX0_lay 75 = .ok (.iload_n 2, 1) := dk_28 (dk_at dksX0_lay_3 5 rfl rfl)
theorem dX0_lay_76 : decode cX0_lay 76 = .ok (.iastore, 1) := dk_79 (dk_at dksX0_lay_3 6 rfl rfl)
theorem dX0_lay_77 : decode cX0_lay 77 = .ok (.aload_n 0, 1) := dk_42 (dk_at dksX0_lay_3 7 rfl rfl)
theorem dX0_lay_78 : decode cX0_lay 78 = .ok (.iload 4, 2) := dk_21 4 (dk_at dksX0_lay_3 8 rfl rfl)
theorem dX0_lay_80 : decode cX0_lay 80 = .ok (.bipush 40, 2) := dk_16 40 (dk_at dksX0_lay_3 10 rfl rfl)
theorem dX0_lay_82 : decode cX0_lay 82 = .ok (.invokevirtual 332, 3) := dk_182 1 76 (dk_at dksX0_lay_3 12 rfl rfl)
theorem dX0_lay_85 : decode cX0_lay 85 = .ok (.aload_n 0, 1) := dk_42 (dk_at dksX0_lay_3 15 rfl rfl)
theorem dX0_lay_86 : decode cX0_lay 86 = .ok (.dup, 1) := dk_89 (dk_at dksX0_lay_3 16 rfl rfl)
theorem dX0_lay_87 : decode cX0_lay 87 = .ok (.getfield 309, 3) := dk_180 1 53 (dk_at dksX0_lay_3 17 rfl rfl)
theorem dX0_lay_90 : decode cX0_lay 90 = .ok (.iload_n 3, 1) := dk_29 (dk_at dksX0_lay_3 20 rfl rfl)
theorem dX0_lay_91 : decode cX0_lay 91 = .ok (.ifCond .ge 7, 3) := dk_156 0 7 (dk_at dksX0_lay_3 21 rfl rfl)
theorem dX0_lay_94 : decode cX0_lay 94 = .ok (.iconst 1, 1) := dk_4 (dk_at dksX0_lay_4 0 rfl rfl)
theorem dX0_lay_95 : decode cX0_lay 95 = .ok (.goto 4, 3) := dk_167 0 4 (dk_at dksX0_lay_4 1 rfl rfl)
theorem dX0_lay_98 : decode cX0_lay 98 = .ok (.iconst 0, 1) := dk_3 (dk_at dksX0_lay_4 4 rfl rfl)
theorem dX0_lay_99 : decode cX0_lay 99 = .ok (.iadd, 1) := dk_96 (dk_at dksX0_lay_4 5 rfl rfl)
theorem dX0_lay_100 : decode cX0_lay 100 = .ok (.putfield 309, 3) := dk_181 1 53 (dk_at dksX0_lay_4 6 rfl rfl)
theorem dX0_lay_103 : decode cX0_lay 103 = .ok (.aload_n 0, 1) := dk_42 (dk_at dksX0_lay_4 9 rfl rfl)
theorem dX0_lay_104 : decode cX0_lay 104 = .ok (.invokevirtual 340, 3) := dk_182 1 84 (dk_at dksX0_lay_4 10 rfl rfl)
theorem dX0_lay_107 : decode cX0_lay 107 = .ok (.istore 5, 2) := dk_54 5 (dk_at dksX0_lay_4 13 rfl rfl)
theorem dX0_lay_109 : decode cX0_lay 109 = .ok (.iload 5, 2) := dk_21 5 (dk_at dksX0_lay_4 15 rfl rfl)
theorem dX0_lay_111 : decode cX0_lay 111 = .ok (.ifCond .eq 11, 3) := dk_153 0 11 (dk_at dksX0_lay_4 17 rfl rfl)
theorem dX0_lay_114 : decode cX0_lay 114 = .ok (.aload_n 0, 1) := dk_42 (dk_at dksX0_lay_4 20 rfl rfl)
theorem dX0_lay_115 : decode cX0_lay 115 = .ok (.invokevirtual 343, 3) := dk_182 1 87 (dk_at dksX0_lay_4 21 rfl rfl)
theorem dX0_lay_118 : decode cX0_lay 118 = .ok (.ifCond .eq 4, 3) := dk_153 0 4 (dk_at dksX0_lay_5 0 rfl rfl)
theorem dX0_lay_121 : decode cX0_lay 121 = .ok (.return_, 1) := dk_177 (dk_at dksX0_lay_5 3 rfl rfl)
theorem dX0_lay_122 : decode cX0_lay 122 = .ok (.aload_n 0, 1) := dk_42 (dk_at dksX0_lay_5 4 rfl rfl)
theorem dX0_lay_123 : decode cX0_lay 123 = .ok (.dup, 1) := dk_89 (dk_at dksX0_lay_5 5 rfl rfl)
theorem dX0_lay_124 : decode cX0_lay 124 = .ok (.getfield 309, 3) := dk_180 1 53 (dk_at dksX0_lay_5 6 rfl rfl)
theorem dX0_lay_127 : decode cX0_lay 127 = .ok (.iload_n 3, 1) := dk_29 (dk_at dksX0_lay_5 9 rfl rfl)
theorem dX0_lay_128 : decode cX0_lay 128 = .ok (.ifCond .ge 7, 3) := dk_156 0 7 (dk_at dksX0_lay_5 10 rfl rfl)
theorem dX0_lay_131 : decode cX0_lay 131 = .ok (.iconst 1, 1) := dk_4 (dk_at dksX0_lay_5 13 rfl rfl)
theorem dX0_lay_132 : decode cX0_lay 132 = .ok (.goto 4, 3) := dk_167 0 4 (dk_at dksX0_lay_5 14 rfl rfl)
theorem dX0_lay_135 : decode cX0_lay 135 = .ok (.iconst 0, 1) := dk_3 (dk_at dksX0_lay_5 17 rfl rfl)
theorem dX0_lay_136 : decode cX0_lay 136 = .ok (.isub, 1) := dk_100 (dk_at dksX0_lay_5 18 rfl rfl)
theorem dX0_lay_137 : decode cX0_lay 137 = .ok (.putfield 309, 3) := dk_181 1 53 (dk_at dksX0_lay_5 19 rfl rfl)
theorem dX0_lay_140 : decode cX0_lay 140 = .ok (.iload_n 3, 1) := dk_29 (dk_at dksX0_lay_5 22 rfl rfl)
theorem dX0_lay_141 : decode cX0_lay 141 = .ok (.ifCond .lt 50, 3) := dk_155 0 50 (dk_at dksX0_lay_6 0 rfl rfl)
theorem dX0_lay_144 : decode cX0_lay 144 = .ok (.aload_n 0, 1) := dk_42 (dk_at dksX0_lay_6 3 rfl rfl)
theorem dX0_lay_145 : decode cX0_lay 145 = .ok (.getfield 63, 3) := dk_180 0 63 (dk_at dksX0_lay_6 4 rfl rfl)
theorem dX0_lay_148 : decode cX0_lay 148 = .ok (.iload 4, 2) := dk_21 4 (dk_at dksX0_lay_6 7 rfl rfl)
theorem dX0_lay_150 : decode cX0_lay 150 = .ok (.aload_n 0, 1) := dk_42 (dk_at dksX0_lay_6 9 rfl rfl)
theorem dX0_lay_151 : decode cX0_lay 151 = .ok (.getfield 112, 3) := dk_180 0 112 (dk_at dksX0_lay_6 10 rfl rfl)
theorem dX0_lay_154 : decode cX0_lay 154 = .ok (.iconst 4, 1) := dk_7 (dk_at dksX0_lay_6 13 rfl rfl)
theorem dX0_lay_155 : decode cX0_lay 155 = .ok (.iaload, 1) := dk_46 (dk_at dksX0_lay_6 14 rfl rfl)
theorem dX0_lay_156 : decode cX0_lay 156 = .ok (.iastore, 1) := dk_79 (dk_at dksX0_lay_6 15 rfl rfl)
theorem dX0_lay_157 : decode cX0_lay 157 = .ok (.iconst 0, 1) := dk_3 (dk_at dksX0_lay_6 16 rfl rfl)
theorem dX0_lay_158 : decode cX0_lay 158 = .ok (.istore 6, 2) := dk_54 6 (dk_at dksX0_lay_6 17 rfl rfl)
theorem dX0_lay_160 : decode cX0_lay 160 = .ok (.iload 6, 2) := dk_21 6 (dk_at dksX0_lay_6 19 rfl rfl)
theorem dX0_lay_162 : decode cX0_lay 162 = .ok (.iconst 4, 1) := dk_7 (dk_at dksX0_lay_6 21 rfl rfl)
theorem dX0_lay_163 : decode cX0_lay 163 = .ok (.if_icmp .ge 28, 3) := dk_162 0 28 (dk_at dksX0_lay_7 0 rfl rfl)
theorem dX0_lay_166 : decode cX0_lay 166 = .ok (.aload_n 0, 1) := dk_42 (dk_at dksX0_lay_7 3 rfl rfl)
theorem dX0_lay_167 : decode cX0_lay 167 = .ok (.getfield 66, 3) := dk_180 0 66 (dk_at dksX0_lay_7 4 rfl rfl)
theorem dX0_lay_170 : decode cX0_lay 170 = .ok (.iconst 4, 1) := dk_7 (dk_at dksX0_lay_7 7 rfl rfl)
theorem dX0_lay_171 : decode cX0_lay 171 = .ok (.iload 4, 2) := dk_21 4 (dk_at dksX0_lay_7 8 rfl rfl)
theorem dX0_lay_173 : decode cX0_lay 173 = .ok (.imul, 1) := dk_104 (dk_at dksX0_lay_7 10 rfl rfl)
theorem dX0_lay_174 : decode cX0_lay 174 = .ok (.iload 6, 2) := dk_21 6 (dk_at dksX0_lay_7 11 rfl rfl)
theorem dX0_lay_176 : decode cX0_lay 176 = .ok (.iadd, 1) := dk_96 (dk_at dksX0_lay_7 13 rfl rfl)
theorem dX0_lay_177 : decode cX0_lay 177 = .ok (.aload_n 0, 1) := dk_42 (dk_at dksX0_lay_7 14 rfl rfl)
theorem dX0_lay_178 : decode cX0_lay 178 = .ok (.getfield 112, 3) := dk_180 0 112 (dk_at dksX0_lay_7 15 rfl rfl)
theorem dX0_lay_181 : decode cX0_lay 181 = .ok (.iload 6, 2) := dk_21 6 (dk_at dksX0_lay_7 18 rfl rfl)
theorem dX0_lay_183 : decode cX0_lay 183 = .ok (.iaload, 1) := dk_46 (dk_at dksX0_lay_7 20 rfl rfl)
theorem dX0_lay_184 : decode cX0_lay 184 = .ok (.iastore, 1) := dk_79 (dk_at dksX0_lay_7 21 rfl rfl)
theorem dX0_lay_185 : decode cX0_lay 185 = .ok (.iinc 6 1, 3) := dk_132 6 1 (dk_at dksX0_lay_8 0 rfl rfl)
theorem dX0_lay_188 : decode cX0_lay 188 = .ok (.goto (-28), 3) := dk_167 255 228 (dk_at dksX0_lay_8 3 rfl rfl)
theorem dX0_lay_191 : decode cX0_lay 191 = .ok (.aload_n 0, 1) := dk_42 (dk_at dksX0_lay_8 6 rfl rfl)
theorem dX0_lay_192 : decode cX0_lay 192 = .ok (.iload 5, 2) := dk_21 5 (dk_at dksX0_lay_8 7 rfl rfl)
theorem dX0_lay_194 : decode cX0_lay 194 = .ok (.ifCond .eq 8, 3) := dk_153 0 8 (dk_at dksX0_lay_8 9 rfl rfl)
theorem dX0_lay_197 : decode cX0_lay 197 = .ok (.bipush (-12), 2) := dk_16 244 (dk_at dksX0_lay_8 12 rfl rfl)
theorem dX0_lay_199 : decode cX0_lay 199 = .ok (.goto 5, 3) := dk_167 0 5 (dk_at dksX0_lay_8 14 rfl rfl)
theorem dX0_lay_202 : decode cX0_lay 202 = .ok (.bipush (-11), 2) := dk_16 245 (dk_at dksX0_lay_8 17 rfl rfl)
theorem dX0_lay_204 : decode cX0_lay 204 = .ok (.invokevirtual 140, 3) := dk_182 0 140 (dk_at dksX0_lay_8 19 rfl rfl)
theorem dX0_lay_207 : decode cX0_lay 207 = .ok (.athrow, 1) := dk_191 (dk_at dksX0_lay_8 22 rfl rfl)
abbrev cX0_areLengths : ByteArray := prog_1_method_37_code
def yX0_areLengths : MethodName := ⟨RX0, "areLengths", "()Z"⟩
def dkwX0_areLengths_7 : List UInt8 := [132, 1, 1, 167, 255, 234, 4, 172]
abbrev dktX0_areLengths_7 : List UInt8 := dkwX0_areLengths_7 ++ []
def dkwX0_areLengths_6 : List UInt8 := [167, 255, 139, 3, 60, 27, 42, 180, 1, 53, 162, 0, 20, 42, 180, 0, 69, 27, 46, 156, 0, 5, 3, 172]
abbrev dktX0_areLengths_6 : List UInt8 := dkwX0_areLengths_6 ++ dktX0_areLengths_7
def dkwX0_areLengths_5 : List UInt8 := [167, 255, 186, 42, 180, 0, 69, 28, 29, 16, 17, 184, 1, 59, 79, 132, 2, 1, 167, 255, 155, 132, 1, 1]
abbrev dktX0_areLengths_5 : List UInt8 := dkwX0_areLengths_5 ++ dktX0_areLengths_6
def dkwX0_areLengths_4 : List UInt8 := [21, 5, 46, 156, 0, 7, 2, 167, 0, 12, 29, 42, 180, 0, 69, 21, 5, 46, 96, 62, 132, 4, 1]
abbrev dktX0_areLengths_4 : List UInt8 := dkwX0_areLengths_4 ++ dktX0_areLengths_5
def dkwX0_areLengths_3 : List UInt8 := [21, 4, 96, 46, 182, 1, 56, 54, 5, 21, 5, 156, 0, 9, 29, 4, 96, 167, 0, 26, 42, 180, 0, 69]
abbrev dktX0_areLengths_3 : List UInt8 := dkwX0_areLengths_3 ++ dktX0_areLengths_4
def dkwX0_areLengths_2 : List UInt8 := [21, 4, 42, 180, 0, 63, 28, 46, 162, 0, 65, 29, 155, 0, 61, 42, 42, 180, 0, 66, 7, 28, 104]
abbrev dktX0_areLengths_2 : List UInt8 := dkwX0_areLengths_2 ++ dktX0_areLengths_3
def dkwX0_areLengths_1 : List UInt8 := [60, 27, 42, 180, 1, 53, 162, 0, 115, 3, 61, 28, 42, 180, 1, 53, 162, 0, 99, 3, 62, 3, 54, 4]
abbrev dktX0_areLengths_1 : List UInt8 := dkwX0_areLengths_1 ++ dktX0_areLengths_2
def dkwX0_areLengths_0 : List UInt8 := [3, 60, 27, 42, 180, 1, 53, 162, 0, 16, 42, 180, 0, 69, 27, 2, 79, 132, 1, 1, 167, 255, 238, 3]
abbrev dktX0_areLengths_0 : List UInt8 := dkwX0_areLengths_0 ++ dktX0_areLengths_1
theorem dksX0_areLengths_0 : cX0_areLengths.data.toList.drop 0 = dktX0_areLengths_0 := by decide +kernel
theorem dksX0_areLengths_1 : cX0_areLengths.data.toList.drop 24 = dktX0_areLengths_1 := dk_seg dksX0_areLengths_0 24 rfl rfl
theorem dksX0_areLengths_2 : cX0_areLengths.data.toList.drop 48 = dktX0_areLengths_2 := dk_seg dksX0_areLengths_1 24 rfl rfl
theorem dksX0_areLengths_3 : cX0_areLengths.data.toList.drop 71 = dktX0_areLengths_3 := dk_seg dksX0_areLengths_2 23 rfl rfl
theorem dksX0_areLengths_4 : cX0_areLengths.data.toList.drop 95 = dktX0_areLengths_4 := dk_seg dksX0_areLengths_3 24 rfl rfl
theorem dksX0_areLengths_5 : cX0_areLengths.data.toList.drop 118 = dktX0_areLengths_5 := dk_seg dksX0_areLengths_4 23 rfl rfl
theorem dksX0_areLengths_6 : cX0_areLengths.data.toList.drop 142 = dktX0_areLengths_6 := dk_seg dksX0_areLengths_5 24 rfl rfl
theorem dksX0_areLengths_7 : cX0_areLengths.data.toList.drop 166 = dktX0_areLengths_7 := dk_seg dksX0_areLengths_6 24 rfl rfl
theorem dX0_areLengths_0 : decode cX0_areLengths 0 = .ok (.iconst 0, 1) := dk_3 (dk_at dksX0_areLengths_0 0 rfl rfl)
theorem dX0_areLengths_1 : decode cX0_areLengths 1 = .ok (.istore_n 1, 1) := dk_60 (dk_at dksX0_areLengths_0 1 rfl rfl)
theorem dX0_areLengths_2 : decode cX0_areLengths 2 = .ok (.iload_n 1, 1) := dk_27 (dk_at dksX0_areLengths_0 2 rfl rfl)
theorem dX0_areLengths_3 : decode cX0_areLengths 3 = .ok (.aload_n 0, 1) := dk_42 (dk_at dksX0_areLengths_0 3 rfl rfl)
theorem dX0_areLengths_4 : decode cX0_areLengths 4 = .ok (.getfield 309, 3) := dk_180 1 53 (dk_at dksX0_areLengths_0 4 rfl rfl)
theorem dX0_areLengths_7 : decode cX0_areLengths 7 = .ok (.if_icmp .ge 16, 3) := dk_162 0 16 (dk_at dksX0_areLengths_0 7 rfl rfl)
theorem dX0_areLengths_10 : decode cX0_areLengths 10 = .ok (.aload_n 0, 1) := dk_42 (dk_at dksX0_areLengths_0 10 rfl rfl)
theorem dX0_areLengths_11 : decode cX0_areLengths 11 = .ok (.getfield 69, 3) := dk_180 0 69 (dk_at dksX0_areLengths_0 11 rfl rfl)
theorem dX0_areLengths_14 : decode cX0_areLengths 14 = .ok (.iload_n 1, 1) := dk_27 (dk_at dksX0_areLengths_0 14 rfl rfl)
theorem dX0_areLengths_15 : decode cX0_areLengths 15 = .ok (.iconst (-1), 1) := dk_2 (dk_at dksX0_areLengths_0 15 rfl rfl)
theorem dX0_areLengths_16 : decode cX0_areLengths 16 = .ok (.iastore, 1) := dk_79 (dk_at dksX0_areLengths_0 16 rfl rfl)
theorem dX0_areLengths_17 : decode cX0_areLengths 17 = .ok (.iinc 1 1, 3) := dk_132 1 1 (dk_at dksX0_areLengths_0 17 rfl rfl)
theorem dX0_areLengths_20 : decode cX0_areLengths 20 = .ok (.goto (-18), 3) := dk_167 255 238 (dk_at dksX0_areLengths_0 20 rfl rfl)
theorem dX0_areLengths_23 : decode cX0_areLengths 23 = .ok (.iconst 0, 1) := dk_3 (dk_at dksX0_areLengths_0 23 rfl rfl)
theorem dX0_areLengths_24 : decode cX0_areLengths 24 = .ok (.istore_n 1, 1) := dk_60 (dk_at dksX0_areLengths_1 0 rfl rfl)
theorem dX0_areLengths_25 : decode cX0_areLengths 25 = .ok (.iload_n 1, 1) := dk_27 (dk_at dksX0_areLengths_1 1 rfl rfl)
theorem dX0_areLengths_26 : decode cX0_areLengths 26 = .ok (.aload_n 0, 1) := dk_42 (dk_at dksX0_areLengths_1 2 rfl rfl)
theorem dX0_areLengths_27 : decode cX0_areLengths 27 = .ok (.getfield 309, 3) := dk_180 1 53 (dk_at dksX0_areLengths_1 3 rfl rfl)
theorem dX0_areLengths_30 : decode cX0_areLengths 30 = .ok (.if_icmp .ge 115, 3) := dk_162 0 115 (dk_at dksX0_areLengths_1 6 rfl rfl)
theorem dX0_areLengths_33 : decode cX0_areLengths 33 = .ok (.iconst 0, 1) := dk_3 (dk_at dksX0_areLengths_1 9 rfl rfl)
theorem dX0_areLengths_34 : decode cX0_areLengths 34 = .ok (.istore_n 2, 1) := dk_61 (dk_at dksX0_areLengths_1 10 rfl rfl)
theorem dX0_areLengths_35 : decode cX0_areLengths 35 = .ok (.iload_n 2, 1) := dk_28 (dk_at dksX0_areLengths_1 11 rfl rfl)
theorem dX0_areLengths_36 : decode cX0_areLengths 36 = .ok (.aload_n 0, 1) := dk_42 (dk_at dksX0_areLengths_1 12 rfl rfl)
theorem dX0_areLengths_37 : decode cX0_areLengths 37 = .ok (.getfield 309, 3) := dk_180 1 53 (dk_at dksX0_areLengths_1 13 rfl rfl)
theorem dX0_areLengths_40 : decode cX0_areLengths 40 = .ok (.if_icmp .ge 99, 3) := dk_162 0 99 (dk_at dksX0_areLengths_1 16 rfl rfl)
theorem dX0_areLengths_43 : decode cX0_areLengths 43 = .ok (.iconst 0, 1) := dk_3 (dk_at dksX0_areLengths_1 19 rfl rfl)
theorem dX0_areLengths_44 : decode cX0_areLengths 44 = .ok (.istore_n 3, 1) := dk_62 (dk_at dksX0_areLengths_1 20 rfl rfl)
theorem dX0_areLengths_45 : decode cX0_areLengths 45 = .ok (.iconst 0, 1) := dk_3 (dk_at dksX0_areLengths_1 21 rfl rfl)
theorem dX0_areLengths_46 : decode cX0_areLengths 46 = .ok (.istore 4, 2) := dk_54 4 (dk_at dksX0_areLengths_1 22 rfl rfl)
theorem dX0_areLengths_48 : decode cX0_areLengths 48 = .ok (.iload 4, 2) := dk_21 4 (dk_at dksX0_areLengths_2 0 rfl rfl)
theorem dX0_areLengths_50 : decode cX0_areLengths 50 = .ok (.aload_n 0, 1) := dk_42 (dk_at dksX0_areLengths_2 2 rfl rfl)
theorem dX0_areLengths_51 : decode cX0_areLengths 51 = .ok (.getfield 63, 3) := dk_180 0 63 (dk_at dksX0_areLengths_2 3 rfl rfl)
theorem dX0_areLengths_54 : decode cX0_areLengths 54 = .ok (.iload_n 2, 1) := dk_28 (dk_at dksX0_areLengths_2 6 rfl rfl)
theorem dX0_areLengths_55 : decode cX0_areLengths 55 = .ok (.iaload, 1) := dk_46 (dk_at dksX0_areLengths_2 7 rfl rfl)
theorem dX0_areLengths_56 : decode cX0_areLengths 56 = .ok (.if_icmp .ge 65, 3) := dk_162 0 65 (dk_at dksX0_areLengths_2 8 rfl rfl)
theorem dX0_areLengths_59 : decode cX0_areLengths 59 = .ok (.iload_n 3, 1) := dk_29 (dk_at dksX0_areLengths_2 11 rfl rfl)
theorem dX0_areLengths_60 : decode cX0_areLengths 60 = .ok (.ifCond .lt 61, 3) := dk_155 0 61 (dk_at dksX0_areLengths_2 12 rfl rfl)
theorem dX0_areLengths_63 : decode cX0_areLengths 63 = .ok (.aload_n 0, 1) := dk_42 (dk_at dksX0_areLengths_2 15 rfl rfl)
theorem dX0_areLengths_64 : decode cX0_areLengths 64 = .ok (.aload_n 0, 1) := dk_42 (dk_at dksX0_areLengths_2 16 rfl rfl)
theorem dX0_areLengths_65 : decode cX0_areLengths 65 = .ok (.getfield 66, 3) := dk_180 0 66 (dk_at dksX0_areLengths_2 17 rfl rfl)
theorem dX0_areLengths_68 : decode cX0_areLengths 68 = .ok (.iconst 4, 1) := dk_7 (dk_at dksX0_areLengths_2 20 rfl rfl)
theorem dX0_areLengths_69 : decode cX0_areLengths 69 = .ok (.iload_n 2, 1) := dk_28 (dk_at dksX0_areLengths_2 21 rfl rfl)
theorem dX0_areLengths_70 : decode cX0_areLengths 70 = .ok (.imul, 1) := dk_104 (dk_at dksX0_areLengths_2 22 rfl rfl)
theorem dX0_areLengths_71 : decode cX0_areLengths 71 = .ok (.iload 4, 2) := dk_21 4 (dk_at dksX0_areLengths_3 0 rfl rfl)
theorem dX0_areLengths_73 : decode cX0_areLengths 73 = .ok (.iadd, 1) := dk_96 (dk_at dksX0_areLengths_3 2 rfl rfl)
theorem dX0_areLengths_74 : decode cX0_areLengths 74 = .ok (.iaload, 1) := dk_46 (dk_at dksX0_areLengths_3 3 rfl rfl)
theorem dX0_areLengths_75 : decode cX0_areLengths 75 = .ok (.invokevirtual 312, 3) := dk_182 1 56 (dk_at dksX0_areLengths_3 4 rfl rfl)
theorem dX0_areLengths_78 : decode cX0_areLengths 78 = .ok (.istore 5, 2) := dk_54 5 (dk_at dksX0_areLengths_3 7 rfl rfl)
theorem dX0_areLengths_80 : decode cX0_areLengths 80 = .ok (.iload 5, 2) := dk_21 5 (dk_at dksX0_areLengths_3 9 rfl rfl)
theorem dX0_areLengths_82 : decode cX0_areLengths 82 = .ok (.ifCond .ge 9, 3) := dk_156 0 9 (dk_at dksX0_areLengths_3 11 rfl rfl)
theorem dX0_areLengths_85 : decode cX0_areLengths 85 = .ok (.iload_n 3, 1) := dk_29 (dk_at dksX0_areLengths_3 14 rfl rfl)
theorem dX0_areLengths_86 : decode cX0_areLengths 86 = .ok (.iconst 1, 1) := dk_4 (dk_at dksX0_areLengths_3 15 rfl rfl)
theorem dX0_areLengths_87 : decode cX0_areLengths 87 = .ok (.iadd, 1) := dk_96 (dk_at dksX0_areLengths_3 16 rfl rfl)
theorem dX0_areLengths_88 : decode cX0_areLengths 88 = .ok (.goto 26, 3) := dk_167 0 26 (dk_at dksX0_areLengths_3 17 rfl rfl)
theorem dX0_areLengths_91 : decode cX0_areLengths 91 = .ok (.aload_n 0, 1) := dk_42 (dk_at dksX0_areLengths_3 20 rfl rfl)
theorem dX0_areLengths_92 : decode cX0_areLengths 92 = .ok (.getfield 69, 3) := dk_180 0 69 (dk_at dksX0_areLengths_3 21 rfl rfl)
theorem dX0_areLengths_95 : decode cX0_areLengths 95 = .ok (.iload 5, 2) := dk_21 5 (dk_at dksX0_areLengths_4 0 rfl rfl)
theorem dX0_areLengths_97 : decode cX0_areLengths 97 = .ok (.iaload, 1) := dk_46 (dk_at dksX0_areLengths_4 2 rfl rfl)
theorem dX0_areLengths_98 : decode cX0_areLengths 98 = .ok (.ifCond .ge 7, 3) := dk_156 0 7 (dk_at dksX0_areLengths_4 3 rfl rfl)
theorem dX0_areLengths_101 : decode cX0_areLengths 101 = .ok (.iconst (-1), 1) := dk_2 (dk_at dksX0_areLengths_4 6 rfl rfl)
theorem dX0_areLengths_102 : decode cX0_areLengths 102 = .ok (.goto 12, 3) := dk_167 0 12 (dk_at dksX0_areLengths_4 7 rfl rfl)
theorem dX0_areLengths_105 : decode cX0_areLengths 105 = .ok (.iload_n 3, 1) := dk_29 (dk_at dksX0_areLengths_4 10 rfl rfl)
theorem dX0_areLengths_106 : decode cX0_areLengths 106 = .ok (.aload_n 0, 1) := dk_42 (dk_at dksX0_areLengths_4 11 rfl rfl)
theorem dX0_areLengths_107 : decode cX0_areLengths 107 = .ok (.getfield 69, 3) := dk_180 0 69 (dk_at dksX0_areLengths_4 12 rfl rfl)
theorem dX0_areLengths_110 : decode cX0_areLengths 110 = .ok (.iload 5, 2) := dk_21 5 (dk_at dksX0_areLengths_4 15 rfl rfl)
theorem dX0_areLengths_112 : decode cX0_areLengths 112 = .ok (.iaload, 1) := dk_46 (dk_at dksX0_areLengths_4 17 rfl rfl)
theorem dX0_areLengths_113 : decode cX0_areLengths 113 = .ok (.iadd, 1) := dk_96 (dk_at dksX0_areLengths_4 18 rfl rfl)
theorem dX0_areLengths_114 : decode cX0_areLengths 114 = .ok (.istore_n 3, 1) := dk_62 (dk_at dksX0_areLengths_4 19 rfl rfl)
theorem dX0_areLengths_115 : decode cX0_areLengths 115 = .ok (.iinc 4 1, 3) := dk_132 4 1 (dk_at dksX0_areLengths_4 20 rfl rfl)
theorem dX0_areLengths_118 : decode cX0_areLengths 118 = .ok (.goto (-70), 3) := dk_167 255 186 (dk_at dksX0_areLengths_5 0 rfl rfl)
theorem dX0_areLengths_121 : decode cX0_areLengths 121 = .ok (.aload_n 0, 1) := dk_42 (dk_at dksX0_areLengths_5 3 rfl rfl)
theorem dX0_areLengths_122 : decode cX0_areLengths 122 = .ok (.getfield 69, 3) := dk_180 0 69 (dk_at dksX0_areLengths_5 4 rfl rfl)
theorem dX0_areLengths_125 : decode cX0_areLengths 125 = .ok (.iload_n 2, 1) := dk_28 (dk_at dksX0_areLengths_5 7 rfl rfl)
theorem dX0_areLengths_126 : decode cX0_areLengths 126 = .ok (.iload_n 3, 1) := dk_29 (dk_at dksX0_areLengths_5 8 rfl rfl)
theorem dX0_areLengths_127 : decode cX0_areLengths 127 = .ok (.bipush 17, 2) := dk_16 17 (dk_at dksX0_areLengths_5 9 rfl rfl)
theorem dX0_areLengths_129 : decode cX0_areLengths 129 = .ok (.invokestatic 315, 3) := dk_184 1 59 (dk_at dksX0_areLengths_5 11 rfl rfl)
theorem dX0_areLengths_132 : decode cX0_areLengths 132 = .ok (.iastore, 1) := dk_79 (dk_at dksX0_areLengths_5 14 rfl rfl)
theorem dX0_areLengths_133 : decode cX0_areLengths 133 = .ok (.iinc 2 1, 3) := dk_132 2 1 (dk_at dksX0_areLengths_5 15 rfl rfl)
theorem dX0_areLengths_136 : decode cX0_areLengths 136 = .ok (.goto (-101), 3) := dk_167 255 155 (dk_at dksX0_areLengths_5 18 rfl rfl)
theorem dX0_areLengths_139 : decode cX0_areLengths 139 = .ok (.iinc 1 1, 3) := dk_132 1 1 (dk_at dksX0_areLengths_5 21 rfl rfl)
theorem dX0_areLengths_142 : decode cX0_areLengths 142 = .ok (.goto (-117), 3) := dk_167 255 139 (dk_at dksX0_areLengths_6 0 rfl rfl)
theorem dX0_areLengths_145 : decode cX0_areLengths 145 = .ok (.iconst 0, 1) := dk_3 (dk_at dksX0_areLengths_6 3 rfl rfl)
theorem dX0_areLengths_146 : decode cX0_areLengths 146 = .ok (.istore_n 1, 1) := dk_60 (dk_at dksX0_areLengths_6 4 rfl rfl)
theorem dX0_areLengths_147 : decode cX0_areLengths 147 = .ok (.iload_n 1, 1) := dk_27 (dk_at dksX0_areLengths_6 5 rfl rfl)
theorem dX0_areLengths_148 : decode cX0_areLengths 148 = .ok (.aload_n 0, 1) := dk_42 (dk_at dksX0_areLengths_6 6 rfl rfl)
theorem dX0_areLengths_149 : decode cX0_areLengths 149 = .ok (.getfield 309, 3) := dk_180 1 53 (dk_at dksX0_areLengths_6 7 rfl rfl)
theorem dX0_areLengths_152 : decode cX0_areLengths 152 = .ok (.if_icmp .ge 20, 3) := dk_162 0 20 (dk_at dksX0_areLengths_6 10 rfl rfl)
theorem dX0_areLengths_155 : decode cX0_areLengths 155 = .ok (.aload_n 0, 1) := dk_42 (dk_at dksX0_areLengths_6 13 rfl rfl)
theorem dX0_areLengths_156 : decode cX0_areLengths 156 = .ok (.getfield 69, 3) := dk_180 0 69 (dk_at dksX0_areLengths_6 14 rfl rfl)
theorem dX0_areLengths_159 : decode cX0_areLengths 159 = .ok (.iload_n 1, 1) := dk_27 (dk_at dksX0_areLengths_6 17 rfl rfl)
theorem dX0_areLengths_160 : decode cX0_areLengths 160 = .ok (.iaload, 1) := dk_46 (dk_at dksX0_areLengths_6 18 rfl rfl)
theorem dX0_areLengths_161 : decode cX0_areLengths 161 = .ok (.ifCond .ge 5, 3) := dk_156 0 5 (dk_at dksX0_areLengths_6 19 rfl rfl)
theorem dX0_areLengths_164 : decode cX0_areLengths 164 = .ok (.iconst 0, 1) := dk_3 (dk_at dksX0_areLengths_6 22 rfl rfl)
theorem dX0_areLengths_165 : decode cX0_areLengths 165 = .ok (.ireturn, 1) := dk_172 (dk_at dksX0_areLengths_6 23 rfl rfl)
theorem dX0_areLengths_166 : decode cX0_areLengths 166 = .ok (.iinc 1 1, 3) := dk_132 1 1 (dk_at dksX0_areLengths_7 0 rfl rfl)
theorem dX0_areLengths_169 : decode cX0_areLengths 169 = .ok (.goto (-22), 3) := dk_167 255 234 (dk_at dksX0_areLengths_7 3 rfl rfl)
theorem dX0_areLengths_172 : decode cX0_areLengths 172 = .ok (.iconst 1, 1) := dk_4 (dk_at dksX0_areLengths_7 6 rfl rfl)
theorem dX0_areLengths_173 : decode cX0_areLengths 173 = .ok (.ireturn, 1) := dk_172 (dk_at dksX0_areLengths_7 7 rfl rfl)
abbrev cX0_areShort : ByteArray := prog_1_method_38_code
def yX0_areShort : MethodName := ⟨RX0, "areShort", "()Z"⟩
def dkwX0_areShort_1 : List UInt8 := [132, 1, 1, 167, 255, 232, 4, 172]
abbrev dktX0_areShort_1 : List UInt8 := dkwX0_areShort_1 ++ []
def dkwX0_areShort_0 : List UInt8 := [3, 60, 27, 42, 180, 1, 53, 162, 0, 22, 42, 180, 0, 69, 27, 46, 16, 16, 164, 0, 5, 3, 172]
abbrev dktX0_areShort_0 : List UInt8 := dkwX0_areShort_0 ++ dktX0_areShort_1
theorem dksX0_areShort_0 : cX0_areShort.data.toList.drop 0 = dktX0_areShort_0 := by decide +kernel
theorem dksX0_areShort_1 : cX0_areShort.data.toList.drop 23 = dktX0_areShort_1 := dk_seg dksX0_areShort_0 23 rfl rfl
theorem dX0_areShort_0 : decode cX0_areShort 0 = .ok (.iconst 0, 1) := dk_3 (dk_at dksX0_areShort_0 0 rfl rfl)
theorem dX0_areShort_1 : decode cX0_areShort 1 = .ok (.istore_n 1, 1) := dk_60 (dk_at dksX0_areShort_0 1 rfl rfl)
theorem dX0_areShort_2 : decode cX0_areShort 2 = .ok (.iload_n 1, 1) := dk_27 (dk_at dksX0_areShort_0 2 rfl rfl)
theorem dX0_areShort_3 : decode cX0_areShort 3 = .ok (.aload_n 0, 1) := dk_42 (dk_at dksX0_areShort_0 3 rfl rfl)
theorem dX0_areShort_4 : decode cX0_areShort 4 = .ok (.getfield 309, 3) := dk_180 1 53 (dk_at dksX0_areShort_0 4 rfl rfl)
theorem dX0_areShort_7 : decode cX0_areShort 7 = .ok (.if_icmp .ge 22, 3) := dk_162 0 22 (dk_at dksX0_areShort_0 7 rfl rfl)
theorem dX0_areShort_10 : decode cX0_areShort 10 = .ok (.aload_n 0, 1) := dk_42 (dk_at dksX0_areShort_0 10 rfl rfl)
theorem dX0_areShort_11 : decode cX0_areShort 11 = .ok (.getfield 69, 3) := dk_180 0 69 (dk_at dksX0_areShort_0 11 rfl rfl)
theorem dX0_areShort_14 : decode cX0_areShort 14 = .ok (.iload_n 1, 1) := dk_27 (dk_at dksX0_areShort_0 14 rfl rfl)
theorem dX0_areShort_15 : decode cX0_areShort 15 = .ok (.iaload, 1) := dk_46 (dk_at dksX0_areShort_0 15 rfl rfl)
theorem dX0_areShort_16 : decode cX0_areShort 16 = .ok (.bipush 16, 2) := dk_16 16 (dk_at dksX0_areShort_0 16 rfl rfl)
theorem dX0_areShort_18 : decode cX0_areShort 18 = .ok (.if_icmp .le 5, 3) := dk_164 0 5 (dk_at dksX0_areShort_0 18 rfl rfl)
theorem dX0_areShort_21 : decode cX0_areShort 21 = .ok (.iconst 0, 1) := dk_3 (dk_at dksX0_areShort_0 21 rfl rfl)
theorem dX0_areShort_22 : decode cX0_areShort 22 = .ok (.ireturn, 1) := dk_172 (dk_at dksX0_areShort_0 22 rfl rfl)
theorem dX0_areShort_23 : decode cX0_areShort 23 = .ok (.iinc 1 1, 3) := dk_132 1 1 (dk_at dksX0_areShort_1 0 rfl rfl)
theorem dX0_areShort_26 : decode cX0_areShort 26 = .ok (.goto (-24), 3) := dk_167 255 232 (dk_at dksX0_areShort_1 3 rfl rfl)
theorem dX0_areShort_29 : decode cX0_areShort 29 = .ok (.iconst 1, 1) := dk_4 (dk_at dksX0_areShort_1 6 rfl rfl)
theorem dX0_areShort_30 : decode cX0_areShort 30 = .ok (.ireturn, 1) := dk_172 (dk_at dksX0_areShort_1 7 rfl rfl)
abbrev cX0_begin : ByteArray := prog_1_method_42_code
def yX0_begin : MethodName := ⟨RX0, "begin", "(IIZI)I"⟩
def dkwX0_begin_3 : List UInt8 := [180, 0, 72, 27, 50, 25, 6, 181, 0, 128, 3, 172, 58, 5, 42, 25, 5, 180, 0, 17, 182, 0, 163, 172]
abbrev dktX0_begin_3 : List UInt8 := dkwX0_begin_3 ++ []
def dkwX0_begin_2 : List UInt8 := [50, 167, 0, 9, 42, 180, 0, 77, 27, 50, 58, 6, 25, 6, 25, 5, 21, 4, 25, 6, 182, 1, 31, 42]
abbrev dktX0_begin_2 : List UInt8 := dkwX0_begin_2 ++ dktX0_begin_3
def dkwX0_begin_1 : List UInt8 := [153, 0, 7, 7, 167, 0, 4, 6, 184, 0, 4, 2, 182, 0, 184, 29, 153, 0, 12, 42, 180, 0, 83, 27]
abbrev dktX0_begin_1 : List UInt8 := dkwX0_begin_1 ++ dktX0_begin_2
def dkwX0_begin_0 : List UInt8 := [42, 27, 3, 6, 184, 0, 4, 2, 182, 0, 184, 42, 28, 182, 0, 255, 58, 5, 42, 21, 4, 3, 29]
abbrev dktX0_begin_0 : List UInt8 := dkwX0_begin_0 ++ dktX0_begin_1
theorem dksX0_begin_0 : cX0_begin.data.toList.drop 0 = dktX0_begin_0 := by decide +kernel
theorem dksX0_begin_1 : cX0_begin.data.toList.drop 23 = dktX0_begin_1 := dk_seg dksX0_begin_0 23 rfl rfl
theorem dksX0_begin_2 : cX0_begin.data.toList.drop 47 = dktX0_begin_2 := dk_seg dksX0_begin_1 24 rfl rfl
theorem dksX0_begin_3 : cX0_begin.data.toList.drop 71 = dktX0_begin_3 := dk_seg dksX0_begin_2 24 rfl rfl
theorem dX0_begin_0 : decode cX0_begin 0 = .ok (.aload_n 0, 1) := dk_42 (dk_at dksX0_begin_0 0 rfl rfl)
theorem dX0_begin_1 : decode cX0_begin 1 = .ok (.iload_n 1, 1) := dk_27 (dk_at dksX0_begin_0 1 rfl rfl)
theorem dX0_begin_2 : decode cX0_begin 2 = .ok (.iconst 0, 1) := dk_3 (dk_at dksX0_begin_0 2 rfl rfl)
theorem dX0_begin_3 : decode cX0_begin 3 = .ok (.iconst 3, 1) := dk_6 (dk_at dksX0_begin_0 3 rfl rfl)
theorem dX0_begin_4 : decode cX0_begin 4 = .ok (.invokestatic 4, 3) := dk_184 0 4 (dk_at dksX0_begin_0 4 rfl rfl)
theorem dX0_begin_7 : decode cX0_begin 7 = .ok (.iconst (-1), 1) := dk_2 (dk_at dksX0_begin_0 7 rfl rfl)
theorem dX0_begin_8 : decode cX0_begin 8 = .ok (.invokevirtual 184, 3) := dk_182 0 184 (dk_at dksX0_begin_0 8 rfl rfl)
theorem dX0_begin_11 : decode cX0_begin 11 = .ok (.aload_n 0, 1) := dk_42 (dk_at dksX0_begin_0 11 rfl rfl)
theorem dX0_begin_12 : decode cX0_begin 12 = .ok (.iload_n 2, 1) := dk_28 (dk_at dksX0_begin_0 12 rfl rfl)
theorem dX0_begin_13 : decode cX0_begin 13 = .ok (.invokevirtual 255, 3) := dk_182 0 255 (dk_at dksX0_begin_0 13 rfl rfl)
theorem dX0_begin_16 : decode cX0_begin 16 = .ok (.astore 5, 2) := dk_58 5 (dk_at dksX0_begin_0 16 rfl rfl)
theorem dX0_begin_18 : decode cX0_begin 18 = .ok (.aload_n 0, 1) := dk_42 (dk_at dksX0_begin_0 18 rfl rfl)
theorem dX0_begin_19 : decode cX0_begin 19 = .ok (.iload 4, 2) := dk_21 4 (dk_at dksX0_begin_0 19 rfl rfl)
theorem dX0_begin_21 : decode cX0_begin 21 = .ok (.iconst 0, 1) := dk_3 (dk_at dksX0_begin_0 21 rfl rfl)
theorem dX0_begin_22 : decode cX0_begin 22 = .ok (.iload_n 3, 1) := dk_29 (dk_at dksX0_begin_0 22 rfl rfl)
theorem dX0_begin_23 : decode cX0_begin 23 = .ok (.ifCond .eq 7, 3) := dk_153 0 7 (dk_at dksX0_begin_1 0 rfl rfl)
theorem dX0_begin_26 : decode cX0_begin 26 = .ok (.iconst 4, 1) := dk_7 (dk_at dksX0_begin_1 3 rfl rfl)
theorem dX0_begin_27 : decode cX0_begin 27 = .ok (.goto 4, 3) := dk_167 0 4 (dk_at dksX0_begin_1 4 rfl rfl)
theorem dX0_begin_30 : decode cX0_begin 30 = .ok (.iconst 3, 1) := dk_6 (dk_at dksX0_begin_1 7 rfl rfl)
theorem dX0_begin_31 : decode cX0_begin 31 = .ok (.invokestatic 4, 3) := dk_184 0 4 (dk_at dksX0_begin_1 8 rfl rfl)
theorem dX0_begin_34 : decode cX0_begin 34 = .ok (.iconst (-1), 1) := dk_2 (dk_at dksX0_begin_1 11 rfl rfl)
theorem dX0_begin_35 : decode cX0_begin 35 = .ok (.invokevirtual 184, 3) := dk_182 0 184 (dk_at dksX0_begin_1 12 rfl rfl)
theorem dX0_begin_38 : decode cX0_begin 38 = .ok (.iload_n 3, 1) := dk_29 (dk_at dksX0_begin_1 15 rfl rfl)
theorem dX0_begin_39 : decode cX0_begin 39 = .ok (.ifCond .eq 12, 3) := dk_153 0 12 (dk_at dksX0_begin_1 16 rfl rfl)
theorem dX0_begin_42 : decode cX0_begin 42 = .ok (.aload_n 0, 1) := dk_42 (dk_at dksX0_begin_1 19 rfl rfl)
theorem dX0_begin_43 : decode cX0_begin 43 = .ok (.getfield 83, 3) := dk_180 0 83 (dk_at dksX0_begin_1 20 rfl rfl)
theorem dX0_begin_46 : decode cX0_begin 46 = .ok (.iload_n 1, 1) := dk_27 (dk_at dksX0_begin_1 23 rfl rfl)
theorem dX0_begin_47 : decode cX0_begin 47 = .ok (.aaload, 1) := dk_50 (dk_at dksX0_begin_2 0 rfl rfl)
theorem dX0_begin_48 : decode cX0_begin 48 = .ok (.goto 9, 3) := dk_167 0 9 (dk_at dksX0_begin_2 1 rfl rfl)
theorem dX0_begin_51 : decode cX0_begin 51 = .ok (.aload_n 0, 1) := dk_42 (dk_at dksX0_begin_2 4 rfl rfl)
theorem dX0_begin_52 : decode cX0_begin 52 = .ok (.getfield 77, 3) := dk_180 0 77 (dk_at dksX0_begin_2 5 rfl rfl)
theorem dX0_begin_55 : decode cX0_begin 55 = .ok (.iload_n 1, 1) := dk_27 (dk_at dksX0_begin_2 8 rfl rfl)
theorem dX0_begin_56 : decode cX0_begin 56 = .ok (.aaload, 1) := dk_50 (dk_at dksX0_begin_2 9 rfl rfl)
theorem dX0_begin_57 : decode cX0_begin 57 = .ok (.astore 6, 2) := dk_58 6 (dk_at dksX0_begin_2 10 rfl rfl)
theorem dX0_begin_59 : decode cX0_begin 59 = .ok (.aload 6, 2) := dk_25 6 (dk_at dksX0_begin_2 12 rfl rfl)
theorem dX0_begin_61 : decode cX0_begin 61 = .ok (.aload 5, 2) := dk_25 5 (dk_at dksX0_begin_2 14 rfl rfl)
theorem dX0_begin_63 : decode cX0_begin 63 = .ok (.iload 4, 2) := dk_21 4 (dk_at dksX0_begin_2 16 rfl rfl)
theorem dX0_begin_65 : decode cX0_begin 65 = .ok (.aload 6, 2) := dk_25 6 (dk_at dksX0_begin_2 18 rfl rfl)
theorem dX0_begin_67 : decode cX0_begin 67 = .ok (.invokevirtual 287, 3) := dk_182 1 31 (dk_at dksX0_begin_2 20 rfl rfl)
theorem dX0_begin_70 : decode cX0_begin 70 = .ok (.aload_n 0, 1) := dk_42 (dk_at dksX0_begin_2 23 rfl rfl)
theorem dX0_begin_71 : decode cX0_begin 71 = .ok (.getfield 72, 3) := dk_180 0 72 (dk_at dksX0_begin_3 0 rfl rfl)
theorem dX0_begin_74 : decode cX0_begin 74 = .ok (.iload_n 1, 1) := dk_27 (dk_at dksX0_begin_3 3 rfl rfl)
theorem dX0_begin_75 : decode cX0_begin 75 = .ok (.aaload, 1) := dk_50 (dk_at dksX0_begin_3 4 rfl rfl)
theorem dX0_begin_76 : decode cX0_begin 76 = .ok (.aload 6, 2) := dk_25 6 (dk_at dksX0_begin_3 5 rfl rfl)
theorem dX0_begin_78 : decode cX0_begin 78 = .ok (.putfield 128, 3) := dk_181 0 128 (dk_at dksX0_begin_3 7 rfl rfl)
theorem dX0_begin_81 : decode cX0_begin 81 = .ok (.iconst 0, 1) := dk_3 (dk_at dksX0_begin_3 10 rfl rfl)
theorem dX0_begin_82 : decode cX0_begin 82 = .ok (.ireturn, 1) := dk_172 (dk_at dksX0_begin_3 11 rfl rfl)
theorem dX0_begin_83 : decode cX0_begin 83 = .ok (.astore 5, 2) := dk_58 5 (dk_at dksX0_begin_3 12 rfl rfl)
theorem dX0_begin_85 : decode cX0_begin 85 = .ok (.aload_n 0, 1) := dk_42 (dk_at dksX0_begin_3 14 rfl rfl)
theorem dX0_begin_86 : decode cX0_begin 86 = .ok (.aload 5, 2) := dk_25 5 (dk_at dksX0_begin_3 15 rfl rfl)
theorem dX0_begin_88 : decode cX0_begin 88 = .ok (.getfield 17, 3) := dk_180 0 17 (dk_at dksX0_begin_3 17 rfl rfl)
theorem dX0_begin_91 : decode cX0_begin 91 = .ok (.invokevirtual 163, 3) := dk_182 0 163 (dk_at dksX0_begin_3 20 rfl rfl)
theorem dX0_begin_94 : decode cX0_begin 94 = .ok (.ireturn, 1) := dk_172 (dk_at dksX0_begin_3 23 rfl rfl)
abbrev cX0_feed : ByteArray := prog_1_method_44_code
def yX0_feed : MethodName := ⟨RX0, "feed", "(II)I"⟩
def dkwX0_feed_3 : List UInt8 := [180, 0, 17, 182, 0, 163, 172]
abbrev dktX0_feed_3 : List UInt8 := dkwX0_feed_3 ++ []
def dkwX0_feed_2 : List UInt8 := [167, 0, 4, 3, 16, 250, 182, 0, 184, 45, 28, 182, 1, 37, 45, 180, 1, 98, 172, 78, 42, 45]
abbrev dktX0_feed_2 : List UInt8 := dkwX0_feed_2 ++ dktX0_feed_3
def dkwX0_feed_1 : List UInt8 := [17, 0, 255, 184, 0, 4, 2, 182, 0, 184, 42, 45, 180, 1, 98, 17, 1, 44, 163, 0, 7, 4]
abbrev dktX0_feed_1 : List UInt8 := dkwX0_feed_1 ++ dktX0_feed_2
def dkwX0_feed_0 : List UInt8 := [42, 27, 182, 1, 93, 78, 42, 28, 3, 45, 193, 0, 81, 153, 0, 9, 19, 1, 97, 167, 0, 6]
abbrev dktX0_feed_0 : List UInt8 := dkwX0_feed_0 ++ dktX0_feed_1
theorem dksX0_feed_0 : cX0_feed.data.toList.drop 0 = dktX0_feed_0 := by decide +kernel
theorem dksX0_feed_1 : cX0_feed.data.toList.drop 22 = dktX0_feed_1 := dk_seg dksX0_feed_0 22 rfl rfl
theorem dksX0_feed_2 : cX0_feed.data.toList.drop 44 = dktX0_feed_2 := dk_seg dksX0_feed_1 22 rfl rfl
theorem dksX0_feed_3 : cX0_feed.data.toList.drop 66 = dktX0_feed_3 := dk_seg dksX0_feed_2 22 rfl rfl
theorem dX0_feed_0 : decode cX0_feed 0 = .ok (.aload_n 0, 1) := dk_42 (dk_at dksX0_feed_0 0 rfl rfl)
theorem dX0_feed_1 : decode cX0_feed 1 = .ok (.iload_n 1, 1) := dk_27 (dk_at dksX0_feed_0 1 rfl rfl)
theorem dX0_feed_2 : decode cX0_feed 2 = .ok (.invokevirtual 349, 3) := dk_182 1 93 (dk_at dksX0_feed_0 2 rfl rfl)
theorem dX0_feed_5 : decode cX0_feed 5 = .ok (.astore_n 3, 1) := dk_78 (dk_at dksX0_feed_0 5 rfl rfl)
theorem dX0_feed_6 : decode cX0_feed 6 = .ok (.aload_n 0, 1) := dk_42 (dk_at dksX0_feed_0 6 rfl rfl)
theorem dX0_feed_7 : decode cX0_feed 7 = .ok (.iload_n 2, 1) := dk_28 (dk_at dksX0_feed_0 7 rfl rfl)
theorem dX0_feed_8 : decode cX0_feed 8 = .ok (.iconst 0, 1) := dk_3 (dk_at dksX0_feed_0 8 rfl rfl)
theorem dX0_feed_9 : decode cX0_feed 9 = .ok (.aload_n 3, 1) := dk_45 (dk_at dksX0_feed_0 9 rfl rfl)
theorem dX0_feed_10 : decode cX0_feed 10 = .ok (.instanceof 81, 3) := dk_193 0 81 (dk_at dksX0_feed_0 10 rfl rfl)
theorem dX0_feed_13 : decode cX0_feed 13 = .ok (.ifCond .eq 9, 3) := dk_153 0 9 (dk_at dksX0_feed_0 13 rfl rfl)
theorem dX0_feed_16 : decode cX0_feed 16 = .ok (.ldc_w 353, 3) := dk_19 1 97 (dk_at dksX0_feed_0 16 rfl rfl)
theorem dX0_feed_19 : decode cX0_feed 19 = .ok (.goto 6, 3) := dk_167 0 6 (dk_at dksX0_feed_0 19 rfl rfl)
theorem dX0_feed_22 : decode cX0_feed 22 = .ok (.sipush 255, 3) := dk_17 0 255 (dk_at dksX0_feed_1 0 rfl rfl)
theorem dX0_feed_25 : decode cX0_feed 25 = .ok (.invokestatic 4, 3) := dk_184 0 4 (dk_at dksX0_feed_1 3 rfl rfl)
theorem dX0_feed_28 : decode cX0_feed 28 = .ok (.iconst (-1), 1) := dk_2 (dk_at dksX0_feed_1 6 rfl rfl)
theorem dX0_feed_29 : decode cX0_feed 29 = .ok (.invokevirtual 184, 3) := dk_182 0 184 (dk_at dksX0_feed_1 7 rfl rfl)
theorem dX0_feed_32 : decode cX0_feed 32 = .ok (.aload_n 0, 1) := dk_42 (dk_at dksX0_feed_1 10 rfl rfl)
theorem dX0_feed_33 : decode cX0_feed 33 = .ok (.aload_n 3, 1) := dk_45 (dk_at dksX0_feed_1 11 rfl rfl)
theorem dX0_feed_34 : decode cX0_feed 34 = .ok (.getfield 354, 3) := dk_180 1 98 (dk_at dksX0_feed_1 12 rfl rfl)
theorem dX0_feed_37 : decode cX0_feed 37 = .ok (.sipush 300, 3) := dk_17 1 44 (dk_at dksX0_feed_1 15 rfl rfl)
theorem dX0_feed_40 : decode cX0_feed 40 = .ok (.if_icmp .gt 7, 3) := dk_163 0 7 (dk_at dksX0_feed_1 18 rfl rfl)
theorem dX0_feed_43 : decode cX0_feed 43 = .ok (.iconst 1, 1) := dk_4 (dk_at dksX0_feed_1 21 rfl rfl)
theorem dX0_feed_44 : decode cX0_feed 44 = .ok (.goto 4, 3) := dk_167 0 4 (dk_at dksX0_feed_2 0 rfl rfl)
theorem dX0_feed_47 : decode cX0_feed 47 = .ok (.iconst 0, 1) := dk_3 (dk_at dksX0_feed_2 3 rfl rfl)
theorem dX0_feed_48 : decode cX0_feed 48 = .ok (.bipush (-6), 2) := dk_16 250 (dk_at dksX0_feed_2 4 rfl rfl)
theorem dX0_feed_50 : decode cX0_feed 50 = .ok (.invokevirtual 184, 3) := dk_182 0 184 (dk_at dksX0_feed_2 6 rfl rfl)
theorem dX0_feed_53 : decode cX0_feed 53 = .ok (.aload_n 3, 1) := dk_45 (dk_at dksX0_feed_2 9 rfl rfl)
theorem dX0_feed_54 : decode cX0_feed 54 = .ok (.iload_n 2, 1) := dk_28 (dk_at dksX0_feed_2 10 rfl rfl)
theorem dX0_feed_55 : decode cX0_feed 55 = .ok (.invokevirtual 293, 3) := dk_182 1 37 (dk_at dksX0_feed_2 11 rfl rfl)
theorem dX0_feed_58 : decode cX0_feed 58 = .ok (.aload_n 3, 1) := dk_45 (dk_at dksX0_feed_2 14 rfl rfl)
theorem dX0_feed_59 : decode cX0_feed 59 = .ok (.getfield 354, 3) := dk_180 1 98 (dk_at dksX0_feed_2 15 rfl rfl)
theorem dX0_feed_62 : decode cX0_feed 62 = .ok (.ireturn, 1) := dk_172 (dk_at dksX0_feed_2 18 rfl rfl)
theorem dX0_feed_63 : decode cX0_feed 63 = .ok (.astore_n 3, 1) := dk_78 (dk_at dksX0_feed_2 19 rfl rfl)
theorem dX0_feed_64 : decode cX0_feed 64 = .ok (.aload_n 0, 1) := dk_42 (dk_at dksX0_feed_2 20 rfl rfl)
theorem dX0_feed_65 : decode cX0_feed 65 = .ok (.aload_n 3, 1) := dk_45 (dk_at dksX0_feed_2 21 rfl rfl)
theorem dX0_feed_66 : decode cX0_feed 66 = .ok (.getfield 17, 3) := dk_180 0 17 (dk_at dksX0_feed_3 0 rfl rfl)
theorem dX0_feed_69 : decode cX0_feed 69 = .ok (.invokevirtual 163, 3) := dk_182 0 163 (dk_at dksX0_feed_3 3 rfl rfl)
theorem dX0_feed_72 : decode cX0_feed 72 = .ok (.ireturn, 1) := dk_172 (dk_at dksX0_feed_3 6 rfl rfl)
abbrev cX0_machineAt : ByteArray := prog_1_method_43_code
def yX0_machineAt : MethodName := ⟨RX0, "machineAt", "(I)LCodeExchange$Machine;"⟩
def dkwX0_machineAt_2 : List UInt8 := [16, 254, 182, 0, 140, 191, 44, 192, 1, 32, 176]
abbrev dktX0_machineAt_2 : List UInt8 := dkwX0_machineAt_2 ++ []
def dkwX0_machineAt_1 : List UInt8 := [192, 1, 32, 180, 1, 90, 154, 0, 7, 4, 167, 0, 4, 3, 16, 254, 182, 0, 184, 167, 0, 11, 78, 42]
abbrev dktX0_machineAt_1 : List UInt8 := dkwX0_machineAt_1 ++ dktX0_machineAt_2
def dkwX0_machineAt_0 : List UInt8 := [42, 180, 0, 72, 27, 50, 180, 0, 128, 77, 167, 0, 10, 78, 42, 2, 182, 0, 140, 191, 42, 44]
abbrev dktX0_machineAt_0 : List UInt8 := dkwX0_machineAt_0 ++ dktX0_machineAt_1
theorem dksX0_machineAt_0 : cX0_machineAt.data.toList.drop 0 = dktX0_machineAt_0 := by decide +kernel
theorem dksX0_machineAt_1 : cX0_machineAt.data.toList.drop 22 = dktX0_machineAt_1 := dk_seg dksX0_machineAt_0 22 rfl rfl
theorem dksX0_machineAt_2 : cX0_machineAt.data.toList.drop 46 = dktX0_machineAt_2 := dk_seg dksX0_machineAt_1 24 rfl rfl
theorem dX0_machineAt_0 : decode cX0_machineAt 0 = .ok (.aload_n 0, 1) := dk_42 (dk_at dksX0_machineAt_0 0 rfl rfl)
theorem dX0_machineAt_1 : decode cX0_machineAt 1 = .ok (.getfield 72, 3) := dk_180 0 72 (dk_at dksX0_machineAt_0 1 rfl rfl)
theorem dX0_machineAt_4 : decode cX0_machineAt 4 = .ok (.iload_n 1, 1) := dk_27 (dk_at dksX0_machineAt_0 4 rfl rfl)
theorem dX0_machineAt_5 : decode cX0_machineAt 5 = .ok (.aaload, 1) := dk_50 (dk_at dksX0_machineAt_0 5 rfl rfl)
theorem dX0_machineAt_6 : decode cX0_machineAt 6 = .ok (.getfield 128, 3) := dk_180 0 128 (dk_at dksX0_machineAt_0 6 rfl rfl)
theorem dX0_machineAt_9 : decode cX0_machineAt 9 = .ok (.astore_n 2, 1) := dk_77 (dk_at dksX0_machineAt_0 9 rfl rfl)
theorem dX0_machineAt_10 : decode cX0_machineAt 10 = .ok (.goto 10, 3) := dk_167 0 10 (dk_at dksX0_machineAt_0 10 rfl rfl)
theorem dX0_machineAt_13 : decode cX0_machineAt 13 = .ok (.astore_n 3, 1) := dk_78 (dk_at dksX0_machineAt_0 13 rfl rfl)
theorem dX0_machineAt_14 : decode cX0_machineAt 14 = .ok (.aload_n 0, 1) := dk_42 (dk_at dksX0_machineAt_0 14 rfl rfl)
theorem dX0_machineAt_15 : decode cX0_machineAt 15 = .ok (.iconst (-1), 1) := dk_2 (dk_at dksX0_machineAt_0 15 rfl rfl)
theorem dX0_machineAt_16 : decode cX0_machineAt 16 = .ok (.invokevirtual 140, 3) := dk_182 0 140 (dk_at dksX0_machineAt_0 16 rfl rfl)
theorem dX0_machineAt_19 : decode cX0_machineAt 19 = .ok (.athrow, 1) := dk_191 (dk_at dksX0_machineAt_0 19 rfl rfl)
theorem dX0_machineAt_20 : decode cX0_machineAt 20 = .ok (.aload_n 0, 1) := dk_42 (dk_at dksX0_machineAt_0 20 rfl rfl)
theorem dX0_machineAt_21 : decode cX0_machineAt 21 = .ok (.aload_n 2, 1) := dk_44 (dk_at dksX0_machineAt_0 21 rfl rfl)
theorem dX0_machineAt_22 : decode cX0_machineAt 22 = .ok (.checkcast 288, 3) := dk_192 1 32 (dk_at dksX0_machineAt_1 0 rfl rfl)
theorem dX0_machineAt_25 : decode cX0_machineAt 25 = .ok (.getfield 346, 3) := dk_180 1 90 (dk_at dksX0_machineAt_1 3 rfl rfl)
theorem dX0_machineAt_28 : decode cX0_machineAt 28 = .ok (.ifCond .ne 7, 3) := dk_154 0 7 (dk_at dksX0_machineAt_1 6 rfl rfl)
theorem dX0_machineAt_31 : decode cX0_machineAt 31 = .ok (.iconst 1, 1) := dk_4 (dk_at dksX0_machineAt_1 9 rfl rfl)
theorem dX0_machineAt_32 : decode cX0_machineAt 32 = .ok (.goto 4, 3) := dk_167 0 4 (dk_at dksX0_machineAt_1 10 rfl rfl)
theorem dX0_machineAt_35 : decode cX0_machineAt 35 = .ok (.iconst 0, 1) := dk_3 (dk_at dksX0_machineAt_1 13 rfl rfl)
theorem dX0_machineAt_36 : decode cX0_machineAt 36 = .ok (.bipush (-2), 2) := dk_16 254 (dk_at dksX0_machineAt_1 14 rfl rfl)
theorem dX0_machineAt_38 : decode cX0_machineAt 38 = .ok (.invokevirtual 184, 3) := dk_182 0 184 (dk_at dksX0_machineAt_1 16 rfl rfl)
theorem dX0_machineAt_41 : decode cX0_machineAt 41 = .ok (.goto 11, 3) := dk_167 0 11 (dk_at dksX0_machineAt_1 19 rfl rfl)
theorem dX0_machineAt_44 : decode cX0_machineAt 44 = .ok (.astore_n 3, 1) := dk_78 (dk_at dksX0_machineAt_1 22 rfl rfl)
theorem dX0_machineAt_45 : decode cX0_machineAt 45 = .ok (.aload_n 0, 1) := dk_42 (dk_at dksX0_machineAt_1 23 rfl rfl)
theorem dX0_machineAt_46 : decode cX0_machineAt 46 = .ok (.bipush (-2), 2) := dk_16 254 (dk_at dksX0_machineAt_2 0 rfl rfl)
theorem dX0_machineAt_48 : decode cX0_machineAt 48 = .ok (.invokevirtual 140, 3) := dk_182 0 140 (dk_at dksX0_machineAt_2 2 rfl rfl)
theorem dX0_machineAt_51 : decode cX0_machineAt 51 = .ok (.athrow, 1) := dk_191 (dk_at dksX0_machineAt_2 5 rfl rfl)
theorem dX0_machineAt_52 : decode cX0_machineAt 52 = .ok (.aload_n 2, 1) := dk_44 (dk_at dksX0_machineAt_2 6 rfl rfl)
theorem dX0_machineAt_53 : decode cX0_machineAt 53 = .ok (.checkcast 288, 3) := dk_192 1 32 (dk_at dksX0_machineAt_2 7 rfl rfl)
theorem dX0_machineAt_56 : decode cX0_machineAt 56 = .ok (.areturn, 1) := dk_176 (dk_at dksX0_machineAt_2 10 rfl rfl)
abbrev cX0_end : ByteArray := prog_1_method_45_code
def yX0_end : MethodName := ⟨RX0, "end", "(I)I"⟩
def dkwX0_end_1 : List UInt8 := [182, 0, 184, 44, 182, 1, 40, 44, 180, 1, 98, 172, 77, 42, 44, 180, 0, 17, 182, 0, 163, 172]
abbrev dktX0_end_1 : List UInt8 := dkwX0_end_1 ++ []
def dkwX0_end_0 : List UInt8 := [42, 27, 182, 1, 93, 77, 42, 44, 180, 1, 98, 17, 1, 44, 163, 0, 7, 4, 167, 0, 4, 3, 16, 250]
abbrev dktX0_end_0 : List UInt8 := dkwX0_end_0 ++ dktX0_end_1
theorem dksX0_end_0 : cX0_end.data.toList.drop 0 = dktX0_end_0 := by decide +kernel
theorem dksX0_end_1 : cX0_end.data.toList.drop 24 = dktX0_end_1 := dk_seg dksX0_end_0 24 rfl rfl
theorem dX0_end_0 : decode cX0_end 0 = .ok (.aload_n 0, 1) := dk_42 (dk_at dksX0_end_0 0 rfl rfl)
theorem dX0_end_1 : decode cX0_end 1 = .ok (.iload_n 1, 1) := dk_27 (dk_at dksX0_end_0 1 rfl rfl)
theorem dX0_end_2 : decode cX0_end 2 = .ok (.invokevirtual 349, 3) := dk_182 1 93 (dk_at dksX0_end_0 2 rfl rfl)
theorem dX0_end_5 : decode cX0_end 5 = .ok (.astore_n 2, 1) := dk_77 (dk_at dksX0_end_0 5 rfl rfl)
theorem dX0_end_6 : decode cX0_end 6 = .ok (.aload_n 0, 1) := dk_42 (dk_at dksX0_end_0 6 rfl rfl)
theorem dX0_end_7 : decode cX0_end 7 = .ok (.aload_n 2, 1) := dk_44 (dk_at dksX0_end_0 7 rfl rfl)
theorem dX0_end_8 : decode cX0_end 8 = .ok (.getfield 354, 3) := dk_180 1 98 (dk_at dksX0_end_0 8 rfl rfl)
theorem dX0_end_11 : decode cX0_end 11 = .ok (.sipush 300, 3) := dk_17 1 44 (dk_at dksX0_end_0 11 rfl rfl)
theorem dX0_end_14 : decode cX0_end 14 = .ok (.if_icmp .gt 7, 3) := dk_163 0 7 (dk_at dksX0_end_0 14 rfl rfl)
theorem dX0_end_17 : decode cX0_end 17 = .ok (.iconst 1, 1) := dk_4 (dk_at dksX0_end_0 17 rfl rfl)
theorem dX0_end_18 : decode cX0_end 18 = .ok (.goto 4, 3) := dk_167 0 4 (dk_at dksX0_end_0 18 rfl rfl)
theorem dX0_end_21 : decode cX0_end 21 = .ok (.iconst 0, 1) := dk_3 (dk_at dksX0_end_0 21 rfl rfl)
theorem dX0_end_22 : decode cX0_end 22 = .ok (.bipush (-6), 2) := dk_16 250 (dk_at dksX0_end_0 22 rfl rfl)
theorem dX0_end_24 : decode cX0_end 24 = .ok (.invokevirtual 184, 3) := dk_182 0 184 (dk_at dksX0_end_1 0 rfl rfl)
theorem dX0_end_27 : decode cX0_end 27 = .ok (.aload_n 2, 1) := dk_44 (dk_at dksX0_end_1 3 rfl rfl)
theorem dX0_end_28 : decode cX0_end 28 = .ok (.invokevirtual 296, 3) := dk_182 1 40 (dk_at dksX0_end_1 4 rfl rfl)
theorem dX0_end_31 : decode cX0_end 31 = .ok (.aload_n 2, 1) := dk_44 (dk_at dksX0_end_1 7 rfl rfl)
theorem dX0_end_32 : decode cX0_end 32 = .ok (.getfield 354, 3) := dk_180 1 98 (dk_at dksX0_end_1 8 rfl rfl)
theorem dX0_end_35 : decode cX0_end 35 = .ok (.ireturn, 1) := dk_172 (dk_at dksX0_end_1 11 rfl rfl)
theorem dX0_end_36 : decode cX0_end 36 = .ok (.astore_n 2, 1) := dk_77 (dk_at dksX0_end_1 12 rfl rfl)
theorem dX0_end_37 : decode cX0_end 37 = .ok (.aload_n 0, 1) := dk_42 (dk_at dksX0_end_1 13 rfl rfl)
theorem dX0_end_38 : decode cX0_end 38 = .ok (.aload_n 2, 1) := dk_44 (dk_at dksX0_end_1 14 rfl rfl)
theorem dX0_end_39 : decode cX0_end 39 = .ok (.getfield 17, 3) := dk_180 0 17 (dk_at dksX0_end_1 15 rfl rfl)
theorem dX0_end_42 : decode cX0_end 42 = .ok (.invokevirtual 163, 3) := dk_182 0 163 (dk_at dksX0_end_1 18 rfl rfl)
theorem dX0_end_45 : decode cX0_end 45 = .ok (.ireturn, 1) := dk_172 (dk_at dksX0_end_1 21 rfl rfl)
abbrev cX0_take : ByteArray := prog_1_method_46_code
def yX0_take : MethodName := ⟨RX0, "take", "(I)I"⟩
def dkwX0_take_2 : List UInt8 := [167, 0, 10, 44, 192, 1, 32, 182, 1, 104, 172]
abbrev dktX0_take_2 : List UInt8 := dkwX0_take_2 ++ []
def dkwX0_take_1 : List UInt8 := [192, 1, 99, 77, 44, 198, 0, 12, 44, 185, 1, 101, 1, 0, 153, 0, 12, 42, 16, 254, 182, 0, 163]
abbrev dktX0_take_1 : List UInt8 := dkwX0_take_1 ++ dktX0_take_2
def dkwX0_take_0 : List UInt8 := [27, 3, 6, 184, 0, 4, 154, 0, 9, 42, 2, 182, 0, 163, 172, 42, 180, 0, 72, 27, 50, 180, 0, 128]
abbrev dktX0_take_0 : List UInt8 := dkwX0_take_0 ++ dktX0_take_1
theorem dksX0_take_0 : cX0_take.data.toList.drop 0 = dktX0_take_0 := by decide +kernel
theorem dksX0_take_1 : cX0_take.data.toList.drop 24 = dktX0_take_1 := dk_seg dksX0_take_0 24 rfl rfl
theorem dksX0_take_2 : cX0_take.data.toList.drop 47 = dktX0_take_2 := dk_seg dksX0_take_1 23 rfl rfl
theorem dX0_take_0 : decode cX0_take 0 = .ok (.iload_n 1, 1) := dk_27 (dk_at dksX0_take_0 0 rfl rfl)
theorem dX0_take_1 : decode cX0_take 1 = .ok (.iconst 0, 1) := dk_3 (dk_at dksX0_take_0 1 rfl rfl)
theorem dX0_take_2 : decode cX0_take 2 = .ok (.iconst 3, 1) := dk_6 (dk_at dksX0_take_0 2 rfl rfl)
theorem dX0_take_3 : decode cX0_take 3 = .ok (.invokestatic 4, 3) := dk_184 0 4 (dk_at dksX0_take_0 3 rfl rfl)
theorem dX0_take_6 : decode cX0_take 6 = .ok (.ifCond .ne 9, 3) := dk_154 0 9 (dk_at dksX0_take_0 6 rfl rfl)
theorem dX0_take_9 : decode cX0_take 9 = .ok (.aload_n 0, 1) := dk_42 (dk_at dksX0_take_0 9 rfl rfl)
theorem dX0_take_10 : decode cX0_take 10 = .ok (.iconst (-1), 1) := dk_2 (dk_at dksX0_take_0 10 rfl rfl)
theorem dX0_take_11 : decode cX0_take 11 = .ok (.invokevirtual 163, 3) := dk_182 0 163 (dk_at dksX0_take_0 11 rfl rfl)
theorem dX0_take_14 : decode cX0_take 14 = .ok (.ireturn, 1) := dk_172 (dk_at dksX0_take_0 14 rfl rfl)
theorem dX0_take_15 : decode cX0_take 15 = .ok (.aload_n 0, 1) := dk_42 (dk_at dksX0_take_0 15 rfl rfl)
theorem dX0_take_16 : decode cX0_take 16 = .ok (.getfield 72, 3) := dk_180 0 72 (dk_at dksX0_take_0 16 rfl rfl)
theorem dX0_take_19 : decode cX0_take 19 = .ok (.iload_n 1, 1) := dk_27 (dk_at dksX0_take_0 19 rfl rfl)
theorem dX0_take_20 : decode cX0_take 20 = .ok (.aaload, 1) := dk_50 (dk_at dksX0_take_0 20 rfl rfl)
theorem dX0_take_21 : decode cX0_take 21 = .ok (.getfield 128, 3) := dk_180 0 128 (dk_at dksX0_take_0 21 rfl rfl)
theorem dX0_take_24 : decode cX0_take 24 = .ok (.checkcast 355, 3) := dk_192 1 99 (dk_at dksX0_take_1 0 rfl rfl)
theorem dX0_take_27 : decode cX0_take 27 = .ok (.astore_n 2, 1) := dk_77 (dk_at dksX0_take_1 3 rfl rfl)
theorem dX0_take_28 : decode cX0_take 28 = .ok (.aload_n 2, 1) := dk_44 (dk_at dksX0_take_1 4 rfl rfl)
theorem dX0_take_29 : decode cX0_take 29 = .ok (.ifnull 12, 3) := dk_198 0 12 (dk_at dksX0_take_1 5 rfl rfl)
theorem dX0_take_32 : decode cX0_take 32 = .ok (.aload_n 2, 1) := dk_44 (dk_at dksX0_take_1 8 rfl rfl)
theorem dX0_take_33 : decode cX0_take 33 = .ok (.invokeinterface 357 1, 5) := by decide +kernel
theorem dX0_take_38 : decode cX0_take 38 = .ok (.ifCond .eq 12, 3) := dk_153 0 12 (dk_at dksX0_take_1 14 rfl rfl)
theorem dX0_take_41 : decode cX0_take 41 = .ok (.aload_n 0, 1) := dk_42 (dk_at dksX0_take_1 17 rfl rfl)
theorem dX0_take_42 : decode cX0_take 42 = .ok (.bipush (-2), 2) := dk_16 254 (dk_at dksX0_take_1 18 rfl rfl)
theorem dX0_take_44 : decode cX0_take 44 = .ok (.invokevirtual 163, 3) := dk_182 0 163 (dk_at dksX0_take_1 20 rfl rfl)
theorem dX0_take_47 : decode cX0_take 47 = .ok (.goto 10, 3) := dk_167 0 10 (dk_at dksX0_take_2 0 rfl rfl)
theorem dX0_take_50 : decode cX0_take 50 = .ok (.aload_n 2, 1) := dk_44 (dk_at dksX0_take_2 3 rfl rfl)
theorem dX0_take_51 : decode cX0_take 51 = .ok (.checkcast 288, 3) := dk_192 1 32 (dk_at dksX0_take_2 4 rfl rfl)
theorem dX0_take_54 : decode cX0_take 54 = .ok (.invokevirtual 360, 3) := dk_182 1 104 (dk_at dksX0_take_2 7 rfl rfl)
theorem dX0_take_57 : decode cX0_take 57 = .ok (.ireturn, 1) := dk_172 (dk_at dksX0_take_2 10 rfl rfl)
abbrev cX0_machine : ByteArray := prog_1_method_47_code
def yX0_machine : MethodName := ⟨RX0, "machine", "(II)I"⟩
def dkwX0_machine_4 : List UInt8 := [45, 180, 1, 112, 167, 0, 7, 45, 180, 1, 90, 172]
abbrev dktX0_machine_4 : List UInt8 := dkwX0_machine_4 ++ []
def dkwX0_machine_3 : List UInt8 := [45, 180, 1, 106, 167, 0, 31, 28, 5, 160, 0, 10, 45, 180, 1, 109, 167, 0, 19, 28, 6, 160, 0, 10]
abbrev dktX0_machine_3 : List UInt8 := dkwX0_machine_3 ++ dktX0_machine_4
def dkwX0_machine_2 : List UInt8 := [167, 0, 4, 2, 182, 0, 163, 172, 28, 154, 0, 10, 45, 180, 1, 98, 167, 0, 43, 28, 4, 160, 0, 10]
abbrev dktX0_machine_2 : List UInt8 := dkwX0_machine_2 ++ dktX0_machine_3
def dkwX0_machine_1 : List UInt8 := [192, 1, 32, 78, 45, 198, 0, 12, 28, 3, 7, 184, 0, 4, 154, 0, 18, 42, 45, 199, 0, 8, 16, 254]
abbrev dktX0_machine_1 : List UInt8 := dkwX0_machine_1 ++ dktX0_machine_2
def dkwX0_machine_0 : List UInt8 := [27, 3, 6, 184, 0, 4, 154, 0, 9, 42, 2, 182, 0, 163, 172, 42, 180, 0, 72, 27, 50, 180, 0, 128]
abbrev dktX0_machine_0 : List UInt8 := dkwX0_machine_0 ++ dktX0_machine_1
theorem dksX0_machine_0 : cX0_machine.data.toList.drop 0 = dktX0_machine_0 := by decide +kernel
theorem dksX0_machine_1 : cX0_machine.data.toList.drop 24 = dktX0_machine_1 := dk_seg dksX0_machine_0 24 rfl rfl
theorem dksX0_machine_2 : cX0_machine.data.toList.drop 48 = dktX0_machine_2 := dk_seg dksX0_machine_1 24 rfl rfl
theorem dksX0_machine_3 : cX0_machine.data.toList.drop 72 = dktX0_machine_3 := dk_seg dksX0_machine_2 24 rfl rfl
theorem dksX0_machine_4 : cX0_machine.data.toList.drop 96 = dktX0_machine_4 := dk_seg dksX0_machine_3 24 rfl rfl
theorem dX0_machine_0 : decode cX0_machine 0 = .ok (.iload_n 1, 1) := dk_27 (dk_at dksX0_machine_0 0 rfl rfl)
theorem dX0_machine_1 : decode cX0_machine 1 = .ok (.iconst 0, 1) := dk_3 (dk_at dksX0_machine_0 1 rfl rfl)
theorem dX0_machine_2 : decode cX0_machine 2 = .ok (.iconst 3, 1) := dk_6 (dk_at dksX0_machine_0 2 rfl rfl)
theorem dX0_machine_3 : decode cX0_machine 3 = .ok (.invokestatic 4, 3) := dk_184 0 4 (dk_at dksX0_machine_0 3 rfl rfl)
theorem dX0_machine_6 : decode cX0_machine 6 = .ok (.ifCond .ne 9, 3) := dk_154 0 9 (dk_at dksX0_machine_0 6 rfl rfl)
theorem dX0_machine_9 : decode cX0_machine 9 = .ok (.aload_n 0, 1) := dk_42 (dk_at dksX0_machine_0 9 rfl rfl)
theorem dX0_machine_10 : decode cX0_machine 10 = .ok (.iconst (-1), 1) := dk_2 (dk_at dksX0_machine_0 10 rfl rfl)
theorem dX0_machine_11 : decode cX0_machine 11 = .ok (.invokevirtual 163, 3) := dk_182 0 163 (dk_at dksX0_machine_0 11 rfl rfl)
theorem dX0_machine_14 : decode cX0_machine 14 = .ok (.ireturn, 1) := dk_172 (dk_at dksX0_machine_0 14 rfl rfl)
theorem dX0_machine_15 : decode cX0_machine 15 = .ok (.aload_n 0, 1) := dk_42 (dk_at dksX0_machine_0 15 rfl rfl)
theorem dX0_machine_16 : decode cX0_machine 16 = .ok (.getfield 72, 3) := dk_180 0 72 (dk_at dksX0_machine_0 16 rfl rfl)
theorem dX0_machine_19 : decode cX0_machine 19 = .ok (.iload_n 1, 1) := dk_27 (dk_at dksX0_machine_0 19 rfl rfl)
theorem dX0_machine_20 : decode cX0_machine 20 = .ok (.aaload, 1) := dk_50 (dk_at dksX0_machine_0 20 rfl rfl)
theorem dX0_machine_21 : decode cX0_machine 21 = .ok (.getfield 128, 3) := dk_180 0 128 (dk_at dksX0_machine_0 21 rfl rfl)
theorem dX0_machine_24 : decode cX0_machine 24 = .ok (.checkcast 288, 3) := dk_192 1 32 (dk_at dksX0_machine_1 0 rfl rfl)
theorem dX0_machine_27 : decode cX0_machine 27 = .ok (.astore_n 3, 1) := dk_78 (dk_at dksX0_machine_1 3 rfl rfl)
theorem dX0_machine_28 : decode cX0_machine 28 = .ok (.aload_n 3, 1) := dk_45 (dk_at dksX0_machine_1 4 rfl rfl)
theorem dX0_machine_29 : decode cX0_machine 29 = .ok (.ifnull 12, 3) := dk_198 0 12 (dk_at dksX0_machine_1 5 rfl rfl)
theorem dX0_machine_32 : decode cX0_machine 32 = .ok (.iload_n 2, 1) := dk_28 (dk_at dksX0_machine_1 8 rfl rfl)
theorem dX0_machine_33 : decode cX0_machine 33 = .ok (.iconst 0, 1) := dk_3 (dk_at dksX0_machine_1 9 rfl rfl)
theorem dX0_machine_34 : decode cX0_machine 34 = .ok (.iconst 4, 1) := dk_7 (dk_at dksX0_machine_1 10 rfl rfl)
theorem dX0_machine_35 : decode cX0_machine 35 = .ok (.invokestatic 4, 3) := dk_184 0 4 (dk_at dksX0_machine_1 11 rfl rfl)
theorem dX0_machine_38 : decode cX0_machine 38 = .ok (.ifCond .ne 18, 3) := dk_154 0 18 (dk_at dksX0_machine_1 14 rfl rfl)
theorem dX0_machine_41 : decode cX0_machine 41 = .ok (.aload_n 0, 1) := dk_42 (dk_at dksX0_machine_1 17 rfl rfl)
theorem dX0_machine_42 : decode cX0_machine 42 = .ok (.aload_n 3, 1) := dk_45 (dk_at dksX0_machine_1 18 rfl rfl)
theorem dX0_machine_43 : decode cX0_machine 43 = .ok (.ifnonnull 8, 3) := dk_199 0 8 (dk_at dksX0_machine_1 19 rfl rfl)
theorem dX0_machine_46 : decode cX0_machine 46 = .ok (.bipush (-2), 2) := dk_16 254 (dk_at dksX0_machine_1 22 rfl rfl)
theorem dX0_machine_48 : decode cX0_machine 48 = .ok (.goto 4, 3) := dk_167 0 4 (dk_at dksX0_machine_2 0 rfl rfl)
theorem dX0_machine_51 : decode cX0_machine 51 = .ok (.iconst (-1), 1) := dk_2 (dk_at dksX0_machine_2 3 rfl rfl)
theorem dX0_machine_52 : decode cX0_machine 52 = .ok (.invokevirtual 163, 3) := dk_182 0 163 (dk_at dksX0_machine_2 4 rfl rfl)
theorem dX0_machine_55 : decode cX0_machine 55 = .ok (.ireturn, 1) := dk_172 (dk_at dksX0_machine_2 7 rfl rfl)
theorem dX0_machine_56 : decode cX0_machine 56 = .ok (.iload_n 2, 1) := dk_28 (dk_at dksX0_machine_2 8 rfl rfl)
theorem dX0_machine_57 : decode cX0_machine 57 = .ok (.ifCond .ne 10, 3) := dk_154 0 10 (dk_at dksX0_machine_2 9 rfl rfl)
theorem dX0_machine_60 : decode cX0_machine 60 = .ok (.aload_n 3, 1) := dk_45 (dk_at dksX0_machine_2 12 rfl rfl)
theorem dX0_machine_61 : decode cX0_machine 61 = .ok (.getfield 354, 3) := dk_180 1 98 (dk_at dksX0_machine_2 13 rfl rfl)
theorem dX0_machine_64 : decode cX0_machine 64 = .ok (.goto 43, 3) := dk_167 0 43 (dk_at dksX0_machine_2 16 rfl rfl)
theorem dX0_machine_67 : decode cX0_machine 67 = .ok (.iload_n 2, 1) := dk_28 (dk_at dksX0_machine_2 19 rfl rfl)
theorem dX0_machine_68 : decode cX0_machine 68 = .ok (.iconst 1, 1) := dk_4 (dk_at dksX0_machine_2 20 rfl rfl)
theorem dX0_machine_69 : decode cX0_machine 69 = .ok (.if_icmp .ne 10, 3) := dk_160 0 10 (dk_at dksX0_machine_2 21 rfl rfl)
theorem dX0_machine_72 : decode cX0_machine 72 = .ok (.aload_n 3, 1) := dk_45 (dk_at dksX0_machine_3 0 rfl rfl)
theorem dX0_machine_73 : decode cX0_machine 73 = .ok (.getfield 362, 3) := dk_180 1 106 (dk_at dksX0_machine_3 1 rfl rfl)
theorem dX0_machine_76 : decode cX0_machine 76 = .ok (.goto 31, 3) := dk_167 0 31 (dk_at dksX0_machine_3 4 rfl rfl)
theorem dX0_machine_79 : decode cX0_machine 79 = .ok (.iload_n 2, 1) := dk_28 (dk_at dksX0_machine_3 7 rfl rfl)
theorem dX0_machine_80 : decode cX0_machine 80 = .ok (.iconst 2, 1) := dk_5 (dk_at dksX0_machine_3 8 rfl rfl)
theorem dX0_machine_81 : decode cX0_machine 81 = .ok (.if_icmp .ne 10, 3) := dk_160 0 10 (dk_at dksX0_machine_3 9 rfl rfl)
theorem dX0_machine_84 : decode cX0_machine 84 = .ok (.aload_n 3, 1) := dk_45 (dk_at dksX0_machine_3 12 rfl rfl)
theorem dX0_machine_85 : decode cX0_machine 85 = .ok (.getfield 365, 3) := dk_180 1 109 (dk_at dksX0_machine_3 13 rfl rfl)
theorem dX0_machine_88 : decode cX0_machine 88 = .ok (.goto 19, 3) := dk_167 0 19 (dk_at dksX0_machine_3 16 rfl rfl)
theorem dX0_machine_91 : decode cX0_machine 91 = .ok (.iload_n 2, 1) := dk_28 (dk_at dksX0_machine_3 19 rfl rfl)
theorem dX0_machine_92 : decode cX0_machine 92 = .ok (.iconst 3, 1) := dk_6 (dk_at dksX0_machine_3 20 rfl rfl)
theorem dX0_machine_93 : decode cX0_machine 93 = .ok (.if_icmp .ne 10, 3) := dk_160 0 10 (dk_at dksX0_machine_3 21 rfl rfl)
theorem dX0_machine_96 : decode cX0_machine 96 = .ok (.aload_n 3, 1) := dk_45 (dk_at dksX0_machine_4 0 rfl rfl)
theorem dX0_machine_97 : decode cX0_machine 97 = .ok (.getfield 368, 3) := dk_180 1 112 (dk_at dksX0_machine_4 1 rfl rfl)
theorem dX0_machine_100 : decode cX0_machine 100 = .ok (.goto 7, 3) := dk_167 0 7 (dk_at dksX0_machine_4 4 rfl rfl)
theorem dX0_machine_103 : decode cX0_machine 103 = .ok (.aload_n 3, 1) := dk_45 (dk_at dksX0_machine_4 7 rfl rfl)
theorem dX0_machine_104 : decode cX0_machine 104 = .ok (.getfield 346, 3) := dk_180 1 90 (dk_at dksX0_machine_4 8 rfl rfl)
theorem dX0_machine_107 : decode cX0_machine 107 = .ok (.ireturn, 1) := dk_172 (dk_at dksX0_machine_4 11 rfl rfl)
abbrev cX0_coverage : ByteArray := prog_1_method_48_code
def yX0_coverage : MethodName := ⟨RX0, "coverage", "(III)I"⟩
def dkwX0_coverage_2 : List UInt8 := [25, 4, 28, 29, 182, 1, 115, 172, 58, 4, 42, 25, 4, 180, 0, 17, 182, 0, 163, 172]
abbrev dktX0_coverage_2 : List UInt8 := dkwX0_coverage_2 ++ []
def dkwX0_coverage_1 : List UInt8 := [184, 0, 4, 153, 0, 15, 29, 28, 100, 18, 12, 162, 0, 7, 4, 167, 0, 4, 3, 2, 182, 0, 184]
abbrev dktX0_coverage_1 : List UInt8 := dkwX0_coverage_1 ++ dktX0_coverage_2
def dkwX0_coverage_0 : List UInt8 := [42, 27, 182, 0, 255, 58, 4, 42, 28, 3, 18, 3, 184, 0, 4, 153, 0, 25, 29, 28, 18, 3]
abbrev dktX0_coverage_0 : List UInt8 := dkwX0_coverage_0 ++ dktX0_coverage_1
theorem dksX0_coverage_0 : cX0_coverage.data.toList.drop 0 = dktX0_coverage_0 := by decide +kernel
theorem dksX0_coverage_1 : cX0_coverage.data.toList.drop 22 = dktX0_coverage_1 := dk_seg dksX0_coverage_0 22 rfl rfl
theorem dksX0_coverage_2 : cX0_coverage.data.toList.drop 45 = dktX0_coverage_2 := dk_seg dksX0_coverage_1 23 rfl rfl
theorem dX0_coverage_0 : decode cX0_coverage 0 = .ok (.aload_n 0, 1) := dk_42 (dk_at dksX0_coverage_0 0 rfl rfl)
theorem dX0_coverage_1 : decode cX0_coverage 1 = .ok (.iload_n 1, 1) := dk_27 (dk_at dksX0_coverage_0 1 rfl rfl)
theorem dX0_coverage_2 : decode cX0_coverage 2 = .ok (.invokevirtual 255, 3) := dk_182 0 255 (dk_at dksX0_coverage_0 2 rfl rfl)
theorem dX0_coverage_5 : decode cX0_coverage 5 = .ok (.astore 4, 2) := dk_58 4 (dk_at dksX0_coverage_0 5 rfl rfl)
theorem dX0_coverage_7 : decode cX0_coverage 7 = .ok (.aload_n 0, 1) := dk_42 (dk_at dksX0_coverage_0 7 rfl rfl)
theorem dX0_coverage_8 : decode cX0_coverage 8 = .ok (.iload_n 2, 1) := dk_28 (dk_at dksX0_coverage_0 8 rfl rfl)
theorem dX0_coverage_9 : decode cX0_coverage 9 = .ok (.iconst 0, 1) := dk_3 (dk_at dksX0_coverage_0 9 rfl rfl)
theorem dX0_coverage_10 : decode cX0_coverage 10 = .ok (.ldc 3, 2) := dk_18 3 (dk_at dksX0_coverage_0 10 rfl rfl)
theorem dX0_coverage_12 : decode cX0_coverage 12 = .ok (.invokestatic 4, 3) := dk_184 0 4 (dk_at dksX0_coverage_0 12 rfl rfl)
theorem dX0_coverage_15 : decode cX0_coverage 15 = .ok (.ifCond .eq 25, 3) := dk_153 0 25 (dk_at dksX0_coverage_0 15 rfl rfl)
theorem dX0_coverage_18 : decode cX0_coverage 18 = .ok (.iload_n 3, 1) := dk_29 (dk_at dksX0_coverage_0 18 rfl rfl)
theorem dX0_coverage_19 : decode cX0_coverage 19 = .ok (.iload_n 2, 1) := dk_28 (dk_at dksX0_coverage_0 19 rfl rfl)
theorem dX0_coverage_20 : decode cX0_coverage 20 = .ok (.ldc 3, 2) := dk_18 3 (dk_at dksX0_coverage_0 20 rfl rfl)
theorem dX0_coverage_22 : decode cX0_coverage 22 = .ok (.invokestatic 4, 3) := dk_184 0 4 (dk_at dksX0_coverage_1 0 rfl rfl)
theorem dX0_coverage_25 : decode cX0_coverage 25 = .ok (.ifCond .eq 15, 3) := dk_153 0 15 (dk_at dksX0_coverage_1 3 rfl rfl)
theorem dX0_coverage_28 : decode cX0_coverage 28 = .ok (.iload_n 3, 1) := dk_29 (dk_at dksX0_coverage_1 6 rfl rfl)
theorem dX0_coverage_29 : decode cX0_coverage 29 = .ok (.iload_n 2, 1) := dk_28 (dk_at dksX0_coverage_1 7 rfl rfl)
theorem dX0_coverage_30 : decode cX0_coverage 30 = .ok (.isub, 1) := dk_100 (dk_at dksX0_coverage_1 8 rfl rfl)
theorem dX0_coverage_31 : decode cX0_coverage 31 = .ok (.ldc 12, 2) := dk_18 12 (dk_at dksX0_coverage_1 9 rfl rfl)
theorem dX0_coverage_33 : decode cX0_coverage 33 = .ok (.if_icmp .ge 7, 3) := dk_162 0 7 (dk_at dksX0_coverage_1 11 rfl rfl)
theorem dX0_coverage_36 : decode cX0_coverage 36 = .ok (.iconst 1, 1) := dk_4 (dk_at dksX0_coverage_1 14 rfl rfl)
theorem dX0_coverage_37 : decode cX0_coverage 37 = .ok (.goto 4, 3) := dk_167 0 4 (dk_at dksX0_coverage_1 15 rfl rfl)
theorem dX0_coverage_40 : decode cX0_coverage 40 = .ok (.iconst 0, 1) := dk_3 (dk_at dksX0_coverage_1 18 rfl rfl)
theorem dX0_coverage_41 : decode cX0_coverage 41 = .ok (.iconst (-1), 1) := dk_2 (dk_at dksX0_coverage_1 19 rfl rfl)
theorem dX0_coverage_42 : decode cX0_coverage 42 = .ok (.invokevirtual 184, 3) := dk_182 0 184 (dk_at dksX0_coverage_1 20 rfl rfl)
theorem dX0_coverage_45 : decode cX0_coverage 45 = .ok (.aload 4, 2) := dk_25 4 (dk_at dksX0_coverage_2 0 rfl rfl)
theorem dX0_coverage_47 : decode cX0_coverage 47 = .ok (.iload_n 2, 1) := dk_28 (dk_at dksX0_coverage_2 2 rfl rfl)
theorem dX0_coverage_48 : decode cX0_coverage 48 = .ok (.iload_n 3, 1) := dk_29 (dk_at dksX0_coverage_2 3 rfl rfl)
theorem dX0_coverage_49 : decode cX0_coverage 49 = .ok (.invokevirtual 371, 3) := dk_182 1 115 (dk_at dksX0_coverage_2 4 rfl rfl)
theorem dX0_coverage_52 : decode cX0_coverage 52 = .ok (.ireturn, 1) := dk_172 (dk_at dksX0_coverage_2 7 rfl rfl)
theorem dX0_coverage_53 : decode cX0_coverage 53 = .ok (.astore 4, 2) := dk_58 4 (dk_at dksX0_coverage_2 8 rfl rfl)
theorem dX0_coverage_55 : decode cX0_coverage 55 = .ok (.aload_n 0, 1) := dk_42 (dk_at dksX0_coverage_2 10 rfl rfl)
theorem dX0_coverage_56 : decode cX0_coverage 56 = .ok (.aload 4, 2) := dk_25 4 (dk_at dksX0_coverage_2 11 rfl rfl)
theorem dX0_coverage_58 : decode cX0_coverage 58 = .ok (.getfield 17, 3) := dk_180 0 17 (dk_at dksX0_coverage_2 13 rfl rfl)
theorem dX0_coverage_61 : decode cX0_coverage 61 = .ok (.invokevirtual 163, 3) := dk_182 0 163 (dk_at dksX0_coverage_2 16 rfl rfl)
theorem dX0_coverage_64 : decode cX0_coverage 64 = .ok (.ireturn, 1) := dk_172 (dk_at dksX0_coverage_2 19 rfl rfl)
abbrev cX0_differ : ByteArray := prog_1_method_51_code
def yX0_differ : MethodName := ⟨RX0, "differ", "(III)I"⟩
def dkwX0_differ_5 : List UInt8 := [16, 254, 182, 0, 140, 191, 58, 4, 42, 25, 4, 180, 0, 17, 182, 0, 163, 172]
abbrev dktX0_differ_5 : List UInt8 := dkwX0_differ_5 ++ []
def dkwX0_differ_4 : List UInt8 := [180, 0, 115, 42, 180, 0, 118, 184, 1, 122, 154, 0, 6, 21, 6, 172, 132, 6, 1, 167, 255, 184, 42]
abbrev dktX0_differ_4 : List UInt8 := dkwX0_differ_4 ++ dktX0_differ_5
def dkwX0_differ_3 : List UInt8 := [180, 0, 115, 182, 1, 118, 42, 25, 5, 21, 6, 42, 180, 0, 118, 182, 1, 118, 160, 0, 17, 42]
abbrev dktX0_differ_3 : List UInt8 := dkwX0_differ_3 ++ dktX0_differ_4
def dkwX0_differ_2 : List UInt8 := [162, 0, 68, 21, 6, 18, 3, 163, 0, 61, 21, 6, 184, 0, 195, 153, 0, 47, 42, 25, 4, 21, 6, 42]
abbrev dktX0_differ_2 : List UInt8 := dkwX0_differ_2 ++ dktX0_differ_3
def dkwX0_differ_1 : List UInt8 := [58, 5, 42, 29, 3, 18, 3, 184, 0, 4, 2, 182, 0, 184, 29, 54, 6, 21, 6, 29, 17, 16, 0, 96]
abbrev dktX0_differ_1 : List UInt8 := dkwX0_differ_1 ++ dktX0_differ_2
def dkwX0_differ_0 : List UInt8 := [42, 27, 182, 0, 152, 87, 42, 28, 182, 0, 152, 87, 42, 27, 182, 0, 255, 58, 4, 42, 28, 182, 0, 255]
abbrev dktX0_differ_0 : List UInt8 := dkwX0_differ_0 ++ dktX0_differ_1
theorem dksX0_differ_0 : cX0_differ.data.toList.drop 0 = dktX0_differ_0 := by decide +kernel
theorem dksX0_differ_1 : cX0_differ.data.toList.drop 24 = dktX0_differ_1 := dk_seg dksX0_differ_0 24 rfl rfl
theorem dksX0_differ_2 : cX0_differ.data.toList.drop 48 = dktX0_differ_2 := dk_seg dksX0_differ_1 24 rfl rfl
theorem dksX0_differ_3 : cX0_differ.data.toList.drop 72 = dktX0_differ_3 := dk_seg dksX0_differ_2 24 rfl rfl
theorem dksX0_differ_4 : cX0_differ.data.toList.drop 94 = dktX0_differ_4 := dk_seg dksX0_differ_3 22 rfl rfl
theorem dksX0_differ_5 : cX0_differ.data.toList.drop 117 = dktX0_differ_5 := dk_seg dksX0_differ_4 23 rfl rfl
theorem dX0_differ_0 : decode cX0_differ 0 = .ok (.aload_n 0, 1) := dk_42 (dk_at dksX0_differ_0 0 rfl rfl)
theorem dX0_differ_1 : decode cX0_differ 1 = .ok (.iload_n 1, 1) := dk_27 (dk_at dksX0_differ_0 1 rfl rfl)
theorem dX0_differ_2 : decode cX0_differ 2 = .ok (.invokevirtual 152, 3) := dk_182 0 152 (dk_at dksX0_differ_0 2 rfl rfl)
theorem dX0_differ_5 : decode cX0_differ 5 = .ok (.pop, 1) := dk_87 (dk_at dksX0_differ_0 5 rfl rfl)
theorem dX0_differ_6 : decode cX0_differ 6 = .ok (.aload_n 0, 1) := dk_42 (dk_at dksX0_differ_0 6 rfl rfl)
theorem dX0_differ_7 : decode cX0_differ 7 = .ok (.iload_n 2, 1) := dk_28 (dk_at dksX0_differ_0 7 rfl rfl)
theorem dX0_differ_8 : decode cX0_differ 8 = .ok (.invokevirtual 152, 3) := dk_182 0 152 (dk_at dksX0_differ_0 8 rfl rfl)
theorem dX0_differ_11 : decode cX0_differ 11 = .ok (.pop, 1) := dk_87 (dk_at dksX0_differ_0 11 rfl rfl)
theorem dX0_differ_12 : decode cX0_differ 12 = .ok (.aload_n 0, 1) := dk_42 (dk_at dksX0_differ_0 12 rfl rfl)
theorem dX0_differ_13 : decode cX0_differ 13 = .ok (.iload_n 1, 1) := dk_27 (dk_at dksX0_differ_0 13 rfl rfl)
theorem dX0_differ_14 : decode cX0_differ 14 = .ok (.invokevirtual 255, 3) := dk_182 0 255 (dk_at dksX0_differ_0 14 rfl rfl)
theorem dX0_differ_17 : decode cX0_differ 17 = .ok (.astore 4, 2) := dk_58 4 (dk_at dksX0_differ_0 17 rfl rfl)
theorem dX0_differ_19 : decode cX0_differ 19 = .ok (.aload_n 0, 1) := dk_42 (dk_at dksX0_differ_0 19 rfl rfl)
theorem dX0_differ_20 : decode cX0_differ 20 = .ok (.iload_n 2, 1) := dk_28 (dk_at dksX0_differ_0 20 rfl rfl)
theorem dX0_differ_21 : decode cX0_differ 21 = .ok (.invokevirtual 255, 3) := dk_182 0 255 (dk_at dksX0_differ_0 21 rfl rfl)
theorem dX0_differ_24 : decode cX0_differ 24 = .ok (.astore 5, 2) := dk_58 5 (dk_at dksX0_differ_1 0 rfl rfl)
theorem dX0_differ_26 : decode cX0_differ 26 = .ok (.aload_n 0, 1) := dk_42 (dk_at dksX0_differ_1 2 rfl rfl)
theorem dX0_differ_27 : decode cX0_differ 27 = .ok (.iload_n 3, 1) := dk_29 (dk_at dksX0_differ_1 3 rfl rfl)
theorem dX0_differ_28 : decode cX0_differ 28 = .ok (.iconst 0, 1) := dk_3 (dk_at dksX0_differ_1 4 rfl rfl)
theorem dX0_differ_29 : decode cX0_differ 29 = .ok (.ldc 3, 2) := dk_18 3 (dk_at dksX0_differ_1 5 rfl rfl)
theorem dX0_differ_31 : decode cX0_differ 31 = .ok (.invokestatic 4, 3) := dk_184 0 4 (dk_at dksX0_differ_1 7 rfl rfl)
theorem dX0_differ_34 : decode cX0_differ 34 = .ok (.iconst (-1), 1) := dk_2 (dk_at dksX0_differ_1 10 rfl rfl)
theorem dX0_differ_35 : decode cX0_differ 35 = .ok (.invokevirtual 184, 3) := dk_182 0 184 (dk_at dksX0_differ_1 11 rfl rfl)
theorem dX0_differ_38 : decode cX0_differ 38 = .ok (.iload_n 3, 1) := dk_29 (dk_at dksX0_differ_1 14 rfl rfl)
theorem dX0_differ_39 : decode cX0_differ 39 = .ok (.istore 6, 2) := dk_54 6 (dk_at dksX0_differ_1 15 rfl rfl)
theorem dX0_differ_41 : decode cX0_differ 41 = .ok (.iload 6, 2) := dk_21 6 (dk_at dksX0_differ_1 17 rfl rfl)
theorem dX0_differ_43 : decode cX0_differ 43 = .ok (.iload_n 3, 1) := dk_29 (dk_at dksX0_differ_1 19 rfl rfl)
theorem dX0_differ_44 : decode cX0_differ 44 = .ok (.sipush 4096, 3) := dk_17 16 0 (dk_at dksX0_differ_1 20 rfl rfl)
theorem dX0_differ_47 : decode cX0_differ 47 = .ok (.iadd, 1) := dk_96 (dk_at dksX0_differ_1 23 rfl rfl)
theorem dX0_differ_48 : decode cX0_differ 48 = .ok (.if_icmp .ge 68, 3) := dk_162 0 68 (dk_at dksX0_differ_2 0 rfl rfl)
theorem dX0_differ_51 : decode cX0_differ 51 = .ok (.iload 6, 2) := dk_21 6 (dk_at dksX0_differ_2 3 rfl rfl)
theorem dX0_differ_53 : decode cX0_differ 53 = .ok (.ldc 3, 2) := dk_18 3 (dk_at dksX0_differ_2 5 rfl rfl)
theorem dX0_differ_55 : decode cX0_differ 55 = .ok (.if_icmp .gt 61, 3) := dk_163 0 61 (dk_at dksX0_differ_2 7 rfl rfl)
theorem dX0_differ_58 : decode cX0_differ 58 = .ok (.iload 6, 2) := dk_21 6 (dk_at dksX0_differ_2 10 rfl rfl)
theorem dX0_differ_60 : decode cX0_differ 60 = .ok (.invokestatic 195, 3) := dk_184 0 195 (dk_at dksX0_differ_2 12 rfl rfl)
theorem dX0_differ_63 : decode cX0_differ 63 = .ok (.ifCond .eq 47, 3) := dk_153 0 47 (dk_at dksX0_differ_2 15 rfl rfl)
theorem dX0_differ_66 : decode cX0_differ 66 = .ok (.aload_n 0, 1) := dk_42 (dk_at dksX0_differ_2 18 rfl rfl)
theorem dX0_differ_67 : decode cX0_differ 67 = .ok (.aload 4, 2) := dk_25 4 (dk_at dksX0_differ_2 19 rfl rfl)
theorem dX0_differ_69 : decode cX0_differ 69 = .ok (.iload 6, 2) := dk_21 6 (dk_at dksX0_differ_2 21 rfl rfl)
theorem dX0_differ_71 : decode cX0_differ 71 = .ok (.aload_n 0, 1) := dk_42 (dk_at dksX0_differ_2 23 rfl rfl)
theorem dX0_differ_72 : decode cX0_differ 72 = .ok (.getfield 115, 3) := dk_180 0 115 (dk_at dksX0_differ_3 0 rfl rfl)
theorem dX0_differ_75 : decode cX0_differ 75 = .ok (.invokevirtual 374, 3) := dk_182 1 118 (dk_at dksX0_differ_3 3 rfl rfl)
theorem dX0_differ_78 : decode cX0_differ 78 = .ok (.aload_n 0, 1) := dk_42 (dk_at dksX0_differ_3 6 rfl rfl)
theorem dX0_differ_79 : decode cX0_differ 79 = .ok (.aload 5, 2) := dk_25 5 (dk_at dksX0_differ_3 7 rfl rfl)
theorem dX0_differ_81 : decode cX0_differ 81 = .ok (.iload 6, 2) := dk_21 6 (dk_at dksX0_differ_3 9 rfl rfl)
theorem dX0_differ_83 : decode cX0_differ 83 = .ok (.aload_n 0, 1) := dk_42 (dk_at dksX0_differ_3 11 rfl rfl)
theorem dX0_differ_84 : decode cX0_differ 84 = .ok (.getfield 118, 3) := dk_180 0 118 (dk_at dksX0_differ_3 12 rfl rfl)
theorem dX0_differ_87 : decode cX0_differ 87 = .ok (.invokevirtual 374, 3) := dk_182 1 118 (dk_at dksX0_differ_3 15 rfl rfl)
theorem dX0_differ_90 : decode cX0_differ 90 = .ok (.if_icmp .ne 17, 3) := dk_160 0 17 (dk_at dksX0_differ_3 18 rfl rfl)
theorem dX0_differ_93 : decode cX0_differ 93 = .ok (.aload_n 0, 1) := dk_42 (dk_at dksX0_differ_3 21 rfl rfl)
theorem dX0_differ_94 : decode cX0_differ 94 = .ok (.getfield 115, 3) := dk_180 0 115 (dk_at dksX0_differ_4 0 rfl rfl)
theorem dX0_differ_97 : decode cX0_differ 97 = .ok (.aload_n 0, 1) := dk_42 (dk_at dksX0_differ_4 3 rfl rfl)
theorem dX0_differ_98 : decode cX0_differ 98 = .ok (.getfield 118, 3) := dk_180 0 118 (dk_at dksX0_differ_4 4 rfl rfl)
theorem dX0_differ_101 : decode cX0_differ 101 = .ok (.invokestatic 378, 3) := dk_184 1 122 (dk_at dksX0_differ_4 7 rfl rfl)
theorem dX0_differ_104 : decode cX0_differ 104 = .ok (.ifCond .ne 6, 3) := dk_154 0 6 (dk_at dksX0_differ_4 10 rfl rfl)
theorem dX0_differ_107 : decode cX0_differ 107 = .ok (.iload 6, 2) := dk_21 6 (dk_at dksX0_differ_4 13 rfl rfl)
theorem dX0_differ_109 : decode cX0_differ 109 = .ok (.ireturn, 1) := dk_172 (dk_at dksX0_differ_4 15 rfl rfl)
theorem dX0_differ_110 : decode cX0_differ 110 = .ok (.iinc 6 1, 3) := dk_132 6 1 (dk_at dksX0_differ_4 16 rfl rfl)
theorem dX0_differ_113 : decode cX0_differ 113 = .ok (.goto (-72), 3) := dk_167 255 184 (dk_at dksX0_differ_4 19 rfl rfl)
theorem dX0_differ_116 : decode cX0_differ 116 = .ok (.aload_n 0, 1) := dk_42 (dk_at dksX0_differ_4 22 rfl rfl)
theorem dX0_differ_117 : decode cX0_differ 117 = .ok (.bipush (-2), 2) := dk_16 254 (dk_at dksX0_differ_5 0 rfl rfl)
theorem dX0_differ_119 : decode cX0_differ 119 = .ok (.invokevirtual 140, 3) := dk_182 0 140 (dk_at dksX0_differ_5 2 rfl rfl)
theorem dX0_differ_122 : decode cX0_differ 122 = .ok (.athrow, 1) := dk_191 (dk_at dksX0_differ_5 5 rfl rfl)
theorem dX0_differ_123 : decode cX0_differ 123 = .ok (.astore 4, 2) := dk_58 4 (dk_at dksX0_differ_5 6 rfl rfl)
theorem dX0_differ_125 : decode cX0_differ 125 = .ok (.aload_n 0, 1) := dk_42 (dk_at dksX0_differ_5 8 rfl rfl)
theorem dX0_differ_126 : decode cX0_differ 126 = .ok (.aload 4, 2) := dk_25 4 (dk_at dksX0_differ_5 9 rfl rfl)
theorem dX0_differ_128 : decode cX0_differ 128 = .ok (.getfield 17, 3) := dk_180 0 17 (dk_at dksX0_differ_5 11 rfl rfl)
theorem dX0_differ_131 : decode cX0_differ 131 = .ok (.invokevirtual 163, 3) := dk_182 0 163 (dk_at dksX0_differ_5 14 rfl rfl)
theorem dX0_differ_134 : decode cX0_differ 134 = .ok (.ireturn, 1) := dk_172 (dk_at dksX0_differ_5 17 rfl rfl)
abbrev cX0_isWritten : ByteArray := prog_1_method_49_code
def yX0_isWritten : MethodName := ⟨RX0, "isWritten", "(LCodeExchange$Page;ILCodeExchange$Row;)Z"⟩
def dkwX0_isWritten_3 : List UInt8 := [28, 18, 12, 162, 0, 7, 4, 167, 0, 4, 5, 45, 182, 1, 46, 4, 172]
abbrev dktX0_isWritten_3 : List UInt8 := dkwX0_isWritten_3 ++ []
def dkwX0_isWritten_2 : List UInt8 := [4, 18, 11, 28, 18, 12, 100, 17, 3, 255, 126, 96, 79, 42, 42, 180, 0, 95, 43, 3, 42, 180, 0, 121]
abbrev dktX0_isWritten_2 : List UInt8 := dkwX0_isWritten_2 ++ dktX0_isWritten_3
def dkwX0_isWritten_1 : List UInt8 := [18, 12, 162, 0, 7, 28, 167, 0, 13, 18, 8, 28, 18, 12, 100, 16, 10, 122, 96, 79, 42, 180, 0, 121]
abbrev dktX0_isWritten_1 : List UInt8 := dkwX0_isWritten_1 ++ dktX0_isWritten_2
def dkwX0_isWritten_0 : List UInt8 := [45, 3, 182, 1, 43, 43, 28, 182, 1, 2, 9, 148, 156, 0, 5, 3, 172, 42, 180, 0, 121, 3, 28]
abbrev dktX0_isWritten_0 : List UInt8 := dkwX0_isWritten_0 ++ dktX0_isWritten_1
theorem dksX0_isWritten_0 : cX0_isWritten.data.toList.drop 0 = dktX0_isWritten_0 := by decide +kernel
theorem dksX0_isWritten_1 : cX0_isWritten.data.toList.drop 23 = dktX0_isWritten_1 := dk_seg dksX0_isWritten_0 23 rfl rfl
theorem dksX0_isWritten_2 : cX0_isWritten.data.toList.drop 47 = dktX0_isWritten_2 := dk_seg dksX0_isWritten_1 24 rfl rfl
theorem dksX0_isWritten_3 : cX0_isWritten.data.toList.drop 71 = dktX0_isWritten_3 := dk_seg dksX0_isWritten_2 24 rfl rfl
theorem dX0_isWritten_0 : decode cX0_isWritten 0 = .ok (.aload_n 3, 1) := dk_45 (dk_at dksX0_isWritten_0 0 rfl rfl)
theorem dX0_isWritten_1 : decode cX0_isWritten 1 = .ok (.iconst 0, 1) := dk_3 (dk_at dksX0_isWritten_0 1 rfl rfl)
theorem dX0_isWritten_2 : decode cX0_isWritten 2 = .ok (.invokevirtual 299, 3) := dk_182 1 43 (dk_at dksX0_isWritten_0 2 rfl rfl)
theorem dX0_isWritten_5 : decode cX0_isWritten 5 = .ok (.aload_n 1, 1) := dk_43 (dk_at dksX0_isWritten_0 5 rfl rfl)
theorem dX0_isWritten_6 : decode cX0_isWritten 6 = .ok (.iload_n 2, 1) := dk_28 (dk_at dksX0_isWritten_0 6 rfl rfl)
theorem dX0_isWritten_7 : decode cX0_isWritten 7 = .ok (.invokevirtual 258, 3) := dk_182 1 2 (dk_at dksX0_isWritten_0 7 rfl rfl)
theorem dX0_isWritten_10 : decode cX0_isWritten 10 = .ok (.lconst 0, 1) := dk_9 (dk_at dksX0_isWritten_0 10 rfl rfl)
theorem dX0_isWritten_11 : decode cX0_isWritten 11 = .ok (.lcmp, 1) := dk_148 (dk_at dksX0_isWritten_0 11 rfl rfl)
theorem dX0_isWritten_12 : decode cX0_isWritten 12 = .ok (.ifCond .ge 5, 3) := dk_156 0 5 (dk_at dksX0_isWritten_0 12 rfl rfl)
theorem dX0_isWritten_15 : decode cX0_isWritten 15 = .ok (.iconst 0, 1) := dk_3 (dk_at dksX0_isWritten_0 15 rfl rfl)
theorem dX0_isWritten_16 : decode cX0_isWritten 16 = .ok (.ireturn, 1) := dk_172 (dk_at dksX0_isWritten_0 16 rfl rfl)
theorem dX0_isWritten_17 : decode cX0_isWritten 17 = .ok (.aload_n 0, 1) := dk_42 (dk_at dksX0_isWritten_0 17 rfl rfl)
theorem dX0_isWritten_18 : decode cX0_isWritten 18 = .ok (.getfield 121, 3) := dk_180 0 121 (dk_at dksX0_isWritten_0 18 rfl rfl)
theorem dX0_isWritten_21 : decode cX0_isWritten 21 = .ok (.iconst 0, 1) := dk_3 (dk_at dksX0_isWritten_0 21 rfl rfl)
theorem dX0_isWritten_22 : decode cX0_isWritten 22 = .ok (.iload_n 2, 1) := dk_28 (dk_at dksX0_isWritten_0 22 rfl rfl)
theorem dX0_isWritten_23 : decode cX0_isWritten 23 = .ok (.ldc 12, 2) := dk_18 12 (dk_at dksX0_isWritten_1 0 rfl rfl)
theorem dX0_isWritten_25 : decode cX0_isWritten 25 = .ok (.if_icmp .ge 7, 3) := dk_162 0 7 (dk_at dksX0_isWritten_1 2 rfl rfl)
theorem dX0_isWritten_28 : decode cX0_isWritten 28 = .ok (.iload_n 2, 1) := dk_28 (dk_at dksX0_isWritten_1 5 rfl rfl)
theorem dX0_isWritten_29 : decode cX0_isWritten 29 = .ok (.goto 13, 3) := dk_167 0 13 (dk_at dksX0_isWritten_1 6 rfl rfl)
theorem dX0_isWritten_32 : decode cX0_isWritten 32 = .ok (.ldc 8, 2) := dk_18 8 (dk_at dksX0_isWritten_1 9 rfl rfl)
theorem dX0_isWritten_34 : decode cX0_isWritten 34 = .ok (.iload_n 2, 1) := dk_28 (dk_at dksX0_isWritten_1 11 rfl rfl)
theorem dX0_isWritten_35 : decode cX0_isWritten 35 = .ok (.ldc 12, 2) := dk_18 12 (dk_at dksX0_isWritten_1 12 rfl rfl)
theorem dX0_isWritten_37 : decode cX0_isWritten 37 = .ok (.isub, 1) := dk_100 (dk_at dksX0_isWritten_1 14 rfl rfl)
theorem dX0_isWritten_38 : decode cX0_isWritten 38 = .ok (.bipush 10, 2) := dk_16 10 (dk_at dksX0_isWritten_1 15 rfl rfl)
theorem dX0_isWritten_40 : decode cX0_isWritten 40 = .ok (.ishr, 1) := dk_122 (dk_at dksX0_isWritten_1 17 rfl rfl)
theorem dX0_isWritten_41 : decode cX0_isWritten 41 = .ok (.iadd, 1) := dk_96 (dk_at dksX0_isWritten_1 18 rfl rfl)
theorem dX0_isWritten_42 : decode cX0_isWritten 42 = .ok (.iastore, 1) := dk_79 (dk_at dksX0_isWritten_1 19 rfl rfl)
theorem dX0_isWritten_43 : decode cX0_isWritten 43 = .ok (.aload_n 0, 1) := dk_42 (dk_at dksX0_isWritten_1 20 rfl rfl)
theorem dX0_isWritten_44 : decode cX0_isWritten 44 = .ok (.getfield 121, 3) := dk_180 0 121 (dk_at dksX0_isWritten_1 21 rfl rfl)
theorem dX0_isWritten_47 : decode cX0_isWritten 47 = .ok (.iconst 1, 1) := dk_4 (dk_at dksX0_isWritten_2 0 rfl rfl)
theorem dX0_isWritten_48 : decode cX0_isWritten 48 = .ok (.ldc 11, 2) := dk_18 11 (dk_at dksX0_isWritten_2 1 rfl rfl)
theorem dX0_isWritten_50 : decode cX0_isWritten 50 = .ok (.iload_n 2, 1) := dk_28 (dk_at dksX0_isWritten_2 3 rfl rfl)
theorem dX0_isWritten_51 : decode cX0_isWritten 51 = .ok (.ldc 12, 2) := dk_18 12 (dk_at dksX0_isWritten_2 4 rfl rfl)
theorem dX0_isWritten_53 : decode cX0_isWritten 53 = .ok (.isub, 1) := dk_100 (dk_at dksX0_isWritten_2 6 rfl rfl)
theorem dX0_isWritten_54 : decode cX0_isWritten 54 = .ok (.sipush 1023, 3) := dk_17 3 255 (dk_at dksX0_isWritten_2 7 rfl rfl)
theorem dX0_isWritten_57 : decode cX0_isWritten 57 = .ok (.iand, 1) := dk_126 (dk_at dksX0_isWritten_2 10 rfl rfl)
theorem dX0_isWritten_58 : decode cX0_isWritten 58 = .ok (.iadd, 1) := dk_96 (dk_at dksX0_isWritten_2 11 rfl rfl)
theorem dX0_isWritten_59 : decode cX0_isWritten 59 = .ok (.iastore, 1) := dk_79 (dk_at dksX0_isWritten_2 12 rfl rfl)
theorem dX0_isWritten_60 : decode cX0_isWritten 60 = .ok (.aload_n 0, 1) := dk_42 (dk_at dksX0_isWritten_2 13 rfl rfl)
theorem dX0_isWritten_61 : decode cX0_isWritten 61 = .ok (.aload_n 0, 1) := dk_42 (dk_at dksX0_isWritten_2 14 rfl rfl)
theorem dX0_isWritten_62 : decode cX0_isWritten 62 = .ok (.getfield 95, 3) := dk_180 0 95 (dk_at dksX0_isWritten_2 15 rfl rfl)
theorem dX0_isWritten_65 : decode cX0_isWritten 65 = .ok (.aload_n 1, 1) := dk_43 (dk_at dksX0_isWritten_2 18 rfl rfl)
theorem dX0_isWritten_66 : decode cX0_isWritten 66 = .ok (.iconst 0, 1) := dk_3 (dk_at dksX0_isWritten_2 19 rfl rfl)
theorem dX0_isWritten_67 : decode cX0_isWritten 67 = .ok (.aload_n 0, 1) := dk_42 (dk_at dksX0_isWritten_2 20 rfl rfl)
theorem dX0_isWritten_68 : decode cX0_isWritten 68 = .ok (.getfield 121, 3) := dk_180 0 121 (dk_at dksX0_isWritten_2 21 rfl rfl)
theorem dX0_isWritten_71 : decode cX0_isWritten 71 = .ok (.iload_n 2, 1) := dk_28 (dk_at dksX0_isWritten_3 0 rfl rfl)
theorem dX0_isWritten_72 : decode cX0_isWritten 72 = .ok (.ldc 12, 2) := dk_18 12 (dk_at dksX0_isWritten_3 1 rfl rfl)
theorem dX0_isWritten_74 : decode cX0_isWritten 74 = .ok (.if_icmp .ge 7, 3) := dk_162 0 7 (dk_at dksX0_isWritten_3 3 rfl rfl)
theorem dX0_isWritten_77 : decode cX0_isWritten 77 = .ok (.iconst 1, 1) := dk_4 (dk_at dksX0_isWritten_3 6 rfl rfl)
theorem dX0_isWritten_78 : decode cX0_isWritten 78 = .ok (.goto 4, 3) := dk_167 0 4 (dk_at dksX0_isWritten_3 7 rfl rfl)
theorem dX0_isWritten_81 : decode cX0_isWritten 81 = .ok (.iconst 2, 1) := dk_5 (dk_at dksX0_isWritten_3 10 rfl rfl)
theorem dX0_isWritten_82 : decode cX0_isWritten 82 = .ok (.aload_n 3, 1) := dk_45 (dk_at dksX0_isWritten_3 11 rfl rfl)
theorem dX0_isWritten_83 : decode cX0_isWritten 83 = .ok (.invokevirtual 302, 3) := dk_182 1 46 (dk_at dksX0_isWritten_3 12 rfl rfl)
theorem dX0_isWritten_86 : decode cX0_isWritten 86 = .ok (.iconst 1, 1) := dk_4 (dk_at dksX0_isWritten_3 15 rfl rfl)
theorem dX0_isWritten_87 : decode cX0_isWritten 87 = .ok (.ireturn, 1) := dk_172 (dk_at dksX0_isWritten_3 16 rfl rfl)
abbrev cX0_areAlike : ByteArray := prog_1_method_50_code
def yX0_areAlike : MethodName := ⟨RX0, "areAlike", "(LCodeExchange$Row;LCodeExchange$Row;)Z"⟩
def dkwX0_areAlike_2 : List UInt8 := [167, 0, 4, 3, 61, 132, 3, 1, 167, 255, 220, 28, 172]
abbrev dktX0_areAlike_2 : List UInt8 := dkwX0_areAlike_2 ++ []
def dkwX0_areAlike_1 : List UInt8 := [162, 0, 34, 28, 153, 0, 30, 42, 180, 1, 22, 29, 46, 43, 180, 1, 22, 29, 46, 160, 0, 7, 4]
abbrev dktX0_areAlike_1 : List UInt8 := dkwX0_areAlike_1 ++ dktX0_areAlike_2
def dkwX0_areAlike_0 : List UInt8 := [42, 180, 1, 19, 43, 180, 1, 19, 160, 0, 7, 4, 167, 0, 4, 3, 61, 3, 62, 29, 42, 180, 1, 19]
abbrev dktX0_areAlike_0 : List UInt8 := dkwX0_areAlike_0 ++ dktX0_areAlike_1
theorem dksX0_areAlike_0 : cX0_areAlike.data.toList.drop 0 = dktX0_areAlike_0 := by decide +kernel
theorem dksX0_areAlike_1 : cX0_areAlike.data.toList.drop 24 = dktX0_areAlike_1 := dk_seg dksX0_areAlike_0 24 rfl rfl
theorem dksX0_areAlike_2 : cX0_areAlike.data.toList.drop 47 = dktX0_areAlike_2 := dk_seg dksX0_areAlike_1 23 rfl rfl
theorem dX0_areAlike_0 : decode cX0_areAlike 0 = .ok (.aload_n 0, 1) := dk_42 (dk_at dksX0_areAlike_0 0 rfl rfl)
theorem dX0_areAlike_1 : decode cX0_areAlike 1 = .ok (.getfield 275, 3) := dk_180 1 19 (dk_at dksX0_areAlike_0 1 rfl rfl)
theorem dX0_areAlike_4 : decode cX0_areAlike 4 = .ok (.aload_n 1, 1) := dk_43 (dk_at dksX0_areAlike_0 4 rfl rfl)
theorem dX0_areAlike_5 : decode cX0_areAlike 5 = .ok (.getfield 275, 3) := dk_180 1 19 (dk_at dksX0_areAlike_0 5 rfl rfl)
theorem dX0_areAlike_8 : decode cX0_areAlike 8 = .ok (.if_icmp .ne 7, 3) := dk_160 0 7 (dk_at dksX0_areAlike_0 8 rfl rfl)
theorem dX0_areAlike_11 : decode cX0_areAlike 11 = .ok (.iconst 1, 1) := dk_4 (dk_at dksX0_areAlike_0 11 rfl rfl)
theorem dX0_areAlike_12 : decode cX0_areAlike 12 = .ok (.goto 4, 3) := dk_167 0 4 (dk_at dksX0_areAlike_0 12 rfl rfl)
theorem dX0_areAlike_15 : decode cX0_areAlike 15 = .ok (.iconst 0, 1) := dk_3 (dk_at dksX0_areAlike_0 15 rfl rfl)
theorem dX0_areAlike_16 : decode cX0_areAlike 16 = .ok (.istore_n 2, 1) := dk_61 (dk_at dksX0_areAlike_0 16 rfl rfl)
theorem dX0_areAlike_17 : decode cX0_areAlike 17 = .ok (.iconst 0, 1) := dk_3 (dk_at dksX0_areAlike_0 17 rfl rfl)
theorem dX0_areAlike_18 : decode cX0_areAlike 18 = .ok (.istore_n 3, 1) := dk_62 (dk_at dksX0_areAlike_0 18 rfl rfl)
theorem dX0_areAlike_19 : decode cX0_areAlike 19 = .ok (.iload_n 3, 1) := dk_29 (dk_at dksX0_areAlike_0 19 rfl rfl)
theorem dX0_areAlike_20 : decode cX0_areAlike 20 = .ok (.aload_n 0, 1) := dk_42 (dk_at dksX0_areAlike_0 20 rfl rfl)
theorem dX0_areAlike_21 : decode cX0_areAlike 21 = .ok (.getfield 275, 3) := dk_180 1 19 (dk_at dksX0_areAlike_0 21 rfl rfl)
theorem dX0_areAlike_24 : decode cX0_areAlike 24 = .ok (.if_icmp .ge 34, 3) := dk_162 0 34 (dk_at dksX0_areAlike_1 0 rfl rfl)
theorem dX0_areAlike_27 : decode cX0_areAlike 27 = .ok (.iload_n 2, 1) := dk_28 (dk_at dksX0_areAlike_1 3 rfl rfl)
theorem dX0_areAlike_28 : decode cX0_areAlike 28 = .ok (.ifCond .eq 30, 3) := dk_153 0 30 (dk_at dksX0_areAlike_1 4 rfl rfl)
theorem dX0_areAlike_31 : decode cX0_areAlike 31 = .ok (.aload_n 0, 1) := dk_42 (dk_at dksX0_areAlike_1 7 rfl rfl)
theorem dX0_areAlike_32 : decode cX0_areAlike 32 = .ok (.getfield 278, 3) := dk_180 1 22 (dk_at dksX0_areAlike_1 8 rfl rfl)
theorem dX0_areAlike_35 : decode cX0_areAlike 35 = .ok (.iload_n 3, 1) := dk_29 (dk_at dksX0_areAlike_1 11 rfl rfl)
theorem dX0_areAlike_36 : decode cX0_areAlike 36 = .ok (.iaload, 1) := dk_46 (dk_at dksX0_areAlike_1 12 rfl rfl)
theorem dX0_areAlike_37 : decode cX0_areAlike 37 = .ok (.aload_n 1, 1) := dk_43 (dk_at dksX0_areAlike_1 13 rfl rfl)
theorem dX0_areAlike_38 : decode cX0_areAlike 38 = .ok (.getfield 278, 3) := dk_180 1 22 (dk_at dksX0_areAlike_1 14 rfl rfl)
theorem dX0_areAlike_41 : decode cX0_areAlike 41 = .ok (.iload_n 3, 1) := dk_29 (dk_at dksX0_areAlike_1 17 rfl rfl)
theorem dX0_areAlike_42 : decode cX0_areAlike 42 = .ok (.iaload, 1) := dk_46 (dk_at dksX0_areAlike_1 18 rfl rfl)
theorem dX0_areAlike_43 : decode cX0_areAlike 43 = .ok (.if_icmp .ne 7, 3) := dk_160 0 7 (dk_at dksX0_areAlike_1 19 rfl rfl)
theorem dX0_areAlike_46 : decode cX0_areAlike 46 = .ok (.iconst 1, 1) := dk_4 (dk_at dksX0_areAlike_1 22 rfl rfl)
theorem dX0_areAlike_47 : decode cX0_areAlike 47 = .ok (.goto 4, 3) := dk_167 0 4 (dk_at dksX0_areAlike_2 0 rfl rfl)
theorem dX0_areAlike_50 : decode cX0_areAlike 50 = .ok (.iconst 0, 1) := dk_3 (dk_at dksX0_areAlike_2 3 rfl rfl)
theorem dX0_areAlike_51 : decode cX0_areAlike 51 = .ok (.istore_n 2, 1) := dk_61 (dk_at dksX0_areAlike_2 4 rfl rfl)
theorem dX0_areAlike_52 : decode cX0_areAlike 52 = .ok (.iinc 3 1, 3) := dk_132 3 1 (dk_at dksX0_areAlike_2 5 rfl rfl)
theorem dX0_areAlike_55 : decode cX0_areAlike 55 = .ok (.goto (-36), 3) := dk_167 255 220 (dk_at dksX0_areAlike_2 8 rfl rfl)
theorem dX0_areAlike_58 : decode cX0_areAlike 58 = .ok (.iload_n 2, 1) := dk_28 (dk_at dksX0_areAlike_2 11 rfl rfl)
theorem dX0_areAlike_59 : decode cX0_areAlike 59 = .ok (.ireturn, 1) := dk_172 (dk_at dksX0_areAlike_2 12 rfl rfl)
abbrev cX0_misread : ByteArray := prog_1_method_52_code
def yX0_misread : MethodName := ⟨RX0, "misread", "(II)I"⟩
def dkwX0_misread_8 : List UInt8 := [21, 6, 172, 78, 42, 45, 180, 0, 17, 182, 0, 163, 172]
abbrev dktX0_misread_8 : List UInt8 := dkwX0_misread_8 ++ []
def dkwX0_misread_7 : List UInt8 := [180, 1, 22, 21, 7, 46, 159, 0, 7, 4, 167, 0, 4, 3, 96, 54, 6, 132, 7, 1, 167, 255, 189]
abbrev dktX0_misread_7 : List UInt8 := dkwX0_misread_7 ++ dktX0_misread_8
def dkwX0_misread_6 : List UInt8 := [180, 0, 118, 180, 1, 19, 162, 0, 26, 42, 180, 0, 115, 180, 1, 22, 21, 7, 46, 42, 180, 0, 118]
abbrev dktX0_misread_6 : List UInt8 := dkwX0_misread_6 ++ dktX0_misread_7
def dkwX0_misread_5 : List UInt8 := [21, 5, 162, 0, 66, 21, 6, 21, 7, 42, 180, 0, 115, 180, 1, 19, 162, 0, 38, 21, 7, 42]
abbrev dktX0_misread_5 : List UInt8 := dkwX0_misread_5 ++ dktX0_misread_6
def dkwX0_misread_4 : List UInt8 := [180, 1, 19, 42, 180, 0, 118, 180, 1, 19, 184, 1, 126, 54, 5, 3, 54, 6, 3, 54, 7, 21, 7]
abbrev dktX0_misread_4 : List UInt8 := dkwX0_misread_4 ++ dktX0_misread_5
def dkwX0_misread_3 : List UInt8 := [25, 4, 6, 42, 180, 0, 49, 42, 180, 1, 6, 42, 180, 0, 118, 182, 1, 46, 42, 180, 0, 115]
abbrev dktX0_misread_3 : List UInt8 := dkwX0_misread_3 ++ dktX0_misread_4
def dkwX0_misread_2 : List UInt8 := [180, 1, 6, 42, 180, 0, 115, 182, 1, 46, 42, 180, 0, 118, 3, 182, 1, 43, 42, 42, 180, 0, 90]
abbrev dktX0_misread_2 : List UInt8 := dkwX0_misread_2 ++ dktX0_misread_3
def dkwX0_misread_1 : List UInt8 := [58, 4, 42, 180, 0, 115, 3, 182, 1, 43, 42, 42, 180, 0, 90, 45, 6, 42, 180, 0, 49, 42]
abbrev dktX0_misread_1 : List UInt8 := dkwX0_misread_1 ++ dktX0_misread_2
def dkwX0_misread_0 : List UInt8 := [42, 27, 182, 0, 152, 87, 42, 28, 182, 0, 152, 87, 42, 27, 182, 0, 255, 78, 42, 28, 182, 0, 255]
abbrev dktX0_misread_0 : List UInt8 := dkwX0_misread_0 ++ dktX0_misread_1
theorem dksX0_misread_0 : cX0_misread.data.toList.drop 0 = dktX0_misread_0 := by decide +kernel
theorem dksX0_misread_1 : cX0_misread.data.toList.drop 23 = dktX0_misread_1 := dk_seg dksX0_misread_0 23 rfl rfl
theorem dksX0_misread_2 : cX0_misread.data.toList.drop 45 = dktX0_misread_2 := dk_seg dksX0_misread_1 22 rfl rfl
theorem dksX0_misread_3 : cX0_misread.data.toList.drop 68 = dktX0_misread_3 := dk_seg dksX0_misread_2 23 rfl rfl
theorem dksX0_misread_4 : cX0_misread.data.toList.drop 90 = dktX0_misread_4 := dk_seg dksX0_misread_3 22 rfl rfl
theorem dksX0_misread_5 : cX0_misread.data.toList.drop 113 = dktX0_misread_5 := dk_seg dksX0_misread_4 23 rfl rfl
theorem dksX0_misread_6 : cX0_misread.data.toList.drop 135 = dktX0_misread_6 := dk_seg dksX0_misread_5 22 rfl rfl
theorem dksX0_misread_7 : cX0_misread.data.toList.drop 158 = dktX0_misread_7 := dk_seg dksX0_misread_6 23 rfl rfl
theorem dksX0_misread_8 : cX0_misread.data.toList.drop 181 = dktX0_misread_8 := dk_seg dksX0_misread_7 23 rfl rfl
theorem dX0_misread_0 : decode cX0_misread 0 = .ok (.aload_n 0, 1) := dk_42 (dk_at dksX0_misread_0 0 rfl rfl)
theorem dX0_misread_1 : decode cX0_misread 1 = .ok (.iload_n 1, 1) := dk_27 (dk_at dksX0_misread_0 1 rfl rfl)
theorem dX0_misread_2 : decode cX0_misread 2 = .ok (.invokevirtual 152, 3) := dk_182 0 152 (dk_at dksX0_misread_0 2 rfl rfl)
theorem dX0_misread_5 : decode cX0_misread 5 = .ok (.pop, 1) := dk_87 (dk_at dksX0_misread_0 5 rfl rfl)
theorem dX0_misread_6 : decode cX0_misread 6 = .ok (.aload_n 0, 1) := dk_42 (dk_at dksX0_misread_0 6 rfl rfl)
theorem dX0_misread_7 : decode cX0_misread 7 = .ok (.iload_n 2, 1) := dk_28 (dk_at dksX0_misread_0 7 rfl rfl)
theorem dX0_misread_8 : decode cX0_misread 8 = .ok (.invokevirtual 152, 3) := dk_182 0 152 (dk_at dksX0_misread_0 8 rfl rfl)
theorem dX0_misread_11 : decode cX0_misread 11 = .ok (.pop, 1) := dk_87 (dk_at dksX0_misread_0 11 rfl rfl)
theorem dX0_misread_12 : decode cX0_misread 12 = .ok (.aload_n 0, 1) := dk_42 (dk_at dksX0_misread_0 12 rfl rfl)
theorem dX0_misread_13 : decode cX0_misread 13 = .ok (.iload_n 1, 1) := dk_27 (dk_at dksX0_misread_0 13 rfl rfl)
theorem dX0_misread_14 : decode cX0_misread 14 = .ok (.invokevirtual 255, 3) := dk_182 0 255 (dk_at dksX0_misread_0 14 rfl rfl)
theorem dX0_misread_17 : decode cX0_misread 17 = .ok (.astore_n 3, 1) := dk_78 (dk_at dksX0_misread_0 17 rfl rfl)
theorem dX0_misread_18 : decode cX0_misread 18 = .ok (.aload_n 0, 1) := dk_42 (dk_at dksX0_misread_0 18 rfl rfl)
theorem dX0_misread_19 : decode cX0_misread 19 = .ok (.iload_n 2, 1) := dk_28 (dk_at dksX0_misread_0 19 rfl rfl)
theorem dX0_misread_20 : decode cX0_misread 20 = .ok (.invokevirtual 255, 3) := dk_182 0 255 (dk_at dksX0_misread_0 20 rfl rfl)
theorem dX0_misread_23 : decode cX0_misread 23 = .ok (.astore 4, 2) := dk_58 4 (dk_at dksX0_misread_1 0 rfl rfl)
theorem dX0_misread_25 : decode cX0_misread 25 = .ok (.aload_n 0, 1) := dk_42 (dk_at dksX0_misread_1 2 rfl rfl)
theorem dX0_misread_26 : decode cX0_misread 26 = .ok (.getfield 115, 3) := dk_180 0 115 (dk_at dksX0_misread_1 3 rfl rfl)
theorem dX0_misread_29 : decode cX0_misread 29 = .ok (.iconst 0, 1) := dk_3 (dk_at dksX0_misread_1 6 rfl rfl)
theorem dX0_misread_30 : decode cX0_misread 30 = .ok (.invokevirtual 299, 3) := dk_182 1 43 (dk_at dksX0_misread_1 7 rfl rfl)
theorem dX0_misread_33 : decode cX0_misread 33 = .ok (.aload_n 0, 1) := dk_42 (dk_at dksX0_misread_1 10 rfl rfl)
theorem dX0_misread_34 : decode cX0_misread 34 = .ok (.aload_n 0, 1) := dk_42 (dk_at dksX0_misread_1 11 rfl rfl)
theorem dX0_misread_35 : decode cX0_misread 35 = .ok (.getfield 90, 3) := dk_180 0 90 (dk_at dksX0_misread_1 12 rfl rfl)
theorem dX0_misread_38 : decode cX0_misread 38 = .ok (.aload_n 3, 1) := dk_45 (dk_at dksX0_misread_1 15 rfl rfl)
theorem dX0_misread_39 : decode cX0_misread 39 = .ok (.iconst 3, 1) := dk_6 (dk_at dksX0_misread_1 16 rfl rfl)
theorem dX0_misread_40 : decode cX0_misread 40 = .ok (.aload_n 0, 1) := dk_42 (dk_at dksX0_misread_1 17 rfl rfl)
theorem dX0_misread_41 : decode cX0_misread 41 = .ok (.getfield 49, 3) := dk_180 0 49 (dk_at dksX0_misread_1 18 rfl rfl)
theorem dX0_misread_44 : decode cX0_misread 44 = .ok (.aload_n 0, 1) := dk_42 (dk_at dksX0_misread_1 21 rfl rfl)
theorem dX0_misread_45 : decode cX0_misread 45 = .ok (.getfield 262, 3) := dk_180 1 6 (dk_at dksX0_misread_2 0 rfl rfl)
theorem dX0_misread_48 : decode cX0_misread 48 = .ok (.aload_n 0, 1) := dk_42 (dk_at dksX0_misread_2 3 rfl rfl)
theorem dX0_misread_49 : decode cX0_misread 49 = .ok (.getfield 115, 3) := dk_180 0 115 (dk_at dksX0_misread_2 4 rfl rfl)
theorem dX0_misread_52 : decode cX0_misread 52 = .ok (.invokevirtual 302, 3) := dk_182 1 46 (dk_at dksX0_misread_2 7 rfl rfl)
theorem dX0_misread_55 : decode cX0_misread 55 = .ok (.aload_n 0, 1) := dk_42 (dk_at dksX0_misread_2 10 rfl rfl)
theorem dX0_misread_56 : decode cX0_misread 56 = .ok (.getfield 118, 3) := dk_180 0 118 (dk_at dksX0_misread_2 11 rfl rfl)
theorem dX0_misread_59 : decode cX0_misread 59 = .ok (.iconst 0, 1) := dk_3 (dk_at dksX0_misread_2 14 rfl rfl)
theorem dX0_misread_60 : decode cX0_misread 60 = .ok (.invokevirtual 299, 3) := dk_182 1 43 (dk_at dksX0_misread_2 15 rfl rfl)
theorem dX0_misread_63 : decode cX0_misread 63 = .ok (.aload_n 0, 1) := dk_42 (dk_at dksX0_misread_2 18 rfl rfl)
theorem dX0_misread_64 : decode cX0_misread 64 = .ok (.aload_n 0, 1) := dk_42 (dk_at dksX0_misread_2 19 rfl rfl)
theorem dX0_misread_65 : decode cX0_misread 65 = .ok (.getfield 90, 3) := dk_180 0 90 (dk_at dksX0_misread_2 20 rfl rfl)
theorem dX0_misread_68 : decode cX0_misread 68 = .ok (.aload 4, 2) := dk_25 4 (dk_at dksX0_misread_3 0 rfl rfl)
theorem dX0_misread_70 : decode cX0_misread 70 = .ok (.iconst 3, 1) := dk_6 (dk_at dksX0_misread_3 2 rfl rfl)
theorem dX0_misread_71 : decode cX0_misread 71 = .ok (.aload_n 0, 1) := dk_42 (dk_at dksX0_misread_3 3 rfl rfl)
theorem dX0_misread_72 : decode cX0_misread 72 = .ok (.getfield 49, 3) := dk_180 0 49 (dk_at dksX0_misread_3 4 rfl rfl)
theorem dX0_misread_75 : decode cX0_misread 75 = .ok (.aload_n 0, 1) := dk_42 (dk_at dksX0_misread_3 7 rfl rfl)
theorem dX0_misread_76 : decode cX0_misread 76 = .ok (.getfield 262, 3) := dk_180 1 6 (dk_at dksX0_misread_3 8 rfl rfl)
theorem dX0_misread_79 : decode cX0_misread 79 = .ok (.aload_n 0, 1) := dk_42 (dk_at dksX0_misread_3 11 rfl rfl)
theorem dX0_misread_80 : decode cX0_misread 80 = .ok (.getfield 118, 3) := dk_180 0 118 (dk_at dksX0_misread_3 12 rfl rfl)
theorem dX0_misread_83 : decode cX0_misread 83 = .ok (.invokevirtual 302, 3) := dk_182 1 46 (dk_at dksX0_misread_3 15 rfl rfl)
theorem dX0_misread_86 : decode cX0_misread 86 = .ok (.aload_n 0, 1) := dk_42 (dk_at dksX0_misread_3 18 rfl rfl)
theorem dX0_misread_87 : decode cX0_misread 87 = .ok (.getfield 115, 3) := dk_180 0 115 (dk_at dksX0_misread_3 19 rfl rfl)
theorem dX0_misread_90 : decode cX0_misread 90 = .ok (.getfield 275, 3) := dk_180 1 19 (dk_at dksX0_misread_4 0 rfl rfl)
theorem dX0_misread_93 : decode cX0_misread 93 = .ok (.aload_n 0, 1) := dk_42 (dk_at dksX0_misread_4 3 rfl rfl)
theorem dX0_misread_94 : decode cX0_misread 94 = .ok (.getfield 118, 3) := dk_180 0 118 (dk_at dksX0_misread_4 4 rfl rfl)
theorem dX0_misread_97 : decode cX0_misread 97 = .ok (.getfield 275, 3) := dk_180 1 19 (dk_at dksX0_misread_4 7 rfl rfl)
theorem dX0_misread_100 : decode cX0_misread 100 = .ok (.invokestatic 382, 3) := dk_184 1 126 (dk_at dksX0_misread_4 10 rfl rfl)
theorem dX0_misread_103 : decode cX0_misread 103 = .ok (.istore 5, 2) := dk_54 5 (dk_at dksX0_misread_4 13 rfl rfl)
theorem dX0_misread_105 : decode cX0_misread 105 = .ok (.iconst 0, 1) := dk_3 (dk_at dksX0_misread_4 15 rfl rfl)
theorem dX0_misread_106 : decode cX0_misread 106 = .ok (.istore 6, 2) := dk_54 6 (dk_at dksX0_misread_4 16 rfl rfl)
theorem dX0_misread_108 : decode cX0_misread 108 = .ok (.iconst 0, 1) := dk_3 (dk_at dksX0_misread_4 18 rfl rfl)
theorem dX0_misread_109 : decode cX0_misread 109 = .ok (.istore 7, 2) := dk_54 7 (dk_at dksX0_misread_4 19 rfl rfl)
theorem dX0_misread_111 : decode cX0_misread 111 = .ok (.iload 7, 2) := dk_21 7 (dk_at dksX0_misread_4 21 rfl rfl)
theorem dX0_misread_113 : decode cX0_misread 113 = .ok (.iload 5, 2) := dk_21 5 (dk_at dksX0_misread_5 0 rfl rfl)
theorem dX0_misread_115 : decode cX0_misread 115 = .ok (.if_icmp .ge 66, 3) := dk_162 0 66 (dk_at dksX0_misread_5 2 rfl rfl)
theorem dX0_misread_118 : decode cX0_misread 118 = .ok (.iload 6, 2) := dk_21 6 (dk_at dksX0_misread_5 5 rfl rfl)
theorem dX0_misread_120 : decode cX0_misread 120 = .ok (.iload 7, 2) := dk_21 7 (dk_at dksX0_misread_5 7 rfl rfl)
theorem dX0_misread_122 : decode cX0_misread 122 = .ok (.aload_n 0, 1) := dk_42 (dk_at dksX0_misread_5 9 rfl rfl)
theorem dX0_misread_123 : decode cX0_misread 123 = .ok (.getfield 115, 3) := dk_180 0 115 (dk_at dksX0_misread_5 10 rfl rfl)
theorem dX0_misread_126 : decode cX0_misread 126 = .ok (.getfield 275, 3) := dk_180 1 19 (dk_at dksX0_misread_5 13 rfl rfl)
theorem dX0_misread_129 : decode cX0_misread 129 = .ok (.if_icmp .ge 38, 3) := dk_162 0 38 (dk_at dksX0_misread_5 16 rfl rfl)
theorem dX0_misread_132 : decode cX0_misread 132 = .ok (.iload 7, 2) := dk_21 7 (dk_at dksX0_misread_5 19 rfl rfl)
theorem dX0_misread_134 : decode cX0_misread 134 = .ok (.aload_n 0, 1) := dk_42 (dk_at dksX0_misread_5 21 rfl rfl)
theorem dX0_misread_135 : decode cX0_misread 135 = .ok (.getfield 118, 3) := dk_180 0 118 (dk_at dksX0_misread_6 0 rfl rfl)
theorem dX0_misread_138 : decode cX0_misread 138 = .ok (.getfield 275, 3) := dk_180 1 19 (dk_at dksX0_misread_6 3 rfl rfl)
theorem dX0_misread_141 : decode cX0_misread 141 = .ok (.if_icmp .ge 26, 3) := dk_162 0 26 (dk_at dksX0_misread_6 6 rfl rfl)
theorem dX0_misread_144 : decode cX0_misread 144 = .ok (.aload_n 0, 1) := dk_42 (dk_at dksX0_misread_6 9 rfl rfl)
theorem dX0_misread_145 : decode cX0_misread 145 = .ok (.getfield 115, 3) := dk_180 0 115 (dk_at dksX0_misread_6 10 rfl rfl)
theorem dX0_misread_148 : decode cX0_misread 148 = .ok (.getfield 278, 3) := dk_180 1 22 (dk_at dksX0_misread_6 13 rfl rfl)
theorem dX0_misread_151 : decode cX0_misread 151 = .ok (.iload 7, 2) := dk_21 7 (dk_at dksX0_misread_6 16 rfl rfl)
theorem dX0_misread_153 : decode cX0_misread 153 = .ok (.iaload, 1) := dk_46 (dk_at dksX0_misread_6 18 rfl rfl)
theorem dX0_misread_154 : decode cX0_misread 154 = .ok (.aload_n 0, 1) := dk_42 (dk_at dksX0_misread_6 19 rfl rfl)
theorem dX0_misread_155 : decode cX0_misread 155 = .ok (.getfield 118, 3) := dk_180 0 118 (dk_at dksX0_misread_6 20 rfl rfl)
theorem dX0_misread_158 : decode cX0_misread 158 = .ok (.getfield 278, 3) := dk_180 1 22 (dk_at dksX0_misread_7 0 rfl rfl)
theorem dX0_misread_161 : decode cX0_misread 161 = .ok (.iload 7, 2) := dk_21 7 (dk_at dksX0_misread_7 3 rfl rfl)
theorem dX0_misread_163 : decode cX0_misread 163 = .ok (.iaload, 1) := dk_46 (dk_at dksX0_misread_7 5 rfl rfl)
theorem dX0_misread_164 : decode cX0_misread 164 = .ok (.if_icmp .eq 7, 3) := dk_159 0 7 (dk_at dksX0_misread_7 6 rfl rfl)
theorem dX0_misread_167 : decode cX0_misread 167 = .ok (.iconst 1, 1) := dk_4 (dk_at dksX0_misread_7 9 rfl rfl)
theorem dX0_misread_168 : decode cX0_misread 168 = .ok (.goto 4, 3) := dk_167 0 4 (dk_at dksX0_misread_7 10 rfl rfl)
theorem dX0_misread_171 : decode cX0_misread 171 = .ok (.iconst 0, 1) := dk_3 (dk_at dksX0_misread_7 13 rfl rfl)
theorem dX0_misread_172 : decode cX0_misread 172 = .ok (.iadd, 1) := dk_96 (dk_at dksX0_misread_7 14 rfl rfl)
theorem dX0_misread_173 : decode cX0_misread 173 = .ok (.istore 6, 2) := dk_54 6 (dk_at dksX0_misread_7 15 rfl rfl)
theorem dX0_misread_175 : decode cX0_misread 175 = .ok (.iinc 7 1, 3) := dk_132 7 1 (dk_at dksX0_misread_7 17 rfl rfl)
theorem dX0_misread_178 : decode cX0_misread 178 = .ok (.goto (-67), 3) := dk_167 255 189 (dk_at dksX0_misread_7 20 rfl rfl)
theorem dX0_misread_181 : decode cX0_misread 181 = .ok (.iload 6, 2) := dk_21 6 (dk_at dksX0_misread_8 0 rfl rfl)
theorem dX0_misread_183 : decode cX0_misread 183 = .ok (.ireturn, 1) := dk_172 (dk_at dksX0_misread_8 2 rfl rfl)
theorem dX0_misread_184 : decode cX0_misread 184 = .ok (.astore_n 3, 1) := dk_78 (dk_at dksX0_misread_8 3 rfl rfl)
theorem dX0_misread_185 : decode cX0_misread 185 = .ok (.aload_n 0, 1) := dk_42 (dk_at dksX0_misread_8 4 rfl rfl)
theorem dX0_misread_186 : decode cX0_misread 186 = .ok (.aload_n 3, 1) := dk_45 (dk_at dksX0_misread_8 5 rfl rfl)
theorem dX0_misread_187 : decode cX0_misread 187 = .ok (.getfield 17, 3) := dk_180 0 17 (dk_at dksX0_misread_8 6 rfl rfl)
theorem dX0_misread_190 : decode cX0_misread 190 = .ok (.invokevirtual 163, 3) := dk_182 0 163 (dk_at dksX0_misread_8 9 rfl rfl)
theorem dX0_misread_193 : decode cX0_misread 193 = .ok (.ireturn, 1) := dk_172 (dk_at dksX0_misread_8 12 rfl rfl)
abbrev cX0_faults : ByteArray := prog_1_method_54_code
def yX0_faults : MethodName := ⟨RX0, "faults", "(I)I"⟩
def dkwX0_faults_0 : List UInt8 := [42, 42, 27, 182, 0, 255, 182, 1, 132, 172, 77, 42, 44, 180, 0, 17, 182, 0, 163, 172]
abbrev dktX0_faults_0 : List UInt8 := dkwX0_faults_0 ++ []
theorem dksX0_faults_0 : cX0_faults.data.toList.drop 0 = dktX0_faults_0 := by decide +kernel
theorem dX0_faults_0 : decode cX0_faults 0 = .ok (.aload_n 0, 1) := dk_42 (dk_at dksX0_faults_0 0 rfl rfl)
theorem dX0_faults_1 : decode cX0_faults 1 = .ok (.aload_n 0, 1) := dk_42 (dk_at dksX0_faults_0 1 rfl rfl)
theorem dX0_faults_2 : decode cX0_faults 2 = .ok (.iload_n 1, 1) := dk_27 (dk_at dksX0_faults_0 2 rfl rfl)
theorem dX0_faults_3 : decode cX0_faults 3 = .ok (.invokevirtual 255, 3) := dk_182 0 255 (dk_at dksX0_faults_0 3 rfl rfl)
theorem dX0_faults_6 : decode cX0_faults 6 = .ok (.invokevirtual 388, 3) := dk_182 1 132 (dk_at dksX0_faults_0 6 rfl rfl)
theorem dX0_faults_9 : decode cX0_faults 9 = .ok (.ireturn, 1) := dk_172 (dk_at dksX0_faults_0 9 rfl rfl)
theorem dX0_faults_10 : decode cX0_faults 10 = .ok (.astore_n 2, 1) := dk_77 (dk_at dksX0_faults_0 10 rfl rfl)
theorem dX0_faults_11 : decode cX0_faults 11 = .ok (.aload_n 0, 1) := dk_42 (dk_at dksX0_faults_0 11 rfl rfl)
theorem dX0_faults_12 : decode cX0_faults 12 = .ok (.aload_n 2, 1) := dk_44 (dk_at dksX0_faults_0 12 rfl rfl)
theorem dX0_faults_13 : decode cX0_faults 13 = .ok (.getfield 17, 3) := dk_180 0 17 (dk_at dksX0_faults_0 13 rfl rfl)
theorem dX0_faults_16 : decode cX0_faults 16 = .ok (.invokevirtual 163, 3) := dk_182 0 163 (dk_at dksX0_faults_0 16 rfl rfl)
theorem dX0_faults_19 : decode cX0_faults 19 = .ok (.ireturn, 1) := dk_172 (dk_at dksX0_faults_0 19 rfl rfl)
abbrev cX0_faultsOf : ByteArray := prog_1_method_53_code
def yX0_faultsOf : MethodName := ⟨RX0, "faultsOf", "(LCodeExchange$Page;)I"⟩
def dkwX0_faultsOf_1 : List UInt8 := [180, 0, 49, 42, 180, 1, 6, 42, 180, 0, 109, 182, 1, 46, 42, 180, 0, 90, 180, 1, 129, 172]
abbrev dktX0_faultsOf_1 : List UInt8 := dkwX0_faultsOf_1 ++ []
def dkwX0_faultsOf_0 : List UInt8 := [42, 180, 0, 109, 3, 182, 1, 43, 42, 180, 0, 90, 3, 181, 1, 129, 42, 42, 180, 0, 90, 43, 5, 42]
abbrev dktX0_faultsOf_0 : List UInt8 := dkwX0_faultsOf_0 ++ dktX0_faultsOf_1
theorem dksX0_faultsOf_0 : cX0_faultsOf.data.toList.drop 0 = dktX0_faultsOf_0 := by decide +kernel
theorem dksX0_faultsOf_1 : cX0_faultsOf.data.toList.drop 24 = dktX0_faultsOf_1 := dk_seg dksX0_faultsOf_0 24 rfl rfl
theorem dX0_faultsOf_0 : decode cX0_faultsOf 0 = .ok (.aload_n 0, 1) := dk_42 (dk_at dksX0_faultsOf_0 0 rfl rfl)
theorem dX0_faultsOf_1 : decode cX0_faultsOf 1 = .ok (.getfield 109, 3) := dk_180 0 109 (dk_at dksX0_faultsOf_0 1 rfl rfl)
theorem dX0_faultsOf_4 : decode cX0_faultsOf 4 = .ok (.iconst 0, 1) := dk_3 (dk_at dksX0_faultsOf_0 4 rfl rfl)
theorem dX0_faultsOf_5 : decode cX0_faultsOf 5 = .ok (.invokevirtual 299, 3) := dk_182 1 43 (dk_at dksX0_faultsOf_0 5 rfl rfl)
theorem dX0_faultsOf_8 : decode cX0_faultsOf 8 = .ok (.aload_n 0, 1) := dk_42 (dk_at dksX0_faultsOf_0 8 rfl rfl)
theorem dX0_faultsOf_9 : decode cX0_faultsOf 9 = .ok (.getfield 90, 3) := dk_180 0 90 (dk_at dksX0_faultsOf_0 9 rfl rfl)
theorem dX0_faultsOf_12 : decode cX0_faultsOf 12 = .ok (.iconst 0, 1) := dk_3 (dk_at dksX0_faultsOf_0 12 rfl rfl)
theorem dX0_faultsOf_13 : decode cX0_faultsOf 13 = .ok (.putfield 385, 3) := dk_181 1 129 (dk_at dksX0_faultsOf_0 13 rfl rfl)
theorem dX0_faultsOf_16 : decode cX0_faultsOf 16 = .ok (.aload_n 0, 1) := dk_42 (dk_at dksX0_faultsOf_0 16 rfl rfl)
theorem dX0_faultsOf_17 : decode cX0_faultsOf 17 = .ok (.aload_n 0, 1) := dk_42 (dk_at dksX0_faultsOf_0 17 rfl rfl)
theorem dX0_faultsOf_18 : decode cX0_faultsOf 18 = .ok (.getfield 90, 3) := dk_180 0 90 (dk_at dksX0_faultsOf_0 18 rfl rfl)
theorem dX0_faultsOf_21 : decode cX0_faultsOf 21 = .ok (.aload_n 1, 1) := dk_43 (dk_at dksX0_faultsOf_0 21 rfl rfl)
theorem dX0_faultsOf_22 : decode cX0_faultsOf 22 = .ok (.iconst 2, 1) := dk_5 (dk_at dksX0_faultsOf_0 22 rfl rfl)
theorem dX0_faultsOf_23 : decode cX0_faultsOf 23 = .ok (.aload_n 0, 1) := dk_42 (dk_at dksX0_faultsOf_0 23 rfl rfl)
theorem dX0_faultsOf_24 : decode cX0_faultsOf 24 = .ok (.getfield 49, 3) := dk_180 0 49 (dk_at dksX0_faultsOf_1 0 rfl rfl)
theorem dX0_faultsOf_27 : decode cX0_faultsOf 27 = .ok (.aload_n 0, 1) := dk_42 (dk_at dksX0_faultsOf_1 3 rfl rfl)
theorem dX0_faultsOf_28 : decode cX0_faultsOf 28 = .ok (.getfield 262, 3) := dk_180 1 6 (dk_at dksX0_faultsOf_1 4 rfl rfl)
theorem dX0_faultsOf_31 : decode cX0_faultsOf 31 = .ok (.aload_n 0, 1) := dk_42 (dk_at dksX0_faultsOf_1 7 rfl rfl)
theorem dX0_faultsOf_32 : decode cX0_faultsOf 32 = .ok (.getfield 109, 3) := dk_180 0 109 (dk_at dksX0_faultsOf_1 8 rfl rfl)
theorem dX0_faultsOf_35 : decode cX0_faultsOf 35 = .ok (.invokevirtual 302, 3) := dk_182 1 46 (dk_at dksX0_faultsOf_1 11 rfl rfl)
theorem dX0_faultsOf_38 : decode cX0_faultsOf 38 = .ok (.aload_n 0, 1) := dk_42 (dk_at dksX0_faultsOf_1 14 rfl rfl)
theorem dX0_faultsOf_39 : decode cX0_faultsOf 39 = .ok (.getfield 90, 3) := dk_180 0 90 (dk_at dksX0_faultsOf_1 15 rfl rfl)
theorem dX0_faultsOf_42 : decode cX0_faultsOf 42 = .ok (.getfield 385, 3) := dk_180 1 129 (dk_at dksX0_faultsOf_1 18 rfl rfl)
theorem dX0_faultsOf_45 : decode cX0_faultsOf 45 = .ok (.ireturn, 1) := dk_172 (dk_at dksX0_faultsOf_1 21 rfl rfl)
abbrev cX0_detect : ByteArray := prog_1_method_55_code
def yX0_detect : MethodName := ⟨RX0, "detect", "()I"⟩
def dkwX0_detect_3 : List UInt8 := [156, 0, 12, 42, 16, 254, 182, 0, 163, 167, 0, 4, 27, 172]
abbrev dktX0_detect_3 : List UInt8 := dkwX0_detect_3 ++ []
def dkwX0_detect_2 : List UInt8 := [27, 155, 0, 9, 21, 5, 28, 162, 0, 8, 29, 60, 21, 5, 61, 132, 3, 1, 167, 255, 197, 27]
abbrev dktX0_detect_2 : List UInt8 := dkwX0_detect_2 ++ dktX0_detect_3
def dkwX0_detect_1 : List UInt8 := [192, 0, 150, 58, 4, 25, 4, 182, 0, 156, 154, 0, 6, 167, 0, 26, 42, 25, 4, 182, 1, 132, 54, 5]
abbrev dktX0_detect_1 : List UInt8 := dkwX0_detect_1 ++ dktX0_detect_2
def dkwX0_detect_0 : List UInt8 := [2, 60, 3, 61, 3, 62, 29, 42, 180, 0, 160, 162, 0, 57, 42, 180, 0, 38, 29, 50, 180, 0, 128]
abbrev dktX0_detect_0 : List UInt8 := dkwX0_detect_0 ++ dktX0_detect_1
theorem dksX0_detect_0 : cX0_detect.data.toList.drop 0 = dktX0_detect_0 := by decide +kernel
theorem dksX0_detect_1 : cX0_detect.data.toList.drop 23 = dktX0_detect_1 := dk_seg dksX0_detect_0 23 rfl rfl
theorem dksX0_detect_2 : cX0_detect.data.toList.drop 47 = dktX0_detect_2 := dk_seg dksX0_detect_1 24 rfl rfl
theorem dksX0_detect_3 : cX0_detect.data.toList.drop 69 = dktX0_detect_3 := dk_seg dksX0_detect_2 22 rfl rfl
theorem dX0_detect_0 : decode cX0_detect 0 = .ok (.iconst (-1), 1) := dk_2 (dk_at dksX0_detect_0 0 rfl rfl)
theorem dX0_detect_1 : decode cX0_detect 1 = .ok (.istore_n 1, 1) := dk_60 (dk_at dksX0_detect_0 1 rfl rfl)
theorem dX0_detect_2 : decode cX0_detect 2 = .ok (.iconst 0, 1) := dk_3 (dk_at dksX0_detect_0 2 rfl rfl)
theorem dX0_detect_3 : decode cX0_detect 3 = .ok (.istore_n 2, 1) := dk_61 (dk_at dksX0_detect_0 3 rfl rfl)
theorem dX0_detect_4 : decode cX0_detect 4 = .ok (.iconst 0, 1) := dk_3 (dk_at dksX0_detect_0 4 rfl rfl)
theorem dX0_detect_5 : decode cX0_detect 5 = .ok (.istore_n 3, 1) := dk_62 (dk_at dksX0_detect_0 5 rfl rfl)
theorem dX0_detect_6 : decode cX0_detect 6 = .ok (.iload_n 3, 1) := dk_29 (dk_at dksX0_detect_0 6 rfl rfl)
theorem dX0_detect_7 : decode cX0_detect 7 = .ok (.aload_n 0, 1) := dk_42 (dk_at dksX0_detect_0 7 rfl rfl)
theorem dX0_detect_8 : decode cX0_detect 8 = .ok (.getfield 160, 3) := dk_180 0 160 (dk_at dksX0_detect_0 8 rfl rfl)
theorem dX0_detect_11 : decode cX0_detect 11 = .ok (.if_icmp .ge 57, 3) := dk_162 0 57 (dk_at dksX0_detect_0 11 rfl rfl)
theorem dX0_detect_14 : decode cX0_detect 14 = .ok (.aload_n 0, 1) := dk_42 (dk_at dksX0_detect_0 14 rfl rfl)
theorem dX0_detect_15 : decode cX0_detect 15 = .ok (.getfield 38, 3) := dk_180 0 38 (dk_at dksX0_detect_0 15 rfl rfl)
theorem dX0_detect_18 : decode cX0_detect 18 = .ok (.iload_n 3, 1) := dk_29 (dk_at dksX0_detect_0 18 rfl rfl)
theorem dX0_detect_19 : decode cX0_detect 19 = .ok (.aaload, 1) := dk_50 (dk_at dksX0_detect_0 19 rfl rfl)
theorem dX0_detect_20 : decode cX0_detect 20 = .ok (.getfield 128, 3) := dk_180 0 128 (dk_at dksX0_detect_0 20 rfl rfl)
theorem dX0_detect_23 : decode cX0_detect 23 = .ok (.checkcast 150, 3) := dk_192 0 150 (dk_at dksX0_detect_1 0 rfl rfl)
theorem dX0_detect_26 : decode cX0_detect 26 = .ok (.astore 4, 2) := dk_58 4 (dk_at dksX0_detect_1 3 rfl rfl)
theorem dX0_detect_28 : decode cX0_detect 28 = .ok (.aload 4, 2) := dk_25 4 (dk_at dksX0_detect_1 5 rfl rfl)
theorem dX0_detect_30 : decode cX0_detect 30 = .ok (.invokevirtual 156, 3) := dk_182 0 156 (dk_at dksX0_detect_1 7 rfl rfl)
theorem dX0_detect_33 : decode cX0_detect 33 = .ok (.ifCond .ne 6, 3) := dk_154 0 6 (dk_at dksX0_detect_1 10 rfl rfl)
theorem dX0_detect_36 : decode cX0_detect 36 = .ok (.goto 26, 3) := dk_167 0 26 (dk_at dksX0_detect_1 13 rfl rfl)
theorem dX0_detect_39 : decode cX0_detect 39 = .ok (.aload_n 0, 1) := dk_42 (dk_at dksX0_detect_1 16 rfl rfl)
theorem dX0_detect_40 : decode cX0_detect 40 = .ok (.aload 4, 2) := dk_25 4 (dk_at dksX0_detect_1 17 rfl rfl)
theorem dX0_detect_42 : decode cX0_detect 42 = .ok (.invokevirtual 388, 3) := dk_182 1 132 (dk_at dksX0_detect_1 19 rfl rfl)
theorem dX0_detect_45 : decode cX0_detect 45 = .ok (.istore 5, 2) := dk_54 5 (dk_at dksX0_detect_1 22 rfl rfl)
theorem dX0_detect_47 : decode cX0_detect 47 = .ok (.iload_n 1, 1) := dk_27 (dk_at dksX0_detect_2 0 rfl rfl)
theorem dX0_detect_48 : decode cX0_detect 48 = .ok (.ifCond .lt 9, 3) := dk_155 0 9 (dk_at dksX0_detect_2 1 rfl rfl)
theorem dX0_detect_51 : decode cX0_detect 51 = .ok (.iload 5, 2) := dk_21 5 (dk_at dksX0_detect_2 4 rfl rfl)
theorem dX0_detect_53 : decode cX0_detect 53 = .ok (.iload_n 2, 1) := dk_28 (dk_at dksX0_detect_2 6 rfl rfl)
theorem dX0_detect_54 : decode cX0_detect 54 = .ok (.if_icmp .ge 8, 3) := dk_162 0 8 (dk_at dksX0_detect_2 7 rfl rfl)
theorem dX0_detect_57 : decode cX0_detect 57 = .ok (.iload_n 3, 1) := dk_29 (dk_at dksX0_detect_2 10 rfl rfl)
theorem dX0_detect_58 : decode cX0_detect 58 = .ok (.istore_n 1, 1) := dk_60 (dk_at dksX0_detect_2 11 rfl rfl)
theorem dX0_detect_59 : decode cX0_detect 59 = .ok (.iload 5, 2) := dk_21 5 (dk_at dksX0_detect_2 12 rfl rfl)
theorem dX0_detect_61 : decode cX0_detect 61 = .ok (.istore_n 2, 1) := dk_61 (dk_at dksX0_detect_2 14 rfl rfl)
theorem dX0_detect_62 : decode cX0_detect 62 = .ok (.iinc 3 1, 3) := dk_132 3 1 (dk_at dksX0_detect_2 15 rfl rfl)
theorem dX0_detect_65 : decode cX0_detect 65 = .ok (.goto (-59), 3) := dk_167 255 197 (dk_at dksX0_detect_2 18 rfl rfl)
theorem dX0_detect_68 : decode cX0_detect 68 = .ok (.iload_n 1, 1) := dk_27 (dk_at dksX0_detect_2 21 rfl rfl)
theorem dX0_detect_69 : decode cX0_detect 69 = .ok (.ifCond .ge 12, 3) := dk_156 0 12 (dk_at dksX0_detect_3 0 rfl rfl)
theorem dX0_detect_72 : decode cX0_detect 72 = .ok (.aload_n 0, 1) := dk_42 (dk_at dksX0_detect_3 3 rfl rfl)
theorem dX0_detect_73 : decode cX0_detect 73 = .ok (.bipush (-2), 2) := dk_16 254 (dk_at dksX0_detect_3 4 rfl rfl)
theorem dX0_detect_75 : decode cX0_detect 75 = .ok (.invokevirtual 163, 3) := dk_182 0 163 (dk_at dksX0_detect_3 6 rfl rfl)
theorem dX0_detect_78 : decode cX0_detect 78 = .ok (.goto 4, 3) := dk_167 0 4 (dk_at dksX0_detect_3 9 rfl rfl)
theorem dX0_detect_81 : decode cX0_detect 81 = .ok (.iload_n 1, 1) := dk_27 (dk_at dksX0_detect_3 12 rfl rfl)
theorem dX0_detect_82 : decode cX0_detect 82 = .ok (.ireturn, 1) := dk_172 (dk_at dksX0_detect_3 13 rfl rfl)
abbrev cX0_lengths : ByteArray := prog_1_method_56_code
def yX0_lengths : MethodName := ⟨RX0, "lengths", "(II)I"⟩
def dkwX0_lengths_7 : List UInt8 := [132, 5, 1, 167, 255, 116, 21, 4, 172, 78, 42, 45, 180, 0, 17, 182, 0, 163, 172]
abbrev dktX0_lengths_7 : List UInt8 := dkwX0_lengths_7 ++ []
def dkwX0_lengths_6 : List UInt8 := [180, 1, 19, 21, 4, 164, 0, 13, 42, 180, 0, 109, 180, 1, 19, 167, 0, 5, 21, 4, 54, 4]
abbrev dktX0_lengths_6 : List UInt8 := dkwX0_lengths_6 ++ dktX0_lengths_7
def dkwX0_lengths_5 : List UInt8 := [28, 154, 0, 18, 42, 180, 0, 109, 180, 1, 19, 21, 4, 162, 0, 28, 167, 0, 15, 42, 180, 0, 109]
abbrev dktX0_lengths_5 : List UInt8 := dkwX0_lengths_5 ++ dktX0_lengths_6
def dkwX0_lengths_4 : List UInt8 := [21, 6, 46, 182, 1, 140, 132, 6, 1, 167, 255, 230, 42, 180, 0, 95, 182, 1, 141, 21, 4, 155, 0, 34]
abbrev dktX0_lengths_4 : List UInt8 := dkwX0_lengths_4 ++ dktX0_lengths_5
def dkwX0_lengths_3 : List UInt8 := [181, 1, 139, 3, 54, 6, 21, 6, 42, 180, 1, 11, 162, 0, 23, 42, 180, 0, 95, 42, 180, 0, 53]
abbrev dktX0_lengths_3 : List UInt8 := dkwX0_lengths_3 ++ dktX0_lengths_4
def dkwX0_lengths_2 : List UInt8 := [182, 1, 43, 42, 180, 0, 95, 45, 3, 42, 180, 0, 109, 182, 1, 138, 42, 180, 0, 95, 21, 5]
abbrev dktX0_lengths_2 : List UInt8 := dkwX0_lengths_2 ++ dktX0_lengths_3
def dkwX0_lengths_1 : List UInt8 := [21, 5, 7, 162, 0, 140, 45, 21, 5, 182, 1, 135, 154, 0, 6, 167, 0, 122, 42, 180, 0, 109, 4]
abbrev dktX0_lengths_1 : List UInt8 := dkwX0_lengths_1 ++ dktX0_lengths_2
def dkwX0_lengths_0 : List UInt8 := [42, 27, 182, 0, 255, 78, 42, 28, 3, 4, 184, 0, 4, 2, 182, 0, 184, 2, 54, 4, 3, 54, 5]
abbrev dktX0_lengths_0 : List UInt8 := dkwX0_lengths_0 ++ dktX0_lengths_1
theorem dksX0_lengths_0 : cX0_lengths.data.toList.drop 0 = dktX0_lengths_0 := by decide +kernel
theorem dksX0_lengths_1 : cX0_lengths.data.toList.drop 23 = dktX0_lengths_1 := dk_seg dksX0_lengths_0 23 rfl rfl
theorem dksX0_lengths_2 : cX0_lengths.data.toList.drop 46 = dktX0_lengths_2 := dk_seg dksX0_lengths_1 23 rfl rfl
theorem dksX0_lengths_3 : cX0_lengths.data.toList.drop 68 = dktX0_lengths_3 := dk_seg dksX0_lengths_2 22 rfl rfl
theorem dksX0_lengths_4 : cX0_lengths.data.toList.drop 91 = dktX0_lengths_4 := dk_seg dksX0_lengths_3 23 rfl rfl
theorem dksX0_lengths_5 : cX0_lengths.data.toList.drop 115 = dktX0_lengths_5 := dk_seg dksX0_lengths_4 24 rfl rfl
theorem dksX0_lengths_6 : cX0_lengths.data.toList.drop 138 = dktX0_lengths_6 := dk_seg dksX0_lengths_5 23 rfl rfl
theorem dksX0_lengths_7 : cX0_lengths.data.toList.drop 160 = dktX0_lengths_7 := dk_seg dksX0_lengths_6 22 rfl rfl
theorem dX0_lengths_0 : decode cX0_lengths 0 = .ok (.aload_n 0, 1) := dk_42 (dk_at dksX0_lengths_0 0 rfl rfl)
theorem dX0_lengths_1 : decode cX0_lengths 1 = .ok (.iload_n 1, 1) := dk_27 (dk_at dksX0_lengths_0 1 rfl rfl)
theorem dX0_lengths_2 : decode cX0_lengths 2 = .ok (.invokevirtual 255, 3) := dk_182 0 255 (dk_at dksX0_lengths_0 2 rfl rfl)
theorem dX0_lengths_5 : decode cX0_lengths 5 = .ok (.astore_n 3, 1) := dk_78 (dk_at dksX0_lengths_0 5 rfl rfl)
theorem dX0_lengths_6 : decode cX0_lengths 6 = .ok (.aload_n 0, 1) := dk_42 (dk_at dksX0_lengths_0 6 rfl rfl)
theorem dX0_lengths_7 : decode cX0_lengths 7 = .ok (.iload_n 2, 1) := dk_28 (dk_at dksX0_lengths_0 7 rfl rfl)
theorem dX0_lengths_8 : decode cX0_lengths 8 = .ok (.iconst 0, 1) := dk_3 (dk_at dksX0_lengths_0 8 rfl rfl)
theorem dX0_lengths_9 : decode cX0_lengths 9 = .ok (.iconst 1, 1) := dk_4 (dk_at dksX0_lengths_0 9 rfl rfl)
theorem dX0_lengths_10 : decode cX0_lengths 10 = .ok (.invokestatic 4, 3) := dk_184 0 4 (dk_at dksX0_lengths_0 10 rfl rfl)
theorem dX0_lengths_13 : decode cX0_lengths 13 = .ok (.iconst (-1), 1) := dk_2 (dk_at dksX0_lengths_0 13 rfl rfl)
theorem dX0_lengths_14 : decode cX0_lengths 14 = .ok (.invokevirtual 184, 3) := dk_182 0 184 (dk_at dksX0_lengths_0 14 rfl rfl)
theorem dX0_lengths_17 : decode cX0_lengths 17 = .ok (.iconst (-1), 1) := dk_2 (dk_at dksX0_lengths_0 17 rfl rfl)
theorem dX0_lengths_18 : decode cX0_lengths 18 = .ok (.istore 4, 2) := dk_54 4 (dk_at dksX0_lengths_0 18 rfl rfl)
theorem dX0_lengths_20 : decode cX0_lengths 20 = .ok (.iconst 0, 1) := dk_3 (dk_at dksX0_lengths_0 20 rfl rfl)
theorem dX0_lengths_21 : decode cX0_lengths 21 = .ok (.istore 5, 2) := dk_54 5 (dk_at dksX0_lengths_0 21 rfl rfl)
theorem dX0_lengths_23 : decode cX0_lengths 23 = .ok (.iload 5, 2) := dk_21 5 (dk_at dksX0_lengths_1 0 rfl rfl)
theorem dX0_lengths_25 : decode cX0_lengths 25 = .ok (.iconst 4, 1) := dk_7 (dk_at dksX0_lengths_1 2 rfl rfl)
theorem dX0_lengths_26 : decode cX0_lengths 26 = .ok (.if_icmp .ge 140, 3) := dk_162 0 140 (dk_at dksX0_lengths_1 3 rfl rfl)
theorem dX0_lengths_29 : decode cX0_lengths 29 = .ok (.aload_n 3, 1) := dk_45 (dk_at dksX0_lengths_1 6 rfl rfl)
theorem dX0_lengths_30 : decode cX0_lengths 30 = .ok (.iload 5, 2) := dk_21 5 (dk_at dksX0_lengths_1 7 rfl rfl)
theorem dX0_lengths_32 : decode cX0_lengths 32 = .ok (.invokevirtual 391, 3) := dk_182 1 135 (dk_at dksX0_lengths_1 9 rfl rfl)
theorem dX0_lengths_35 : decode cX0_lengths 35 = .ok (.ifCond .ne 6, 3) := dk_154 0 6 (dk_at dksX0_lengths_1 12 rfl rfl)
theorem dX0_lengths_38 : decode cX0_lengths 38 = .ok (.goto 122, 3) := dk_167 0 122 (dk_at dksX0_lengths_1 15 rfl rfl)
theorem dX0_lengths_41 : decode cX0_lengths 41 = .ok (.aload_n 0, 1) := dk_42 (dk_at dksX0_lengths_1 18 rfl rfl)
theorem dX0_lengths_42 : decode cX0_lengths 42 = .ok (.getfield 109, 3) := dk_180 0 109 (dk_at dksX0_lengths_1 19 rfl rfl)
theorem dX0_lengths_45 : decode cX0_lengths 45 = .ok (.iconst 1, 1) := dk_4 (dk_at dksX0_lengths_1 22 rfl rfl)
theorem dX0_lengths_46 : decode cX0_lengths 46 = .ok (.invokevirtual 299, 3) := dk_182 1 43 (dk_at dksX0_lengths_2 0 rfl rfl)
theorem dX0_lengths_49 : decode cX0_lengths 49 = .ok (.aload_n 0, 1) := dk_42 (dk_at dksX0_lengths_2 3 rfl rfl)
theorem dX0_lengths_50 : decode cX0_lengths 50 = .ok (.getfield 95, 3) := dk_180 0 95 (dk_at dksX0_lengths_2 4 rfl rfl)
theorem dX0_lengths_53 : decode cX0_lengths 53 = .ok (.aload_n 3, 1) := dk_45 (dk_at dksX0_lengths_2 7 rfl rfl)
theorem dX0_lengths_54 : decode cX0_lengths 54 = .ok (.iconst 0, 1) := dk_3 (dk_at dksX0_lengths_2 8 rfl rfl)
theorem dX0_lengths_55 : decode cX0_lengths 55 = .ok (.aload_n 0, 1) := dk_42 (dk_at dksX0_lengths_2 9 rfl rfl)
theorem dX0_lengths_56 : decode cX0_lengths 56 = .ok (.getfield 109, 3) := dk_180 0 109 (dk_at dksX0_lengths_2 10 rfl rfl)
theorem dX0_lengths_59 : decode cX0_lengths 59 = .ok (.invokevirtual 394, 3) := dk_182 1 138 (dk_at dksX0_lengths_2 13 rfl rfl)
theorem dX0_lengths_62 : decode cX0_lengths 62 = .ok (.aload_n 0, 1) := dk_42 (dk_at dksX0_lengths_2 16 rfl rfl)
theorem dX0_lengths_63 : decode cX0_lengths 63 = .ok (.getfield 95, 3) := dk_180 0 95 (dk_at dksX0_lengths_2 17 rfl rfl)
theorem dX0_lengths_66 : decode cX0_lengths 66 = .ok (.iload 5, 2) := dk_21 5 (dk_at dksX0_lengths_2 20 rfl rfl)
theorem dX0_lengths_68 : decode cX0_lengths 68 = .ok (.putfield 395, 3) := dk_181 1 139 (dk_at dksX0_lengths_3 0 rfl rfl)
theorem dX0_lengths_71 : decode cX0_lengths 71 = .ok (.iconst 0, 1) := dk_3 (dk_at dksX0_lengths_3 3 rfl rfl)
theorem dX0_lengths_72 : decode cX0_lengths 72 = .ok (.istore 6, 2) := dk_54 6 (dk_at dksX0_lengths_3 4 rfl rfl)
theorem dX0_lengths_74 : decode cX0_lengths 74 = .ok (.iload 6, 2) := dk_21 6 (dk_at dksX0_lengths_3 6 rfl rfl)
theorem dX0_lengths_76 : decode cX0_lengths 76 = .ok (.aload_n 0, 1) := dk_42 (dk_at dksX0_lengths_3 8 rfl rfl)
theorem dX0_lengths_77 : decode cX0_lengths 77 = .ok (.getfield 267, 3) := dk_180 1 11 (dk_at dksX0_lengths_3 9 rfl rfl)
theorem dX0_lengths_80 : decode cX0_lengths 80 = .ok (.if_icmp .ge 23, 3) := dk_162 0 23 (dk_at dksX0_lengths_3 12 rfl rfl)
theorem dX0_lengths_83 : decode cX0_lengths 83 = .ok (.aload_n 0, 1) := dk_42 (dk_at dksX0_lengths_3 15 rfl rfl)
theorem dX0_lengths_84 : decode cX0_lengths 84 = .ok (.getfield 95, 3) := dk_180 0 95 (dk_at dksX0_lengths_3 16 rfl rfl)
theorem dX0_lengths_87 : decode cX0_lengths 87 = .ok (.aload_n 0, 1) := dk_42 (dk_at dksX0_lengths_3 19 rfl rfl)
theorem dX0_lengths_88 : decode cX0_lengths 88 = .ok (.getfield 53, 3) := dk_180 0 53 (dk_at dksX0_lengths_3 20 rfl rfl)
theorem dX0_lengths_91 : decode cX0_lengths 91 = .ok (.iload 6, 2) := dk_21 6 (dk_at dksX0_lengths_4 0 rfl rfl)
theorem dX0_lengths_93 : decode cX0_lengths 93 = .ok (.iaload, 1) := dk_46 (dk_at dksX0_lengths_4 2 rfl rfl)
theorem dX0_lengths_94 : decode cX0_lengths 94 = .ok (.invokevirtual 396, 3) := dk_182 1 140 (dk_at dksX0_lengths_4 3 rfl rfl)
theorem dX0_lengths_97 : decode cX0_lengths 97 = .ok (.iinc 6 1, 3) := dk_132 6 1 (dk_at dksX0_lengths_4 6 rfl rfl)
theorem dX0_lengths_100 : decode cX0_lengths 100 = .ok (.goto (-26), 3) := dk_167 255 230 (dk_at dksX0_lengths_4 9 rfl rfl)
theorem dX0_lengths_103 : decode cX0_lengths 103 = .ok (.aload_n 0, 1) := dk_42 (dk_at dksX0_lengths_4 12 rfl rfl)
theorem dX0_lengths_104 : decode cX0_lengths 104 = .ok (.getfield 95, 3) := dk_180 0 95 (dk_at dksX0_lengths_4 13 rfl rfl)
theorem dX0_lengths_107 : decode cX0_lengths 107 = .ok (.invokevirtual 397, 3) := dk_182 1 141 (dk_at dksX0_lengths_4 16 rfl rfl)
theorem dX0_lengths_110 : decode cX0_lengths 110 = .ok (.iload 4, 2) := dk_21 4 (dk_at dksX0_lengths_4 19 rfl rfl)
theorem dX0_lengths_112 : decode cX0_lengths 112 = .ok (.ifCond .lt 34, 3) := dk_155 0 34 (dk_at dksX0_lengths_4 21 rfl rfl)
theorem dX0_lengths_115 : decode cX0_lengths 115 = .ok (.iload_n 2, 1) := dk_28 (dk_at dksX0_lengths_5 0 rfl rfl)
theorem dX0_lengths_116 : decode cX0_lengths 116 = .ok (.ifCond .ne 18, 3) := dk_154 0 18 (dk_at dksX0_lengths_5 1 rfl rfl)
theorem dX0_lengths_119 : decode cX0_lengths 119 = .ok (.aload_n 0, 1) := dk_42 (dk_at dksX0_lengths_5 4 rfl rfl)
theorem dX0_lengths_120 : decode cX0_lengths 120 = .ok (.getfield 109, 3) := dk_180 0 109 (dk_at dksX0_lengths_5 5 rfl rfl)
theorem dX0_lengths_123 : decode cX0_lengths 123 = .ok (.getfield 275, 3) := dk_180 1 19 (dk_at dksX0_lengths_5 8 rfl rfl)
theorem dX0_lengths_126 : decode cX0_lengths 126 = .ok (.iload 4, 2) := dk_21 4 (dk_at dksX0_lengths_5 11 rfl rfl)
theorem dX0_lengths_128 : decode cX0_lengths 128 = .ok (.if_icmp .ge 28, 3) := dk_162 0 28 (dk_at dksX0_lengths_5 13 rfl rfl)
theorem dX0_lengths_131 : decode cX0_lengths 131 = .ok (.goto 15, 3) := dk_167 0 15 (dk_at dksX0_lengths_5 16 rfl rfl)
theorem dX0_lengths_134 : decode cX0_lengths 134 = .ok (.aload_n 0, 1) := dk_42 (dk_at dksX0_lengths_5 19 rfl rfl)
theorem dX0_lengths_135 : decode cX0_lengths 135 = .ok (.getfield 109, 3) := dk_180 0 109 (dk_at dksX0_lengths_5 20 rfl rfl)
theorem dX0_lengths_138 : decode cX0_lengths 138 = .ok (.getfield 275, 3) := dk_180 1 19 (dk_at dksX0_lengths_6 0 rfl rfl)
theorem dX0_lengths_141 : decode cX0_lengths 141 = .ok (.iload 4, 2) := dk_21 4 (dk_at dksX0_lengths_6 3 rfl rfl)
theorem dX0_lengths_143 : decode cX0_lengths 143 = .ok (.if_icmp .le 13, 3) := dk_164 0 13 (dk_at dksX0_lengths_6 5 rfl rfl)
theorem dX0_lengths_146 : decode cX0_lengths 146 = .ok (.aload_n 0, 1) := dk_42 (dk_at dksX0_lengths_6 8 rfl rfl)
theorem dX0_lengths_147 : decode cX0_lengths 147 = .ok (.getfield 109, 3) := dk_180 0 109 (dk_at dksX0_lengths_6 9 rfl rfl)
theorem dX0_lengths_150 : decode cX0_lengths 150 = .ok (.getfield 275, 3) := dk_180 1 19 (dk_at dksX0_lengths_6 12 rfl rfl)
theorem dX0_lengths_153 : decode cX0_lengths 153 = .ok (.goto 5, 3) := dk_167 0 5 (dk_at dksX0_lengths_6 15 rfl rfl)
theorem dX0_lengths_156 : decode cX0_lengths 156 = .ok (.iload 4, 2) := dk_21 4 (dk_at dksX0_lengths_6 18 rfl rfl)
theorem dX0_lengths_158 : decode cX0_lengths 158 = .ok (.istore 4, 2) := dk_54 4 (dk_at dksX0_lengths_6 20 rfl rfl)
theorem dX0_lengths_160 : decode cX0_lengths 160 = .ok (.iinc 5 1, 3) := dk_132 5 1 (dk_at dksX0_lengths_7 0 rfl rfl)
theorem dX0_lengths_163 : decode cX0_lengths 163 = .ok (.goto (-140), 3) := dk_167 255 116 (dk_at dksX0_lengths_7 3 rfl rfl)
theorem dX0_lengths_166 : decode cX0_lengths 166 = .ok (.iload 4, 2) := dk_21 4 (dk_at dksX0_lengths_7 6 rfl rfl)
theorem dX0_lengths_168 : decode cX0_lengths 168 = .ok (.ireturn, 1) := dk_172 (dk_at dksX0_lengths_7 8 rfl rfl)
theorem dX0_lengths_169 : decode cX0_lengths 169 = .ok (.astore_n 3, 1) := dk_78 (dk_at dksX0_lengths_7 9 rfl rfl)
theorem dX0_lengths_170 : decode cX0_lengths 170 = .ok (.aload_n 0, 1) := dk_42 (dk_at dksX0_lengths_7 10 rfl rfl)
theorem dX0_lengths_171 : decode cX0_lengths 171 = .ok (.aload_n 3, 1) := dk_45 (dk_at dksX0_lengths_7 11 rfl rfl)
theorem dX0_lengths_172 : decode cX0_lengths 172 = .ok (.getfield 17, 3) := dk_180 0 17 (dk_at dksX0_lengths_7 12 rfl rfl)
theorem dX0_lengths_175 : decode cX0_lengths 175 = .ok (.invokevirtual 163, 3) := dk_182 0 163 (dk_at dksX0_lengths_7 15 rfl rfl)
theorem dX0_lengths_178 : decode cX0_lengths 178 = .ok (.ireturn, 1) := dk_172 (dk_at dksX0_lengths_7 18 rfl rfl)
abbrev cX0_send : ByteArray := prog_1_method_58_code
def yX0_send : MethodName := ⟨RX0, "send", "(I)I"⟩
def dkwX0_send_13 : List UInt8 := [182, 1, 50, 172, 77, 42, 44, 180, 0, 17, 182, 0, 163, 172]
abbrev dktX0_send_13 : List UInt8 := dkwX0_send_13 ++ []
def dkwX0_send_12 : List UInt8 := [180, 0, 106, 29, 16, 8, 122, 182, 1, 143, 42, 180, 0, 106, 29, 17, 0, 255, 126, 182, 1, 143, 42, 5]
abbrev dktX0_send_12 : List UInt8 := dkwX0_send_12 ++ dktX0_send_13
def dkwX0_send_11 : List UInt8 := [167, 255, 185, 42, 180, 0, 106, 180, 1, 22, 42, 180, 0, 106, 180, 1, 19, 184, 1, 171, 62, 42]
abbrev dktX0_send_11 : List UInt8 := dkwX0_send_11 ++ dktX0_send_12
def dkwX0_send_10 : List UInt8 := [180, 0, 106, 44, 180, 1, 168, 29, 51, 153, 0, 7, 4, 167, 0, 4, 3, 182, 1, 143, 132, 3, 1]
abbrev dktX0_send_10 : List UInt8 := dkwX0_send_10 ++ dktX0_send_11
def dkwX0_send_9 : List UInt8 := [180, 1, 162, 29, 46, 182, 1, 143, 42, 180, 0, 106, 44, 180, 1, 165, 29, 46, 182, 1, 143, 42]
abbrev dktX0_send_9 : List UInt8 := dkwX0_send_9 ++ dktX0_send_10
def dkwX0_send_8 : List UInt8 := [180, 0, 214, 162, 0, 69, 42, 180, 0, 106, 44, 180, 1, 159, 29, 46, 182, 1, 143, 42, 180, 0, 106, 44]
abbrev dktX0_send_8 : List UInt8 := dkwX0_send_8 ++ dktX0_send_9
def dkwX0_send_7 : List UInt8 := [182, 1, 143, 132, 3, 1, 167, 255, 117, 42, 180, 0, 106, 44, 180, 0, 214, 182, 1, 143, 3, 62, 29, 44]
abbrev dktX0_send_7 : List UInt8 := dkwX0_send_7 ++ dktX0_send_8
def dkwX0_send_6 : List UInt8 := [132, 4, 255, 167, 255, 225, 42, 180, 0, 106, 44, 180, 1, 155, 29, 51, 153, 0, 7, 4, 167, 0, 4, 3]
abbrev dktX0_send_6 : List UInt8 := dkwX0_send_6 ++ dktX0_send_7
def dkwX0_send_5 : List UInt8 := [180, 0, 106, 44, 180, 1, 152, 29, 46, 16, 8, 21, 4, 104, 122, 17, 0, 255, 126, 182, 1, 143]
abbrev dktX0_send_5 : List UInt8 := dkwX0_send_5 ++ dktX0_send_6
def dkwX0_send_4 : List UInt8 := [17, 0, 255, 126, 182, 1, 143, 132, 4, 255, 167, 255, 225, 5, 54, 4, 21, 4, 155, 0, 32, 42]
abbrev dktX0_send_4 : List UInt8 := dkwX0_send_4 ++ dktX0_send_5
def dkwX0_send_3 : List UInt8 := [54, 4, 21, 4, 155, 0, 32, 42, 180, 0, 106, 44, 180, 1, 149, 29, 46, 16, 8, 21, 4, 104, 122]
abbrev dktX0_send_3 : List UInt8 := dkwX0_send_3 ++ dktX0_send_4
def dkwX0_send_2 : List UInt8 := [182, 1, 143, 42, 180, 0, 106, 44, 180, 1, 146, 29, 46, 182, 1, 143, 44, 180, 1, 146, 29, 46, 4, 100]
abbrev dktX0_send_2 : List UInt8 := dkwX0_send_2 ++ dktX0_send_3
def dkwX0_send_1 : List UInt8 := [182, 1, 143, 3, 62, 29, 44, 180, 0, 203, 162, 0, 137, 42, 180, 0, 106, 44, 180, 1, 144, 29, 46]
abbrev dktX0_send_1 : List UInt8 := dkwX0_send_1 ++ dktX0_send_2
def dkwX0_send_0 : List UInt8 := [42, 27, 4, 182, 0, 180, 77, 42, 180, 0, 106, 3, 182, 1, 43, 42, 180, 0, 106, 44, 180, 0, 203]
abbrev dktX0_send_0 : List UInt8 := dkwX0_send_0 ++ dktX0_send_1
theorem dksX0_send_0 : cX0_send.data.toList.drop 0 = dktX0_send_0 := by decide +kernel
theorem dksX0_send_1 : cX0_send.data.toList.drop 23 = dktX0_send_1 := dk_seg dksX0_send_0 23 rfl rfl
theorem dksX0_send_2 : cX0_send.data.toList.drop 46 = dktX0_send_2 := dk_seg dksX0_send_1 23 rfl rfl
theorem dksX0_send_3 : cX0_send.data.toList.drop 70 = dktX0_send_3 := dk_seg dksX0_send_2 24 rfl rfl
theorem dksX0_send_4 : cX0_send.data.toList.drop 93 = dktX0_send_4 := dk_seg dksX0_send_3 23 rfl rfl
theorem dksX0_send_5 : cX0_send.data.toList.drop 115 = dktX0_send_5 := dk_seg dksX0_send_4 22 rfl rfl
theorem dksX0_send_6 : cX0_send.data.toList.drop 137 = dktX0_send_6 := dk_seg dksX0_send_5 22 rfl rfl
theorem dksX0_send_7 : cX0_send.data.toList.drop 161 = dktX0_send_7 := dk_seg dksX0_send_6 24 rfl rfl
theorem dksX0_send_8 : cX0_send.data.toList.drop 185 = dktX0_send_8 := dk_seg dksX0_send_7 24 rfl rfl
theorem dksX0_send_9 : cX0_send.data.toList.drop 209 = dktX0_send_9 := dk_seg dksX0_send_8 24 rfl rfl
theorem dksX0_send_10 : cX0_send.data.toList.drop 231 = dktX0_send_10 := dk_seg dksX0_send_9 22 rfl rfl
theorem dksX0_send_11 : cX0_send.data.toList.drop 254 = dktX0_send_11 := dk_seg dksX0_send_10 23 rfl rfl
theorem dksX0_send_12 : cX0_send.data.toList.drop 276 = dktX0_send_12 := dk_seg dksX0_send_11 22 rfl rfl
theorem dksX0_send_13 : cX0_send.data.toList.drop 300 = dktX0_send_13 := dk_seg dksX0_send_12 24 rfl rfl
theorem dX0_send_0 : decode cX0_send 0 = .ok (.aload_n 0, 1) := dk_42 (dk_at dksX0_send_0 0 rfl rfl)
theorem dX0_send_1 : decode cX0_send 1 = .ok (.iload_n 1, 1) := dk_27 (dk_at dksX0_send_0 1 rfl rfl)
theorem dX0_send_2 : decode cX0_send 2 = .ok (.iconst 1, 1) := dk_4 (dk_at dksX0_send_0 2 rfl rfl)
theorem dX0_send_3 : decode cX0_send 3 = .ok (.invokevirtual 180, 3) := dk_182 0 180 (dk_at dksX0_send_0 3 rfl rfl)
theorem dX0_send_6 : decode cX0_send 6 = .ok (.astore_n 2, 1) := dk_77 (dk_at dksX0_send_0 6 rfl rfl)
theorem dX0_send_7 : decode cX0_send 7 = .ok (.aload_n 0, 1) := dk_42 (dk_at dksX0_send_0 7 rfl rfl)
theorem dX0_send_8 : decode cX0_send 8 = .ok (.getfield 106, 3) := dk_180 0 106 (dk_at dksX0_send_0 8 rfl rfl)
theorem dX0_send_11 : decode cX0_send 11 = .ok (.iconst 0, 1) := dk_3 (dk_at dksX0_send_0 11 rfl rfl)
theorem dX0_send_12 : decode cX0_send 12 = .ok (.invokevirtual 299, 3) := dk_182 1 43 (dk_at dksX0_send_0 12 rfl rfl)
theorem dX0_send_15 : decode cX0_send 15 = .ok (.aload_n 0, 1) := dk_42 (dk_at dksX0_send_0 15 rfl rfl)
theorem dX0_send_16 : decode cX0_send 16 = .ok (.getfield 106, 3) := dk_180 0 106 (dk_at dksX0_send_0 16 rfl rfl)
theorem dX0_send_19 : decode cX0_send 19 = .ok (.aload_n 2, 1) := dk_44 (dk_at dksX0_send_0 19 rfl rfl)
theorem dX0_send_20 : decode cX0_send 20 = .ok (.getfield 203, 3) := dk_180 0 203 (dk_at dksX0_send_0 20 rfl rfl)
theorem dX0_send_23 : decode cX0_send 23 = .ok (.invokevirtual 399, 3) := dk_182 1 143 (dk_at dksX0_send_1 0 rfl rfl)
theorem dX0_send_26 : decode cX0_send 26 = .ok (.iconst 0, 1) := dk_3 (dk_at dksX0_send_1 3 rfl rfl)
theorem dX0_send_27 : decode cX0_send 27 = .ok (.istore_n 3, 1) := dk_62 (dk_at dksX0_send_1 4 rfl rfl)
theorem dX0_send_28 : decode cX0_send 28 = .ok (.iload_n 3, 1) := dk_29 (dk_at dksX0_send_1 5 rfl rfl)
theorem dX0_send_29 : decode cX0_send 29 = .ok (.aload_n 2, 1) := dk_44 (dk_at dksX0_send_1 6 rfl rfl)
theorem dX0_send_30 : decode cX0_send 30 = .ok (.getfield 203, 3) := dk_180 0 203 (dk_at dksX0_send_1 7 rfl rfl)
theorem dX0_send_33 : decode cX0_send 33 = .ok (.if_icmp .ge 137, 3) := dk_162 0 137 (dk_at dksX0_send_1 10 rfl rfl)
theorem dX0_send_36 : decode cX0_send 36 = .ok (.aload_n 0, 1) := dk_42 (dk_at dksX0_send_1 13 rfl rfl)
theorem dX0_send_37 : decode cX0_send 37 = .ok (.getfield 106, 3) := dk_180 0 106 (dk_at dksX0_send_1 14 rfl rfl)
theorem dX0_send_40 : decode cX0_send 40 = .ok (.aload_n 2, 1) := dk_44 (dk_at dksX0_send_1 17 rfl rfl)
theorem dX0_send_41 : decode cX0_send 41 = .ok (.getfield 400, 3) := dk_180 1 144 (dk_at dksX0_send_1 18 rfl rfl)
theorem dX0_send_44 : decode cX0_send 44 = .ok (.iload_n 3, 1) := dk_29 (dk_at dksX0_send_1 21 rfl rfl)
theorem dX0_send_45 : decode cX0_send 45 = .ok (.iaload, 1) := dk_46 (dk_at dksX0_send_1 22 rfl rfl)
theorem dX0_send_46 : decode cX0_send 46 = .ok (.invokevirtual 399, 3) := dk_182 1 143 (dk_at dksX0_send_2 0 rfl rfl)
theorem dX0_send_49 : decode cX0_send 49 = .ok (.aload_n 0, 1) := dk_42 (dk_at dksX0_send_2 3 rfl rfl)
theorem dX0_send_50 : decode cX0_send 50 = .ok (.getfield 106, 3) := dk_180 0 106 (dk_at dksX0_send_2 4 rfl rfl)
theorem dX0_send_53 : decode cX0_send 53 = .ok (.aload_n 2, 1) := dk_44 (dk_at dksX0_send_2 7 rfl rfl)
theorem dX0_send_54 : decode cX0_send 54 = .ok (.getfield 402, 3) := dk_180 1 146 (dk_at dksX0_send_2 8 rfl rfl)
theorem dX0_send_57 : decode cX0_send 57 = .ok (.iload_n 3, 1) := dk_29 (dk_at dksX0_send_2 11 rfl rfl)
theorem dX0_send_58 : decode cX0_send 58 = .ok (.iaload, 1) := dk_46 (dk_at dksX0_send_2 12 rfl rfl)
theorem dX0_send_59 : decode cX0_send 59 = .ok (.invokevirtual 399, 3) := dk_182 1 143 (dk_at dksX0_send_2 13 rfl rfl)
theorem dX0_send_62 : decode cX0_send 62 = .ok (.aload_n 2, 1) := dk_44 (dk_at dksX0_send_2 16 rfl rfl)
theorem dX0_send_63 : decode cX0_send 63 = .ok (.getfield 402, 3) := dk_180 1 146 (dk_at dksX0_send_2 17 rfl rfl)
theorem dX0_send_66 : decode cX0_send 66 = .ok (.iload_n 3, 1) := dk_29 (dk_at dksX0_send_2 20 rfl rfl)
theorem dX0_send_67 : decode cX0_send 67 = .ok (.iaload, 1) := dk_46 (dk_at dksX0_send_2 21 rfl rfl)
theorem dX0_send_68 : decode cX0_send 68 = .ok (.iconst 1, 1) := dk_4 (dk_at dksX0_send_2 22 rfl rfl)
theorem dX0_send_69 : decode cX0_send 69 = .ok (.isub, 1) := dk_100 (dk_at dksX0_send_2 23 rfl rfl)
theorem dX0_send_70 : decode cX0_send 70 = .ok (.istore 4, 2) := dk_54 4 (dk_at dksX0_send_3 0 rfl rfl)
theorem dX0_send_72 : decode cX0_send 72 = .ok (.iload 4, 2) := dk_21 4 (dk_at dksX0_send_3 2 rfl rfl)
theorem dX0_send_74 : decode cX0_send 74 = .ok (.ifCond .lt 32, 3) := dk_155 0 32 (dk_at dksX0_send_3 4 rfl rfl)
theorem dX0_send_77 : decode cX0_send 77 = .ok (.aload_n 0, 1) := dk_42 (dk_at dksX0_send_3 7 rfl rfl)
theorem dX0_send_78 : decode cX0_send 78 = .ok (.getfield 106, 3) := dk_180 0 106 (dk_at dksX0_send_3 8 rfl rfl)
theorem dX0_send_81 : decode cX0_send 81 = .ok (.aload_n 2, 1) := dk_44 (dk_at dksX0_send_3 11 rfl rfl)
theorem dX0_send_82 : decode cX0_send 82 = .ok (.getfield 405, 3) := dk_180 1 149 (dk_at dksX0_send_3 12 rfl rfl)
theorem dX0_send_85 : decode cX0_send 85 = .ok (.iload_n 3, 1) := dk_29 (dk_at dksX0_send_3 15 rfl rfl)
theorem dX0_send_86 : decode cX0_send 86 = .ok (.iaload, 1) := dk_46 (dk_at dksX0_send_3 16 rfl rfl)
theorem dX0_send_87 : decode cX0_send 87 = .ok (.bipush 8, 2) := dk_16 8 (dk_at dksX0_send_3 17 rfl rfl)
theorem dX0_send_89 : decode cX0_send 89 = .ok (.iload 4, 2) := dk_21 4 (dk_at dksX0_send_3 19 rfl rfl)
theorem dX0_send_91 : decode cX0_send 91 = .ok (.imul, 1) := dk_104 (dk_at dksX0_send_3 21 rfl rfl)
theorem dX0_send_92 : decode cX0_send 92 = .ok (.ishr, 1) := dk_122 (dk_at dksX0_send_3 22 rfl rfl)
theorem dX0_send_93 : decode cX0_send 93 = .ok (.sipush 255, 3) := dk_17 0 255 (dk_at dksX0_send_4 0 rfl rfl)
theorem dX0_send_96 : decode cX0_send 96 = .ok (.iand, 1) := dk_126 (dk_at dksX0_send_4 3 rfl rfl)
theorem dX0_send_97 : decode cX0_send 97 = .ok (.invokevirtual 399, 3) := dk_182 1 143 (dk_at dksX0_send_4 4 rfl rfl)
theorem dX0_send_100 : decode cX0_send 100 = .ok (.iinc 4 (-1), 3) := dk_132 4 255 (dk_at dksX0_send_4 7 rfl rfl)
theorem dX0_send_103 : decode cX0_send 103 = .ok (.goto (-31), 3) := dk_167 255 225 (dk_at dksX0_send_4 10 rfl rfl)
theorem dX0_send_106 : decode cX0_send 106 = .ok (.iconst 2, 1) := dk_5 (dk_at dksX0_send_4 13 rfl rfl)
theorem dX0_send_107 : decode cX0_send 107 = .ok (.istore 4, 2) := dk_54 4 (dk_at dksX0_send_4 14 rfl rfl)
theorem dX0_send_109 : decode cX0_send 109 = .ok (.iload 4, 2) := dk_21 4 (dk_at dksX0_send_4 16 rfl rfl)
theorem dX0_send_111 : decode cX0_send 111 = .ok (.ifCond .lt 32, 3) := dk_155 0 32 (dk_at dksX0_send_4 18 rfl rfl)
theorem dX0_send_114 : decode cX0_send 114 = .ok (.aload_n 0, 1) := dk_42 (dk_at dksX0_send_4 21 rfl rfl)
theorem dX0_send_115 : decode cX0_send 115 = .ok (.getfield 106, 3) := dk_180 0 106 (dk_at dksX0_send_5 0 rfl rfl)
theorem dX0_send_118 : decode cX0_send 118 = .ok (.aload_n 2, 1) := dk_44 (dk_at dksX0_send_5 3 rfl rfl)
theorem dX0_send_119 : decode cX0_send 119 = .ok (.getfield 408, 3) := dk_180 1 152 (dk_at dksX0_send_5 4 rfl rfl)
theorem dX0_send_122 : decode cX0_send 122 = .ok (.iload_n 3, 1) := dk_29 (dk_at dksX0_send_5 7 rfl rfl)
theorem dX0_send_123 : decode cX0_send 123 = .ok (.iaload, 1) := dk_46 (dk_at dksX0_send_5 8 rfl rfl)
theorem dX0_send_124 : decode cX0_send 124 = .ok (.bipush 8, 2) := dk_16 8 (dk_at dksX0_send_5 9 rfl rfl)
theorem dX0_send_126 : decode cX0_send 126 = .ok (.iload 4, 2) := dk_21 4 (dk_at dksX0_send_5 11 rfl rfl)
theorem dX0_send_128 : decode cX0_send 128 = .ok (.imul, 1) := dk_104 (dk_at dksX0_send_5 13 rfl rfl)
theorem dX0_send_129 : decode cX0_send 129 = .ok (.ishr, 1) := dk_122 (dk_at dksX0_send_5 14 rfl rfl)
theorem dX0_send_130 : decode cX0_send 130 = .ok (.sipush 255, 3) := dk_17 0 255 (dk_at dksX0_send_5 15 rfl rfl)
theorem dX0_send_133 : decode cX0_send 133 = .ok (.iand, 1) := dk_126 (dk_at dksX0_send_5 18 rfl rfl)
theorem dX0_send_134 : decode cX0_send 134 = .ok (.invokevirtual 399, 3) := dk_182 1 143 (dk_at dksX0_send_5 19 rfl rfl)
theorem dX0_send_137 : decode cX0_send 137 = .ok (.iinc 4 (-1), 3) := dk_132 4 255 (dk_at dksX0_send_6 0 rfl rfl)
theorem dX0_send_140 : decode cX0_send 140 = .ok (.goto (-31), 3) := dk_167 255 225 (dk_at dksX0_send_6 3 rfl rfl)
theorem dX0_send_143 : decode cX0_send 143 = .ok (.aload_n 0, 1) := dk_42 (dk_at dksX0_send_6 6 rfl rfl)
theorem dX0_send_144 : decode cX0_send 144 = .ok (.getfield 106, 3) := dk_180 0 106 (dk_at dksX0_send_6 7 rfl rfl)
theorem dX0_send_147 : decode cX0_send 147 = .ok (.aload_n 2, 1) := dk_44 (dk_at dksX0_send_6 10 rfl rfl)
theorem dX0_send_148 : decode cX0_send 148 = .ok (.getfield 411, 3) := dk_180 1 155 (dk_at dksX0_send_6 11 rfl rfl)
theorem dX0_send_151 : decode cX0_send 151 = .ok (.iload_n 3, 1) := dk_29 (dk_at dksX0_send_6 14 rfl rfl)
theorem dX0_send_152 : decode cX0_send 152 = .ok (.baload, 1) := dk_51 (dk_at dksX0_send_6 15 rfl rfl)
theorem dX0_send_153 : decode cX0_send 153 = .ok (.ifCond .eq 7, 3) := dk_153 0 7 (dk_at dksX0_send_6 16 rfl rfl)
theorem dX0_send_156 : decode cX0_send 156 = .ok (.iconst 1, 1) := dk_4 (dk_at dksX0_send_6 19 rfl rfl)
theorem dX0_send_157 : decode cX0_send 157 = .ok (.goto 4, 3) := dk_167 0 4 (dk_at dksX0_send_6 20 rfl rfl)
theorem dX0_send_160 : decode cX0_send 160 = .ok (.iconst 0, 1) := dk_3 (dk_at dksX0_send_6 23 rfl rfl)
theorem dX0_send_161 : decode cX0_send 161 = .ok (.invokevirtual 399, 3) := dk_182 1 143 (dk_at dksX0_send_7 0 rfl rfl)
theorem dX0_send_164 : decode cX0_send 164 = .ok (.iinc 3 1, 3) := dk_132 3 1 (dk_at dksX0_send_7 3 rfl rfl)
theorem dX0_send_167 : decode cX0_send 167 = .ok (.goto (-139), 3) := dk_167 255 117 (dk_at dksX0_send_7 6 rfl rfl)
theorem dX0_send_170 : decode cX0_send 170 = .ok (.aload_n 0, 1) := dk_42 (dk_at dksX0_send_7 9 rfl rfl)
theorem dX0_send_171 : decode cX0_send 171 = .ok (.getfield 106, 3) := dk_180 0 106 (dk_at dksX0_send_7 10 rfl rfl)
theorem dX0_send_174 : decode cX0_send 174 = .ok (.aload_n 2, 1) := dk_44 (dk_at dksX0_send_7 13 rfl rfl)
theorem dX0_send_175 : decode cX0_send 175 = .ok (.getfield 214, 3) := dk_180 0 214 (dk_at dksX0_send_7 14 rfl rfl)
theorem dX0_send_178 : decode cX0_send 178 = .ok (.invokevirtual 399, 3) := dk_182 1 143 (dk_at dksX0_send_7 17 rfl rfl)
theorem dX0_send_181 : decode cX0_send 181 = .ok (.iconst 0, 1) := dk_3 (dk_at dksX0_send_7 20 rfl rfl)
theorem dX0_send_182 : decode cX0_send 182 = .ok (.istore_n 3, 1) := dk_62 (dk_at dksX0_send_7 21 rfl rfl)
theorem dX0_send_183 : decode cX0_send 183 = .ok (.iload_n 3, 1) := dk_29 (dk_at dksX0_send_7 22 rfl rfl)
theorem dX0_send_184 : decode cX0_send 184 = .ok (.aload_n 2, 1) := dk_44 (dk_at dksX0_send_7 23 rfl rfl)
theorem dX0_send_185 : decode cX0_send 185 = .ok (.getfield 214, 3) := dk_180 0 214 (dk_at dksX0_send_8 0 rfl rfl)
theorem dX0_send_188 : decode cX0_send 188 = .ok (.if_icmp .ge 69, 3) := dk_162 0 69 (dk_at dksX0_send_8 3 rfl rfl)
theorem dX0_send_191 : decode cX0_send 191 = .ok (.aload_n 0, 1) := dk_42 (dk_at dksX0_send_8 6 rfl rfl)
theorem dX0_send_192 : decode cX0_send 192 = .ok (.getfield 106, 3) := dk_180 0 106 (dk_at dksX0_send_8 7 rfl rfl)
theorem dX0_send_195 : decode cX0_send 195 = .ok (.aload_n 2, 1) := dk_44 (dk_at dksX0_send_8 10 rfl rfl)
theorem dX0_send_196 : decode cX0_send 196 = .ok (.getfield 415, 3) := dk_180 1 159 (dk_at dksX0_send_8 11 rfl rfl)
theorem dX0_send_199 : decode cX0_send 199 = .ok (.iload_n 3, 1) := dk_29 (dk_at dksX0_send_8 14 rfl rfl)
theorem dX0_send_200 : decode cX0_send 200 = .ok (.iaload, 1) := dk_46 (dk_at dksX0_send_8 15 rfl rfl)
theorem dX0_send_201 : decode cX0_send 201 = .ok (.invokevirtual 399, 3) := dk_182 1 143 (dk_at dksX0_send_8 16 rfl rfl)
theorem dX0_send_204 : decode cX0_send 204 = .ok (.aload_n 0, 1) := dk_42 (dk_at dksX0_send_8 19 rfl rfl)
theorem dX0_send_205 : decode cX0_send 205 = .ok (.getfield 106, 3) := dk_180 0 106 (dk_at dksX0_send_8 20 rfl rfl)
theorem dX0_send_208 : decode cX0_send 208 = .ok (.aload_n 2, 1) := dk_44 (dk_at dksX0_send_8 23 rfl rfl)
theorem dX0_send_209 : decode cX0_send 209 = .ok (.getfield 418, 3) := dk_180 1 162 (dk_at dksX0_send_9 0 rfl rfl)
theorem dX0_send_212 : decode cX0_send 212 = .ok (.iload_n 3, 1) := dk_29 (dk_at dksX0_send_9 3 rfl rfl)
theorem dX0_send_213 : decode cX0_send 213 = .ok (.iaload, 1) := dk_46 (dk_at dksX0_send_9 4 rfl rfl)
theorem dX0_send_214 : decode cX0_send 214 = .ok (.invokevirtual 399, 3) := dk_182 1 143 (dk_at dksX0_send_9 5 rfl rfl)
theorem dX0_send_217 : decode cX0_send 217 = .ok (.aload_n 0, 1) := dk_42 (dk_at dksX0_send_9 8 rfl rfl)
theorem dX0_send_218 : decode cX0_send 218 = .ok (.getfield 106, 3) := dk_180 0 106 (dk_at dksX0_send_9 9 rfl rfl)
theorem dX0_send_221 : decode cX0_send 221 = .ok (.aload_n 2, 1) := dk_44 (dk_at dksX0_send_9 12 rfl rfl)
theorem dX0_send_222 : decode cX0_send 222 = .ok (.getfield 421, 3) := dk_180 1 165 (dk_at dksX0_send_9 13 rfl rfl)
theorem dX0_send_225 : decode cX0_send 225 = .ok (.iload_n 3, 1) := dk_29 (dk_at dksX0_send_9 16 rfl rfl)
theorem dX0_send_226 : decode cX0_send 226 = .ok (.iaload, 1) := dk_46 (dk_at dksX0_send_9 17 rfl rfl)
theorem dX0_send_227 : decode cX0_send 227 = .ok (.invokevirtual 399, 3) := dk_182 1 143 (dk_at dksX0_send_9 18 rfl rfl)
theorem dX0_send_230 : decode cX0_send 230 = .ok (.aload_n 0, 1) := dk_42 (dk_at dksX0_send_9 21 rfl rfl)
theorem dX0_send_231 : decode cX0_send 231 = .ok (.getfield 106, 3) := dk_180 0 106 (dk_at dksX0_send_10 0 rfl rfl)
theorem dX0_send_234 : decode cX0_send 234 = .ok (.aload_n 2, 1) := dk_44 (dk_at dksX0_send_10 3 rfl rfl)
theorem dX0_send_235 : decode cX0_send 235 = .ok (.getfield 424, 3) := dk_180 1 168 (dk_at dksX0_send_10 4 rfl rfl)
theorem dX0_send_238 : decode cX0_send 238 = .ok (.iload_n 3, 1) := dk_29 (dk_at dksX0_send_10 7 rfl rfl)
theorem dX0_send_239 : decode cX0_send 239 = .ok (.baload, 1) := dk_51 (dk_at dksX0_send_10 8 rfl rfl)
theorem dX0_send_240 : decode cX0_send 240 = .ok (.ifCond .eq 7, 3) := dk_153 0 7 (dk_at dksX0_send_10 9 rfl rfl)
theorem dX0_send_243 : decode cX0_send 243 = .ok (.iconst 1, 1) := dk_4 (dk_at dksX0_send_10 12 rfl rfl)
theorem dX0_send_244 : decode cX0_send 244 = .ok (.goto 4, 3) := dk_167 0 4 (dk_at dksX0_send_10 13 rfl rfl)
theorem dX0_send_247 : decode cX0_send 247 = .ok (.iconst 0, 1) := dk_3 (dk_at dksX0_send_10 16 rfl rfl)
theorem dX0_send_248 : decode cX0_send 248 = .ok (.invokevirtual 399, 3) := dk_182 1 143 (dk_at dksX0_send_10 17 rfl rfl)
theorem dX0_send_251 : decode cX0_send 251 = .ok (.iinc 3 1, 3) := dk_132 3 1 (dk_at dksX0_send_10 20 rfl rfl)
theorem dX0_send_254 : decode cX0_send 254 = .ok (.goto (-71), 3) := dk_167 255 185 (dk_at dksX0_send_11 0 rfl rfl)
theorem dX0_send_257 : decode cX0_send 257 = .ok (.aload_n 0, 1) := dk_42 (dk_at dksX0_send_11 3 rfl rfl)
theorem dX0_send_258 : decode cX0_send 258 = .ok (.getfield 106, 3) := dk_180 0 106 (dk_at dksX0_send_11 4 rfl rfl)
theorem dX0_send_261 : decode cX0_send 261 = .ok (.getfield 278, 3) := dk_180 1 22 (dk_at dksX0_send_11 7 rfl rfl)
theorem dX0_send_264 : decode cX0_send 264 = .ok (.aload_n 0, 1) := dk_42 (dk_at dksX0_send_11 10 rfl rfl)
theorem dX0_send_265 : decode cX0_send 265 = .ok (.getfield 106, 3) := dk_180 0 106 (dk_at dksX0_send_11 11 rfl rfl)
theorem dX0_send_268 : decode cX0_send 268 = .ok (.getfield 275, 3) := dk_180 1 19 (dk_at dksX0_send_11 14 rfl rfl)
theorem dX0_send_271 : decode cX0_send 271 = .ok (.invokestatic 427, 3) := dk_184 1 171 (dk_at dksX0_send_11 17 rfl rfl)
theorem dX0_send_274 : decode cX0_send 274 = .ok (.istore_n 3, 1) := dk_62 (dk_at dksX0_send_11 20 rfl rfl)
theorem dX0_send_275 : decode cX0_send 275 = .ok (.aload_n 0, 1) := dk_42 (dk_at dksX0_send_11 21 rfl rfl)
theorem dX0_send_276 : decode cX0_send 276 = .ok (.getfield 106, 3) := dk_180 0 106 (dk_at dksX0_send_12 0 rfl rfl)
theorem dX0_send_279 : decode cX0_send 279 = .ok (.iload_n 3, 1) := dk_29 (dk_at dksX0_send_12 3 rfl rfl)
theorem dX0_send_280 : decode cX0_send 280 = .ok (.bipush 8, 2) := dk_16 8 (dk_at dksX0_send_12 4 rfl rfl)
theorem dX0_send_282 : decode cX0_send 282 = .ok (.ishr, 1) := dk_122 (dk_at dksX0_send_12 6 rfl rfl)
theorem dX0_send_283 : decode cX0_send 283 = .ok (.invokevirtual 399, 3) := dk_182 1 143 (dk_at dksX0_send_12 7 rfl rfl)
theorem dX0_send_286 : decode cX0_send 286 = .ok (.aload_n 0, 1) := dk_42 (dk_at dksX0_send_12 10 rfl rfl)
theorem dX0_send_287 : decode cX0_send 287 = .ok (.getfield 106, 3) := dk_180 0 106 (dk_at dksX0_send_12 11 rfl rfl)
theorem dX0_send_290 : decode cX0_send 290 = .ok (.iload_n 3, 1) := dk_29 (dk_at dksX0_send_12 14 rfl rfl)
theorem dX0_send_291 : decode cX0_send 291 = .ok (.sipush 255, 3) := dk_17 0 255 (dk_at dksX0_send_12 15 rfl rfl)
theorem dX0_send_294 : decode cX0_send 294 = .ok (.iand, 1) := dk_126 (dk_at dksX0_send_12 18 rfl rfl)
theorem dX0_send_295 : decode cX0_send 295 = .ok (.invokevirtual 399, 3) := dk_182 1 143 (dk_at dksX0_send_12 19 rfl rfl)
theorem dX0_send_298 : decode cX0_send 298 = .ok (.aload_n 0, 1) := dk_42 (dk_at dksX0_send_12 22 rfl rfl)
theorem dX0_send_299 : decode cX0_send 299 = .ok (.iconst 2, 1) := dk_5 (dk_at dksX0_send_12 23 rfl rfl)
theorem dX0_send_300 : decode cX0_send 300 = .ok (.invokevirtual 306, 3) := dk_182 1 50 (dk_at dksX0_send_13 0 rfl rfl)
theorem dX0_send_303 : decode cX0_send 303 = .ok (.ireturn, 1) := dk_172 (dk_at dksX0_send_13 3 rfl rfl)
theorem dX0_send_304 : decode cX0_send 304 = .ok (.astore_n 2, 1) := dk_77 (dk_at dksX0_send_13 4 rfl rfl)
theorem dX0_send_305 : decode cX0_send 305 = .ok (.aload_n 0, 1) := dk_42 (dk_at dksX0_send_13 5 rfl rfl)
theorem dX0_send_306 : decode cX0_send 306 = .ok (.aload_n 2, 1) := dk_44 (dk_at dksX0_send_13 6 rfl rfl)
theorem dX0_send_307 : decode cX0_send 307 = .ok (.getfield 17, 3) := dk_180 0 17 (dk_at dksX0_send_13 7 rfl rfl)
theorem dX0_send_310 : decode cX0_send 310 = .ok (.invokevirtual 163, 3) := dk_182 0 163 (dk_at dksX0_send_13 10 rfl rfl)
theorem dX0_send_313 : decode cX0_send 313 = .ok (.ireturn, 1) := dk_172 (dk_at dksX0_send_13 13 rfl rfl)
abbrev cX0_sumOf : ByteArray := prog_1_method_57_code
def yX0_sumOf : MethodName := ⟨RX0, "sumOf", "([II)I"⟩
def dkwX0_sumOf_1 : List UInt8 := [132, 3, 1, 167, 255, 234, 28, 172]
abbrev dktX0_sumOf_1 : List UInt8 := dkwX0_sumOf_1 ++ []
def dkwX0_sumOf_0 : List UInt8 := [3, 61, 3, 62, 29, 27, 162, 0, 23, 28, 29, 4, 96, 42, 29, 46, 104, 96, 19, 1, 142, 112, 61]
abbrev dktX0_sumOf_0 : List UInt8 := dkwX0_sumOf_0 ++ dktX0_sumOf_1
theorem dksX0_sumOf_0 : cX0_sumOf.data.toList.drop 0 = dktX0_sumOf_0 := by decide +kernel
theorem dksX0_sumOf_1 : cX0_sumOf.data.toList.drop 23 = dktX0_sumOf_1 := dk_seg dksX0_sumOf_0 23 rfl rfl
theorem dX0_sumOf_0 : decode cX0_sumOf 0 = .ok (.iconst 0, 1) := dk_3 (dk_at dksX0_sumOf_0 0 rfl rfl)
theorem dX0_sumOf_1 : decode cX0_sumOf 1 = .ok (.istore_n 2, 1) := dk_61 (dk_at dksX0_sumOf_0 1 rfl rfl)
theorem dX0_sumOf_2 : decode cX0_sumOf 2 = .ok (.iconst 0, 1) := dk_3 (dk_at dksX0_sumOf_0 2 rfl rfl)
theorem dX0_sumOf_3 : decode cX0_sumOf 3 = .ok (.istore_n 3, 1) := dk_62 (dk_at dksX0_sumOf_0 3 rfl rfl)
theorem dX0_sumOf_4 : decode cX0_sumOf 4 = .ok (.iload_n 3, 1) := dk_29 (dk_at dksX0_sumOf_0 4 rfl rfl)
theorem dX0_sumOf_5 : decode cX0_sumOf 5 = .ok (.iload_n 1, 1) := dk_27 (dk_at dksX0_sumOf_0 5 rfl rfl)
theorem dX0_sumOf_6 : decode cX0_sumOf 6 = .ok (.if_icmp .ge 23, 3) := dk_162 0 23 (dk_at dksX0_sumOf_0 6 rfl rfl)
theorem dX0_sumOf_9 : decode cX0_sumOf 9 = .ok (.iload_n 2, 1) := dk_28 (dk_at dksX0_sumOf_0 9 rfl rfl)
theorem dX0_sumOf_10 : decode cX0_sumOf 10 = .ok (.iload_n 3, 1) := dk_29 (dk_at dksX0_sumOf_0 10 rfl rfl)
theorem dX0_sumOf_11 : decode cX0_sumOf 11 = .ok (.iconst 1, 1) := dk_4 (dk_at dksX0_sumOf_0 11 rfl rfl)
theorem dX0_sumOf_12 : decode cX0_sumOf 12 = .ok (.iadd, 1) := dk_96 (dk_at dksX0_sumOf_0 12 rfl rfl)
theorem dX0_sumOf_13 : decode cX0_sumOf 13 = .ok (.aload_n 0, 1) := dk_42 (dk_at dksX0_sumOf_0 13 rfl rfl)
theorem dX0_sumOf_14 : decode cX0_sumOf 14 = .ok (.iload_n 3, 1) := dk_29 (dk_at dksX0_sumOf_0 14 rfl rfl)
theorem dX0_sumOf_15 : decode cX0_sumOf 15 = .ok (.iaload, 1) := dk_46 (dk_at dksX0_sumOf_0 15 rfl rfl)
theorem dX0_sumOf_16 : decode cX0_sumOf 16 = .ok (.imul, 1) := dk_104 (dk_at dksX0_sumOf_0 16 rfl rfl)
theorem dX0_sumOf_17 : decode cX0_sumOf 17 = .ok (.iadd, 1) := dk_96 (dk_at dksX0_sumOf_0 17 rfl rfl)
theorem dX0_sumOf_18 : decode cX0_sumOf 18 = .ok (.ldc_w 398, 3) := dk_19 1 142 (dk_at dksX0_sumOf_0 18 rfl rfl)
theorem dX0_sumOf_21 : decode cX0_sumOf 21 = .ok (.irem, 1) := dk_112 (dk_at dksX0_sumOf_0 21 rfl rfl)
theorem dX0_sumOf_22 : decode cX0_sumOf 22 = .ok (.istore_n 2, 1) := dk_61 (dk_at dksX0_sumOf_0 22 rfl rfl)
theorem dX0_sumOf_23 : decode cX0_sumOf 23 = .ok (.iinc 3 1, 3) := dk_132 3 1 (dk_at dksX0_sumOf_1 0 rfl rfl)
theorem dX0_sumOf_26 : decode cX0_sumOf 26 = .ok (.goto (-22), 3) := dk_167 255 234 (dk_at dksX0_sumOf_1 3 rfl rfl)
theorem dX0_sumOf_29 : decode cX0_sumOf 29 = .ok (.iload_n 2, 1) := dk_28 (dk_at dksX0_sumOf_1 6 rfl rfl)
theorem dX0_sumOf_30 : decode cX0_sumOf 30 = .ok (.ireturn, 1) := dk_172 (dk_at dksX0_sumOf_1 7 rfl rfl)
abbrev cX0_receive : ByteArray := prog_1_method_62_code
def yX0_receive : MethodName := ⟨RX0, "receive", "()I"⟩
def dkwX0_receive_6 : List UInt8 := [180, 0, 17, 182, 0, 163, 172]
abbrev dktX0_receive_6 : List UInt8 := dkwX0_receive_6 ++ []
def dkwX0_receive_5 : List UInt8 := [42, 187, 0, 42, 89, 183, 0, 44, 181, 0, 45, 43, 182, 0, 248, 42, 43, 182, 0, 176, 172, 76, 42, 43]
abbrev dktX0_receive_5 : List UInt8 := dkwX0_receive_5 ++ dktX0_receive_6
def dkwX0_receive_4 : List UInt8 := [180, 0, 45, 182, 0, 227, 154, 0, 7, 4, 167, 0, 4, 3, 16, 248, 182, 0, 184, 42, 180, 0, 45, 76]
abbrev dktX0_receive_4 : List UInt8 := dkwX0_receive_4 ++ dktX0_receive_5
def dkwX0_receive_3 : List UInt8 := [160, 0, 7, 4, 167, 0, 4, 3, 16, 243, 182, 0, 184, 42, 42, 180, 0, 45, 182, 1, 184, 42, 42]
abbrev dktX0_receive_3 : List UInt8 := dkwX0_receive_3 ++ dktX0_receive_4
def dkwX0_receive_2 : List UInt8 := [42, 180, 1, 6, 5, 100, 46, 17, 1, 0, 104, 42, 180, 0, 49, 42, 180, 1, 6, 4, 100, 46, 96]
abbrev dktX0_receive_2 : List UInt8 := dkwX0_receive_2 ++ dktX0_receive_3
def dkwX0_receive_1 : List UInt8 := [180, 1, 6, 7, 161, 0, 50, 42, 180, 0, 49, 42, 180, 1, 6, 5, 100, 184, 1, 171, 42, 180, 0, 49]
abbrev dktX0_receive_1 : List UInt8 := dkwX0_receive_1 ++ dktX0_receive_2
def dkwX0_receive_0 : List UInt8 := [42, 42, 180, 0, 160, 16, 10, 162, 0, 7, 4, 167, 0, 4, 3, 16, 250, 182, 0, 184, 42, 42]
abbrev dktX0_receive_0 : List UInt8 := dkwX0_receive_0 ++ dktX0_receive_1
theorem dksX0_receive_0 : cX0_receive.data.toList.drop 0 = dktX0_receive_0 := by decide +kernel
theorem dksX0_receive_1 : cX0_receive.data.toList.drop 22 = dktX0_receive_1 := dk_seg dksX0_receive_0 22 rfl rfl
theorem dksX0_receive_2 : cX0_receive.data.toList.drop 46 = dktX0_receive_2 := dk_seg dksX0_receive_1 24 rfl rfl
theorem dksX0_receive_3 : cX0_receive.data.toList.drop 69 = dktX0_receive_3 := dk_seg dksX0_receive_2 23 rfl rfl
theorem dksX0_receive_4 : cX0_receive.data.toList.drop 92 = dktX0_receive_4 := dk_seg dksX0_receive_3 23 rfl rfl
theorem dksX0_receive_5 : cX0_receive.data.toList.drop 116 = dktX0_receive_5 := dk_seg dksX0_receive_4 24 rfl rfl
theorem dksX0_receive_6 : cX0_receive.data.toList.drop 140 = dktX0_receive_6 := dk_seg dksX0_receive_5 24 rfl rfl
theorem dX0_receive_0 : decode cX0_receive 0 = .ok (.aload_n 0, 1) := dk_42 (dk_at dksX0_receive_0 0 rfl rfl)
theorem dX0_receive_1 : decode cX0_receive 1 = .ok (.aload_n 0, 1) := dk_42 (dk_at dksX0_receive_0 1 rfl rfl)
theorem dX0_receive_2 : decode cX0_receive 2 = .ok (.getfield 160, 3) := dk_180 0 160 (dk_at dksX0_receive_0 2 rfl rfl)
theorem dX0_receive_5 : decode cX0_receive 5 = .ok (.bipush 10, 2) := dk_16 10 (dk_at dksX0_receive_0 5 rfl rfl)
theorem dX0_receive_7 : decode cX0_receive 7 = .ok (.if_icmp .ge 7, 3) := dk_162 0 7 (dk_at dksX0_receive_0 7 rfl rfl)
theorem dX0_receive_10 : decode cX0_receive 10 = .ok (.iconst 1, 1) := dk_4 (dk_at dksX0_receive_0 10 rfl rfl)
theorem dX0_receive_11 : decode cX0_receive 11 = .ok (.goto 4, 3) := dk_167 0 4 (dk_at dksX0_receive_0 11 rfl rfl)
theorem dX0_receive_14 : decode cX0_receive 14 = .ok (.iconst 0, 1) := dk_3 (dk_at dksX0_receive_0 14 rfl rfl)
theorem dX0_receive_15 : decode cX0_receive 15 = .ok (.bipush (-6), 2) := dk_16 250 (dk_at dksX0_receive_0 15 rfl rfl)
theorem dX0_receive_17 : decode cX0_receive 17 = .ok (.invokevirtual 184, 3) := dk_182 0 184 (dk_at dksX0_receive_0 17 rfl rfl)
theorem dX0_receive_20 : decode cX0_receive 20 = .ok (.aload_n 0, 1) := dk_42 (dk_at dksX0_receive_0 20 rfl rfl)
theorem dX0_receive_21 : decode cX0_receive 21 = .ok (.aload_n 0, 1) := dk_42 (dk_at dksX0_receive_0 21 rfl rfl)
theorem dX0_receive_22 : decode cX0_receive 22 = .ok (.getfield 262, 3) := dk_180 1 6 (dk_at dksX0_receive_1 0 rfl rfl)
theorem dX0_receive_25 : decode cX0_receive 25 = .ok (.iconst 4, 1) := dk_7 (dk_at dksX0_receive_1 3 rfl rfl)
theorem dX0_receive_26 : decode cX0_receive 26 = .ok (.if_icmp .lt 50, 3) := dk_161 0 50 (dk_at dksX0_receive_1 4 rfl rfl)
theorem dX0_receive_29 : decode cX0_receive 29 = .ok (.aload_n 0, 1) := dk_42 (dk_at dksX0_receive_1 7 rfl rfl)
theorem dX0_receive_30 : decode cX0_receive 30 = .ok (.getfield 49, 3) := dk_180 0 49 (dk_at dksX0_receive_1 8 rfl rfl)
theorem dX0_receive_33 : decode cX0_receive 33 = .ok (.aload_n 0, 1) := dk_42 (dk_at dksX0_receive_1 11 rfl rfl)
theorem dX0_receive_34 : decode cX0_receive 34 = .ok (.getfield 262, 3) := dk_180 1 6 (dk_at dksX0_receive_1 12 rfl rfl)
theorem dX0_receive_37 : decode cX0_receive 37 = .ok (.iconst 2, 1) := dk_5 (dk_at dksX0_receive_1 15 rfl rfl)
theorem dX0_receive_38 : decode cX0_receive 38 = .ok (.isub, 1) := dk_100 (dk_at dksX0_receive_1 16 rfl rfl)
theorem dX0_receive_39 : decode cX0_receive 39 = .ok (.invokestatic 427, 3) := dk_184 1 171 (dk_at dksX0_receive_1 17 rfl rfl)
theorem dX0_receive_42 : decode cX0_receive 42 = .ok (.aload_n 0, 1) := dk_42 (dk_at dksX0_receive_1 20 rfl rfl)
theorem dX0_receive_43 : decode cX0_receive 43 = .ok (.getfield 49, 3) := dk_180 0 49 (dk_at dksX0_receive_1 21 rfl rfl)
theorem dX0_receive_46 : decode cX0_receive 46 = .ok (.aload_n 0, 1) := dk_42 (dk_at dksX0_receive_2 0 rfl rfl)
theorem dX0_receive_47 : decode cX0_receive 47 = .ok (.getfield 262, 3) := dk_180 1 6 (dk_at dksX0_receive_2 1 rfl rfl)
theorem dX0_receive_50 : decode cX0_receive 50 = .ok (.iconst 2, 1) := dk_5 (dk_at dksX0_receive_2 4 rfl rfl)
theorem dX0_receive_51 : decode cX0_receive 51 = .ok (.isub, 1) := dk_100 (dk_at dksX0_receive_2 5 rfl rfl)
theorem dX0_receive_52 : decode cX0_receive 52 = .ok (.iaload, 1) := dk_46 (dk_at dksX0_receive_2 6 rfl rfl)
theorem dX0_receive_53 : decode cX0_receive 53 = .ok (.sipush 256, 3) := dk_17 1 0 (dk_at dksX0_receive_2 7 rfl rfl)
theorem dX0_receive_56 : decode cX0_receive 56 = .ok (.imul, 1) := dk_104 (dk_at dksX0_receive_2 10 rfl rfl)
theorem dX0_receive_57 : decode cX0_receive 57 = .ok (.aload_n 0, 1) := dk_42 (dk_at dksX0_receive_2 11 rfl rfl)
theorem dX0_receive_58 : decode cX0_receive 58 = .ok (.getfield 49, 3) := dk_180 0 49 (dk_at dksX0_receive_2 12 rfl rfl)
theorem dX0_receive_61 : decode cX0_receive 61 = .ok (.aload_n 0, 1) := dk_42 (dk_at dksX0_receive_2 15 rfl rfl)
theorem dX0_receive_62 : decode cX0_receive 62 = .ok (.getfield 262, 3) := dk_180 1 6 (dk_at dksX0_receive_2 16 rfl rfl)
theorem dX0_receive_65 : decode cX0_receive 65 = .ok (.iconst 1, 1) := dk_4 (dk_at dksX0_receive_2 19 rfl rfl)
theorem dX0_receive_66 : decode cX0_receive 66 = .ok (.isub, 1) := dk_100 (dk_at dksX0_receive_2 20 rfl rfl)
theorem dX0_receive_67 : decode cX0_receive 67 = .ok (.iaload, 1) := dk_46 (dk_at dksX0_receive_2 21 rfl rfl)
theorem dX0_receive_68 : decode cX0_receive 68 = .ok (.iadd, 1) := dk_96 (dk_at dksX0_receive_2 22 rfl rfl)
theorem dX0_receive_69 : decode cX0_receive 69 = .ok (.if_icmp .ne 7, 3) := dk_160 0 7 (dk_at dksX0_receive_3 0 rfl rfl)
theorem dX0_receive_72 : decode cX0_receive 72 = .ok (.iconst 1, 1) := dk_4 (dk_at dksX0_receive_3 3 rfl rfl)
theorem dX0_receive_73 : decode cX0_receive 73 = .ok (.goto 4, 3) := dk_167 0 4 (dk_at dksX0_receive_3 4 rfl rfl)
theorem dX0_receive_76 : decode cX0_receive 76 = .ok (.iconst 0, 1) := dk_3 (dk_at dksX0_receive_3 7 rfl rfl)
theorem dX0_receive_77 : decode cX0_receive 77 = .ok (.bipush (-13), 2) := dk_16 243 (dk_at dksX0_receive_3 8 rfl rfl)
theorem dX0_receive_79 : decode cX0_receive 79 = .ok (.invokevirtual 184, 3) := dk_182 0 184 (dk_at dksX0_receive_3 10 rfl rfl)
theorem dX0_receive_82 : decode cX0_receive 82 = .ok (.aload_n 0, 1) := dk_42 (dk_at dksX0_receive_3 13 rfl rfl)
theorem dX0_receive_83 : decode cX0_receive 83 = .ok (.aload_n 0, 1) := dk_42 (dk_at dksX0_receive_3 14 rfl rfl)
theorem dX0_receive_84 : decode cX0_receive 84 = .ok (.getfield 45, 3) := dk_180 0 45 (dk_at dksX0_receive_3 15 rfl rfl)
theorem dX0_receive_87 : decode cX0_receive 87 = .ok (.invokevirtual 440, 3) := dk_182 1 184 (dk_at dksX0_receive_3 18 rfl rfl)
theorem dX0_receive_90 : decode cX0_receive 90 = .ok (.aload_n 0, 1) := dk_42 (dk_at dksX0_receive_3 21 rfl rfl)
theorem dX0_receive_91 : decode cX0_receive 91 = .ok (.aload_n 0, 1) := dk_42 (dk_at dksX0_receive_3 22 rfl rfl)
theorem dX0_receive_92 : decode cX0_receive 92 = .ok (.getfield 45, 3) := dk_180 0 45 (dk_at dksX0_receive_4 0 rfl rfl)
theorem dX0_receive_95 : decode cX0_receive 95 = .ok (.invokevirtual 227, 3) := dk_182 0 227 (dk_at dksX0_receive_4 3 rfl rfl)
theorem dX0_receive_98 : decode cX0_receive 98 = .ok (.ifCond .ne 7, 3) := dk_154 0 7 (dk_at dksX0_receive_4 6 rfl rfl)
theorem dX0_receive_101 : decode cX0_receive 101 = .ok (.iconst 1, 1) := dk_4 (dk_at dksX0_receive_4 9 rfl rfl)
theorem dX0_receive_102 : decode cX0_receive 102 = .ok (.goto 4, 3) := dk_167 0 4 (dk_at dksX0_receive_4 10 rfl rfl)
theorem dX0_receive_105 : decode cX0_receive 105 = .ok (.iconst 0, 1) := dk_3 (dk_at dksX0_receive_4 13 rfl rfl)
theorem dX0_receive_106 : decode cX0_receive 106 = .ok (.bipush (-8), 2) := dk_16 248 (dk_at dksX0_receive_4 14 rfl rfl)
theorem dX0_receive_108 : decode cX0_receive 108 = .ok (.invokevirtual 184, 3) := dk_182 0 184 (dk_at dksX0_receive_4 16 rfl rfl)
theorem dX0_receive_111 : decode cX0_receive 111 = .ok (.aload_n 0, 1) := dk_42 (dk_at dksX0_receive_4 19 rfl rfl)
theorem dX0_receive_112 : decode cX0_receive 112 = .ok (.getfield 45, 3) := dk_180 0 45 (dk_at dksX0_receive_4 20 rfl rfl)
theorem dX0_receive_115 : decode cX0_receive 115 = .ok (.astore_n 1, 1) := dk_76 (dk_at dksX0_receive_4 23 rfl rfl)
theorem dX0_receive_116 : decode cX0_receive 116 = .ok (.aload_n 0, 1) := dk_42 (dk_at dksX0_receive_5 0 rfl rfl)
theorem dX0_receive_117 : decode cX0_receive 117 = .ok (.new 42, 3) := dk_187 0 42 (dk_at dksX0_receive_5 1 rfl rfl)
theorem dX0_receive_120 : decode cX0_receive 120 = .ok (.dup, 1) := dk_89 (dk_at dksX0_receive_5 4 rfl rfl)
theorem dX0_receive_121 : decode cX0_receive 121 = .ok (.invokespecial 44, 3) := dk_183 0 44 (dk_at dksX0_receive_5 5 rfl rfl)
theorem dX0_receive_124 : decode cX0_receive 124 = .ok (.putfield 45, 3) := dk_181 0 45 (dk_at dksX0_receive_5 8 rfl rfl)
theorem dX0_receive_127 : decode cX0_receive 127 = .ok (.aload_n 1, 1) := dk_43 (dk_at dksX0_receive_5 11 rfl rfl)
theorem dX0_receive_128 : decode cX0_receive 128 = .ok (.invokevirtual 248, 3) := dk_182 0 248 (dk_at dksX0_receive_5 12 rfl rfl)
theorem dX0_receive_131 : decode cX0_receive 131 = .ok (.aload_n 0, 1) := dk_42 (dk_at dksX0_receive_5 15 rfl rfl)
theorem dX0_receive_132 : decode cX0_receive 132 = .ok (.aload_n 1, 1) := dk_43 (dk_at dksX0_receive_5 16 rfl rfl)
theorem dX0_receive_133 : decode cX0_receive 133 = .ok (.invokevirtual 176, 3) := dk_182 0 176 (dk_at dksX0_receive_5 17 rfl rfl)
theorem dX0_receive_136 : decode cX0_receive 136 = .ok (.ireturn, 1) := dk_172 (dk_at dksX0_receive_5 20 rfl rfl)
theorem dX0_receive_137 : decode cX0_receive 137 = .ok (.astore_n 1, 1) := dk_76 (dk_at dksX0_receive_5 21 rfl rfl)
theorem dX0_receive_138 : decode cX0_receive 138 = .ok (.aload_n 0, 1) := dk_42 (dk_at dksX0_receive_5 22 rfl rfl)
theorem dX0_receive_139 : decode cX0_receive 139 = .ok (.aload_n 1, 1) := dk_43 (dk_at dksX0_receive_5 23 rfl rfl)
theorem dX0_receive_140 : decode cX0_receive 140 = .ok (.getfield 17, 3) := dk_180 0 17 (dk_at dksX0_receive_6 0 rfl rfl)
theorem dX0_receive_143 : decode cX0_receive 143 = .ok (.invokevirtual 163, 3) := dk_182 0 163 (dk_at dksX0_receive_6 3 rfl rfl)
theorem dX0_receive_146 : decode cX0_receive 146 = .ok (.ireturn, 1) := dk_172 (dk_at dksX0_receive_6 6 rfl rfl)
abbrev cX0_takeIn : ByteArray := prog_1_method_61_code
def yX0_takeIn : MethodName := ⟨RX0, "takeIn", "(LCodeExchange$Table;)V"⟩
def dkwX0_takeIn_11 : List UInt8 := [100, 160, 0, 7, 4, 167, 0, 4, 3, 16, 248, 182, 0, 184, 177]
abbrev dktX0_takeIn_11 : List UInt8 := dkwX0_takeIn_11 ++ []
def dkwX0_takeIn_10 : List UInt8 := [180, 0, 214, 4, 96, 181, 0, 214, 132, 3, 1, 167, 255, 157, 42, 42, 180, 1, 175, 42, 180, 1, 6, 5]
abbrev dktX0_takeIn_10 : List UInt8 := dkwX0_takeIn_10 ++ dktX0_takeIn_11
def dkwX0_takeIn_9 : List UInt8 := [21, 6, 42, 3, 4, 182, 1, 178, 4, 160, 0, 7, 4, 167, 0, 4, 3, 182, 0, 217, 43, 89]
abbrev dktX0_takeIn_9 : List UInt8 := dkwX0_takeIn_9 ++ dktX0_takeIn_10
def dkwX0_takeIn_8 : List UInt8 := [21, 5, 182, 0, 210, 156, 0, 7, 4, 167, 0, 4, 3, 16, 248, 182, 0, 184, 43, 29, 21, 4, 21, 5]
abbrev dktX0_takeIn_8 : List UInt8 := dkwX0_takeIn_8 ++ dktX0_takeIn_9
def dkwX0_takeIn_7 : List UInt8 := [182, 1, 178, 54, 5, 42, 3, 6, 182, 1, 178, 54, 6, 42, 21, 4, 21, 6, 159, 0, 18, 43, 21, 4]
abbrev dktX0_takeIn_7 : List UInt8 := dkwX0_takeIn_7 ++ dktX0_takeIn_8
def dkwX0_takeIn_6 : List UInt8 := [182, 1, 178, 61, 3, 62, 29, 28, 162, 0, 100, 42, 3, 6, 182, 1, 178, 54, 4, 42, 3, 17, 0, 255]
abbrev dktX0_takeIn_6 : List UInt8 := dkwX0_takeIn_6 ++ dktX0_takeIn_7
def dkwX0_takeIn_5 : List UInt8 := [182, 0, 206, 43, 89, 180, 0, 203, 4, 96, 181, 0, 203, 132, 3, 1, 167, 255, 147, 42, 3, 16, 10]
abbrev dktX0_takeIn_5 : List UInt8 := dkwX0_takeIn_5 ++ dktX0_takeIn_6
def dkwX0_takeIn_4 : List UInt8 := [21, 4, 21, 6, 21, 5, 21, 7, 42, 3, 4, 182, 1, 178, 4, 160, 0, 7, 4, 167, 0, 4, 3]
abbrev dktX0_takeIn_4 : List UInt8 := dkwX0_takeIn_4 ++ dktX0_takeIn_5
def dkwX0_takeIn_3 : List UInt8 := [21, 4, 21, 6, 21, 5, 182, 0, 199, 156, 0, 7, 4, 167, 0, 4, 3, 16, 248, 182, 0, 184, 43, 29]
abbrev dktX0_takeIn_3 : List UInt8 := dkwX0_takeIn_3 ++ dktX0_takeIn_4
def dkwX0_takeIn_2 : List UInt8 := [21, 5, 182, 1, 181, 54, 6, 42, 6, 182, 1, 181, 54, 7, 42, 21, 7, 184, 0, 195, 153, 0, 20, 43]
abbrev dktX0_takeIn_2 : List UInt8 := dkwX0_takeIn_2 ++ dktX0_takeIn_3
def dkwX0_takeIn_1 : List UInt8 := [62, 29, 28, 162, 0, 110, 42, 3, 6, 182, 1, 178, 54, 4, 42, 4, 6, 182, 1, 178, 54, 5, 42]
abbrev dktX0_takeIn_1 : List UInt8 := dkwX0_takeIn_1 ++ dktX0_takeIn_2
def dkwX0_takeIn_0 : List UInt8 := [43, 3, 181, 0, 203, 43, 3, 181, 0, 214, 42, 3, 181, 1, 175, 42, 3, 16, 100, 182, 1, 178, 61, 3]
abbrev dktX0_takeIn_0 : List UInt8 := dkwX0_takeIn_0 ++ dktX0_takeIn_1
theorem dksX0_takeIn_0 : cX0_takeIn.data.toList.drop 0 = dktX0_takeIn_0 := by decide +kernel
theorem dksX0_takeIn_1 : cX0_takeIn.data.toList.drop 24 = dktX0_takeIn_1 := dk_seg dksX0_takeIn_0 24 rfl rfl
theorem dksX0_takeIn_2 : cX0_takeIn.data.toList.drop 47 = dktX0_takeIn_2 := dk_seg dksX0_takeIn_1 23 rfl rfl
theorem dksX0_takeIn_3 : cX0_takeIn.data.toList.drop 71 = dktX0_takeIn_3 := dk_seg dksX0_takeIn_2 24 rfl rfl
theorem dksX0_takeIn_4 : cX0_takeIn.data.toList.drop 95 = dktX0_takeIn_4 := dk_seg dksX0_takeIn_3 24 rfl rfl
theorem dksX0_takeIn_5 : cX0_takeIn.data.toList.drop 118 = dktX0_takeIn_5 := dk_seg dksX0_takeIn_4 23 rfl rfl
theorem dksX0_takeIn_6 : cX0_takeIn.data.toList.drop 141 = dktX0_takeIn_6 := dk_seg dksX0_takeIn_5 23 rfl rfl
theorem dksX0_takeIn_7 : cX0_takeIn.data.toList.drop 165 = dktX0_takeIn_7 := dk_seg dksX0_takeIn_6 24 rfl rfl
theorem dksX0_takeIn_8 : cX0_takeIn.data.toList.drop 189 = dktX0_takeIn_8 := dk_seg dksX0_takeIn_7 24 rfl rfl
theorem dksX0_takeIn_9 : cX0_takeIn.data.toList.drop 213 = dktX0_takeIn_9 := dk_seg dksX0_takeIn_8 24 rfl rfl
theorem dksX0_takeIn_10 : cX0_takeIn.data.toList.drop 235 = dktX0_takeIn_10 := dk_seg dksX0_takeIn_9 22 rfl rfl
theorem dksX0_takeIn_11 : cX0_takeIn.data.toList.drop 259 = dktX0_takeIn_11 := dk_seg dksX0_takeIn_10 24 rfl rfl
theorem dX0_takeIn_0 : decode cX0_takeIn 0 = .ok (.aload_n 1, 1) := dk_43 (dk_at dksX0_takeIn_0 0 rfl rfl)
theorem dX0_takeIn_1 : decode cX0_takeIn 1 = .ok (.iconst 0, 1) := dk_3 (dk_at dksX0_takeIn_0 1 rfl rfl)
theorem dX0_takeIn_2 : decode cX0_takeIn 2 = .ok (.putfield 203, 3) := dk_181 0 203 (dk_at dksX0_takeIn_0 2 rfl rfl)
theorem dX0_takeIn_5 : decode cX0_takeIn 5 = .ok (.aload_n 1, 1) := dk_43 (dk_at dksX0_takeIn_0 5 rfl rfl)
theorem dX0_takeIn_6 : decode cX0_takeIn 6 = .ok (.iconst 0, 1) := dk_3 (dk_at dksX0_takeIn_0 6 rfl rfl)
theorem dX0_takeIn_7 : decode cX0_takeIn 7 = .ok (.putfield 214, 3) := dk_181 0 214 (dk_at dksX0_takeIn_0 7 rfl rfl)
theorem dX0_takeIn_10 : decode cX0_takeIn 10 = .ok (.aload_n 0, 1) := dk_42 (dk_at dksX0_takeIn_0 10 rfl rfl)
theorem dX0_takeIn_11 : decode cX0_takeIn 11 = .ok (.iconst 0, 1) := dk_3 (dk_at dksX0_takeIn_0 11 rfl rfl)
theorem dX0_takeIn_12 : decode cX0_takeIn 12 = .ok (.putfield 431, 3) := dk_181 1 175 (dk_at dksX0_takeIn_0 12 rfl rfl)
theorem dX0_takeIn_15 : decode cX0_takeIn 15 = .ok (.aload_n 0, 1) := dk_42 (dk_at dksX0_takeIn_0 15 rfl rfl)
theorem dX0_takeIn_16 : decode cX0_takeIn 16 = .ok (.iconst 0, 1) := dk_3 (dk_at dksX0_takeIn_0 16 rfl rfl)
theorem dX0_takeIn_17 : decode cX0_takeIn 17 = .ok (.bipush 100, 2) := dk_16 100 (dk_at dksX0_takeIn_0 17 rfl rfl)
theorem dX0_takeIn_19 : decode cX0_takeIn 19 = .ok (.invokevirtual 434, 3) := dk_182 1 178 (dk_at dksX0_takeIn_0 19 rfl rfl)
theorem dX0_takeIn_22 : decode cX0_takeIn 22 = .ok (.istore_n 2, 1) := dk_61 (dk_at dksX0_takeIn_0 22 rfl rfl)
theorem dX0_takeIn_23 : decode cX0_takeIn 23 = .ok (.iconst 0, 1) := dk_3 (dk_at dksX0_takeIn_0 23 rfl rfl)
theorem dX0_takeIn_24 : decode cX0_takeIn 24 = .ok (.istore_n 3, 1) := dk_62 (dk_at dksX0_takeIn_1 0 rfl rfl)
theorem dX0_takeIn_25 : decode cX0_takeIn 25 = .ok (.iload_n 3, 1) := dk_29 (dk_at dksX0_takeIn_1 1 rfl rfl)
theorem dX0_takeIn_26 : decode cX0_takeIn 26 = .ok (.iload_n 2, 1) := dk_28 (dk_at dksX0_takeIn_1 2 rfl rfl)
theorem dX0_takeIn_27 : decode cX0_takeIn 27 = .ok (.if_icmp .ge 110, 3) := dk_162 0 110 (dk_at dksX0_takeIn_1 3 rfl rfl)
theorem dX0_takeIn_30 : decode cX0_takeIn 30 = .ok (.aload_n 0, 1) := dk_42 (dk_at dksX0_takeIn_1 6 rfl rfl)
theorem dX0_takeIn_31 : decode cX0_takeIn 31 = .ok (.iconst 0, 1) := dk_3 (dk_at dksX0_takeIn_1 7 rfl rfl)
theorem dX0_takeIn_32 : decode cX0_takeIn 32 = .ok (.iconst 3, 1) := dk_6 (dk_at dksX0_takeIn_1 8 rfl rfl)
theorem dX0_takeIn_33 : decode cX0_takeIn 33 = .ok (.invokevirtual 434, 3) := dk_182 1 178 (dk_at dksX0_takeIn_1 9 rfl rfl)
theorem dX0_takeIn_36 : decode cX0_takeIn 36 = .ok (.istore 4, 2) := dk_54 4 (dk_at dksX0_takeIn_1 12 rfl rfl)
theorem dX0_takeIn_38 : decode cX0_takeIn 38 = .ok (.aload_n 0, 1) := dk_42 (dk_at dksX0_takeIn_1 14 rfl rfl)
theorem dX0_takeIn_39 : decode cX0_takeIn 39 = .ok (.iconst 1, 1) := dk_4 (dk_at dksX0_takeIn_1 15 rfl rfl)
theorem dX0_takeIn_40 : decode cX0_takeIn 40 = .ok (.iconst 3, 1) := dk_6 (dk_at dksX0_takeIn_1 16 rfl rfl)
theorem dX0_takeIn_41 : decode cX0_takeIn 41 = .ok (.invokevirtual 434, 3) := dk_182 1 178 (dk_at dksX0_takeIn_1 17 rfl rfl)
theorem dX0_takeIn_44 : decode cX0_takeIn 44 = .ok (.istore 5, 2) := dk_54 5 (dk_at dksX0_takeIn_1 20 rfl rfl)
theorem dX0_takeIn_46 : decode cX0_takeIn 46 = .ok (.aload_n 0, 1) := dk_42 (dk_at dksX0_takeIn_1 22 rfl rfl)
theorem dX0_takeIn_47 : decode cX0_takeIn 47 = .ok (.iload 5, 2) := dk_21 5 (dk_at dksX0_takeIn_2 0 rfl rfl)
theorem dX0_takeIn_49 : decode cX0_takeIn 49 = .ok (.invokevirtual 437, 3) := dk_182 1 181 (dk_at dksX0_takeIn_2 2 rfl rfl)
theorem dX0_takeIn_52 : decode cX0_takeIn 52 = .ok (.istore 6, 2) := dk_54 6 (dk_at dksX0_takeIn_2 5 rfl rfl)
theorem dX0_takeIn_54 : decode cX0_takeIn 54 = .ok (.aload_n 0, 1) := dk_42 (dk_at dksX0_takeIn_2 7 rfl rfl)
theorem dX0_takeIn_55 : decode cX0_takeIn 55 = .ok (.iconst 3, 1) := dk_6 (dk_at dksX0_takeIn_2 8 rfl rfl)
theorem dX0_takeIn_56 : decode cX0_takeIn 56 = .ok (.invokevirtual 437, 3) := dk_182 1 181 (dk_at dksX0_takeIn_2 9 rfl rfl)
theorem dX0_takeIn_59 : decode cX0_takeIn 59 = .ok (.istore 7, 2) := dk_54 7 (dk_at dksX0_takeIn_2 12 rfl rfl)
theorem dX0_takeIn_61 : decode cX0_takeIn 61 = .ok (.aload_n 0, 1) := dk_42 (dk_at dksX0_takeIn_2 14 rfl rfl)
theorem dX0_takeIn_62 : decode cX0_takeIn 62 = .ok (.iload 7, 2) := dk_21 7 (dk_at dksX0_takeIn_2 15 rfl rfl)
theorem dX0_takeIn_64 : decode cX0_takeIn 64 = .ok (.invokestatic 195, 3) := dk_184 0 195 (dk_at dksX0_takeIn_2 17 rfl rfl)
theorem dX0_takeIn_67 : decode cX0_takeIn 67 = .ok (.ifCond .eq 20, 3) := dk_153 0 20 (dk_at dksX0_takeIn_2 20 rfl rfl)
theorem dX0_takeIn_70 : decode cX0_takeIn 70 = .ok (.aload_n 1, 1) := dk_43 (dk_at dksX0_takeIn_2 23 rfl rfl)
theorem dX0_takeIn_71 : decode cX0_takeIn 71 = .ok (.iload 4, 2) := dk_21 4 (dk_at dksX0_takeIn_3 0 rfl rfl)
theorem dX0_takeIn_73 : decode cX0_takeIn 73 = .ok (.iload 6, 2) := dk_21 6 (dk_at dksX0_takeIn_3 2 rfl rfl)
theorem dX0_takeIn_75 : decode cX0_takeIn 75 = .ok (.iload 5, 2) := dk_21 5 (dk_at dksX0_takeIn_3 4 rfl rfl)
theorem dX0_takeIn_77 : decode cX0_takeIn 77 = .ok (.invokevirtual 199, 3) := dk_182 0 199 (dk_at dksX0_takeIn_3 6 rfl rfl)
theorem dX0_takeIn_80 : decode cX0_takeIn 80 = .ok (.ifCond .ge 7, 3) := dk_156 0 7 (dk_at dksX0_takeIn_3 9 rfl rfl)
theorem dX0_takeIn_83 : decode cX0_takeIn 83 = .ok (.iconst 1, 1) := dk_4 (dk_at dksX0_takeIn_3 12 rfl rfl)
theorem dX0_takeIn_84 : decode cX0_takeIn 84 = .ok (.goto 4, 3) := dk_167 0 4 (dk_at dksX0_takeIn_3 13 rfl rfl)
theorem dX0_takeIn_87 : decode cX0_takeIn 87 = .ok (.iconst 0, 1) := dk_3 (dk_at dksX0_takeIn_3 16 rfl rfl)
theorem dX0_takeIn_88 : decode cX0_takeIn 88 = .ok (.bipush (-8), 2) := dk_16 248 (dk_at dksX0_takeIn_3 17 rfl rfl)
theorem dX0_takeIn_90 : decode cX0_takeIn 90 = .ok (.invokevirtual 184, 3) := dk_182 0 184 (dk_at dksX0_takeIn_3 19 rfl rfl)
theorem dX0_takeIn_93 : decode cX0_takeIn 93 = .ok (.aload_n 1, 1) := dk_43 (dk_at dksX0_takeIn_3 22 rfl rfl)
theorem dX0_takeIn_94 : decode cX0_takeIn 94 = .ok (.iload_n 3, 1) := dk_29 (dk_at dksX0_takeIn_3 23 rfl rfl)
theorem dX0_takeIn_95 : decode cX0_takeIn 95 = .ok (.iload 4, 2) := dk_21 4 (dk_at dksX0_takeIn_4 0 rfl rfl)
theorem dX0_takeIn_97 : decode cX0_takeIn 97 = .ok (.iload 6, 2) := dk_21 6 (dk_at dksX0_takeIn_4 2 rfl rfl)
theorem dX0_takeIn_99 : decode cX0_takeIn 99 = .ok (.iload 5, 2) := dk_21 5 (dk_at dksX0_takeIn_4 4 rfl rfl)
theorem dX0_takeIn_101 : decode cX0_takeIn 101 = .ok (.iload 7, 2) := dk_21 7 (dk_at dksX0_takeIn_4 6 rfl rfl)
theorem dX0_takeIn_103 : decode cX0_takeIn 103 = .ok (.aload_n 0, 1) := dk_42 (dk_at dksX0_takeIn_4 8 rfl rfl)
theorem dX0_takeIn_104 : decode cX0_takeIn 104 = .ok (.iconst 0, 1) := dk_3 (dk_at dksX0_takeIn_4 9 rfl rfl)
theorem dX0_takeIn_105 : decode cX0_takeIn 105 = .ok (.iconst 1, 1) := dk_4 (dk_at dksX0_takeIn_4 10 rfl rfl)
theorem dX0_takeIn_106 : decode cX0_takeIn 106 = .ok (.invokevirtual 434, 3) := dk_182 1 178 (dk_at dksX0_takeIn_4 11 rfl rfl)
theorem dX0_takeIn_109 : decode cX0_takeIn 109 = .ok (.iconst 1, 1) := dk_4 (dk_at dksX0_takeIn_4 14 rfl rfl)
theorem dX0_takeIn_110 : decode cX0_takeIn 110 = .ok (.if_icmp .ne 7, 3) := dk_160 0 7 (dk_at dksX0_takeIn_4 15 rfl rfl)
theorem dX0_takeIn_113 : decode cX0_takeIn 113 = .ok (.iconst 1, 1) := dk_4 (dk_at dksX0_takeIn_4 18 rfl rfl)
theorem dX0_takeIn_114 : decode cX0_takeIn 114 = .ok (.goto 4, 3) := dk_167 0 4 (dk_at dksX0_takeIn_4 19 rfl rfl)
theorem dX0_takeIn_117 : decode cX0_takeIn 117 = .ok (.iconst 0, 1) := dk_3 (dk_at dksX0_takeIn_4 22 rfl rfl)
theorem dX0_takeIn_118 : decode cX0_takeIn 118 = .ok (.invokevirtual 206, 3) := dk_182 0 206 (dk_at dksX0_takeIn_5 0 rfl rfl)
theorem dX0_takeIn_121 : decode cX0_takeIn 121 = .ok (.aload_n 1, 1) := dk_43 (dk_at dksX0_takeIn_5 3 rfl rfl)
theorem dX0_takeIn_122 : decode cX0_takeIn 122 = .ok (.dup, 1) := dk_89 (dk_at dksX0_takeIn_5 4 rfl rfl)
theorem dX0_takeIn_123 : decode cX0_takeIn 123 = .ok (.getfield 203, 3) := dk_180 0 203 (dk_at dksX0_takeIn_5 5 rfl rfl)
theorem dX0_takeIn_126 : decode cX0_takeIn 126 = .ok (.iconst 1, 1) := dk_4 (dk_at dksX0_takeIn_5 8 rfl rfl)
theorem dX0_takeIn_127 : decode cX0_takeIn 127 = .ok (.iadd, 1) := dk_96 (dk_at dksX0_takeIn_5 9 rfl rfl)
theorem dX0_takeIn_128 : decode cX0_takeIn 128 = .ok (.putfield 203, 3) := dk_181 0 203 (dk_at dksX0_takeIn_5 10 rfl rfl)
theorem dX0_takeIn_131 : decode cX0_takeIn 131 = .ok (.iinc 3 1, 3) := dk_132 3 1 (dk_at dksX0_takeIn_5 13 rfl rfl)
theorem dX0_takeIn_134 : decode cX0_takeIn 134 = .ok (.goto (-109), 3) := dk_167 255 147 (dk_at dksX0_takeIn_5 16 rfl rfl)
theorem dX0_takeIn_137 : decode cX0_takeIn 137 = .ok (.aload_n 0, 1) := dk_42 (dk_at dksX0_takeIn_5 19 rfl rfl)
theorem dX0_takeIn_138 : decode cX0_takeIn 138 = .ok (.iconst 0, 1) := dk_3 (dk_at dksX0_takeIn_5 20 rfl rfl)
theorem dX0_takeIn_139 : decode cX0_takeIn 139 = .ok (.bipush 10, 2) := dk_16 10 (dk_at dksX0_takeIn_5 21 rfl rfl)
theorem dX0_takeIn_141 : decode cX0_takeIn 141 = .ok (.invokevirtual 434, 3) := dk_182 1 178 (dk_at dksX0_takeIn_6 0 rfl rfl)
theorem dX0_takeIn_144 : decode cX0_takeIn 144 = .ok (.istore_n 2, 1) := dk_61 (dk_at dksX0_takeIn_6 3 rfl rfl)
theorem dX0_takeIn_145 : decode cX0_takeIn 145 = .ok (.iconst 0, 1) := dk_3 (dk_at dksX0_takeIn_6 4 rfl rfl)
theorem dX0_takeIn_146 : decode cX0_takeIn 146 = .ok (.istore_n 3, 1) := dk_62 (dk_at dksX0_takeIn_6 5 rfl rfl)
theorem dX0_takeIn_147 : decode cX0_takeIn 147 = .ok (.iload_n 3, 1) := dk_29 (dk_at dksX0_takeIn_6 6 rfl rfl)
theorem dX0_takeIn_148 : decode cX0_takeIn 148 = .ok (.iload_n 2, 1) := dk_28 (dk_at dksX0_takeIn_6 7 rfl rfl)
theorem dX0_takeIn_149 : decode cX0_takeIn 149 = .ok (.if_icmp .ge 100, 3) := dk_162 0 100 (dk_at dksX0_takeIn_6 8 rfl rfl)
theorem dX0_takeIn_152 : decode cX0_takeIn 152 = .ok (.aload_n 0, 1) := dk_42 (dk_at dksX0_takeIn_6 11 rfl rfl)
theorem dX0_takeIn_153 : decode cX0_takeIn 153 = .ok (.iconst 0, 1) := dk_3 (dk_at dksX0_takeIn_6 12 rfl rfl)
theorem dX0_takeIn_154 : decode cX0_takeIn 154 = .ok (.iconst 3, 1) := dk_6 (dk_at dksX0_takeIn_6 13 rfl rfl)
theorem dX0_takeIn_155 : decode cX0_takeIn 155 = .ok (.invokevirtual 434, 3) := dk_182 1 178 (dk_at dksX0_takeIn_6 14 rfl rfl)
theorem dX0_takeIn_158 : decode cX0_takeIn 158 = .ok (.istore 4, 2) := dk_54 4 (dk_at dksX0_takeIn_6 17 rfl rfl)
theorem dX0_takeIn_160 : decode cX0_takeIn 160 = .ok (.aload_n 0, 1) := dk_42 (dk_at dksX0_takeIn_6 19 rfl rfl)
theorem dX0_takeIn_161 : decode cX0_takeIn 161 = .ok (.iconst 0, 1) := dk_3 (dk_at dksX0_takeIn_6 20 rfl rfl)
theorem dX0_takeIn_162 : decode cX0_takeIn 162 = .ok (.sipush 255, 3) := dk_17 0 255 (dk_at dksX0_takeIn_6 21 rfl rfl)
theorem dX0_takeIn_165 : decode cX0_takeIn 165 = .ok (.invokevirtual 434, 3) := dk_182 1 178 (dk_at dksX0_takeIn_7 0 rfl rfl)
theorem dX0_takeIn_168 : decode cX0_takeIn 168 = .ok (.istore 5, 2) := dk_54 5 (dk_at dksX0_takeIn_7 3 rfl rfl)
theorem dX0_takeIn_170 : decode cX0_takeIn 170 = .ok (.aload_n 0, 1) := dk_42 (dk_at dksX0_takeIn_7 5 rfl rfl)
theorem dX0_takeIn_171 : decode cX0_takeIn 171 = .ok (.iconst 0, 1) := dk_3 (dk_at dksX0_takeIn_7 6 rfl rfl)
theorem dX0_takeIn_172 : decode cX0_takeIn 172 = .ok (.iconst 3, 1) := dk_6 (dk_at dksX0_takeIn_7 7 rfl rfl)
theorem dX0_takeIn_173 : decode cX0_takeIn 173 = .ok (.invokevirtual 434, 3) := dk_182 1 178 (dk_at dksX0_takeIn_7 8 rfl rfl)
theorem dX0_takeIn_176 : decode cX0_takeIn 176 = .ok (.istore 6, 2) := dk_54 6 (dk_at dksX0_takeIn_7 11 rfl rfl)
theorem dX0_takeIn_178 : decode cX0_takeIn 178 = .ok (.aload_n 0, 1) := dk_42 (dk_at dksX0_takeIn_7 13 rfl rfl)
theorem dX0_takeIn_179 : decode cX0_takeIn 179 = .ok (.iload 4, 2) := dk_21 4 (dk_at dksX0_takeIn_7 14 rfl rfl)
theorem dX0_takeIn_181 : decode cX0_takeIn 181 = .ok (.iload 6, 2) := dk_21 6 (dk_at dksX0_takeIn_7 16 rfl rfl)
theorem dX0_takeIn_183 : decode cX0_takeIn 183 = .ok (.if_icmp .eq 18, 3) := dk_159 0 18 (dk_at dksX0_takeIn_7 18 rfl rfl)
theorem dX0_takeIn_186 : decode cX0_takeIn 186 = .ok (.aload_n 1, 1) := dk_43 (dk_at dksX0_takeIn_7 21 rfl rfl)
theorem dX0_takeIn_187 : decode cX0_takeIn 187 = .ok (.iload 4, 2) := dk_21 4 (dk_at dksX0_takeIn_7 22 rfl rfl)
theorem dX0_takeIn_189 : decode cX0_takeIn 189 = .ok (.iload 5, 2) := dk_21 5 (dk_at dksX0_takeIn_8 0 rfl rfl)
theorem dX0_takeIn_191 : decode cX0_takeIn 191 = .ok (.invokevirtual 210, 3) := dk_182 0 210 (dk_at dksX0_takeIn_8 2 rfl rfl)
theorem dX0_takeIn_194 : decode cX0_takeIn 194 = .ok (.ifCond .ge 7, 3) := dk_156 0 7 (dk_at dksX0_takeIn_8 5 rfl rfl)
theorem dX0_takeIn_197 : decode cX0_takeIn 197 = .ok (.iconst 1, 1) := dk_4 (dk_at dksX0_takeIn_8 8 rfl rfl)
theorem dX0_takeIn_198 : decode cX0_takeIn 198 = .ok (.goto 4, 3) := dk_167 0 4 (dk_at dksX0_takeIn_8 9 rfl rfl)
theorem dX0_takeIn_201 : decode cX0_takeIn 201 = .ok (.iconst 0, 1) := dk_3 (dk_at dksX0_takeIn_8 12 rfl rfl)
theorem dX0_takeIn_202 : decode cX0_takeIn 202 = .ok (.bipush (-8), 2) := dk_16 248 (dk_at dksX0_takeIn_8 13 rfl rfl)
theorem dX0_takeIn_204 : decode cX0_takeIn 204 = .ok (.invokevirtual 184, 3) := dk_182 0 184 (dk_at dksX0_takeIn_8 15 rfl rfl)
theorem dX0_takeIn_207 : decode cX0_takeIn 207 = .ok (.aload_n 1, 1) := dk_43 (dk_at dksX0_takeIn_8 18 rfl rfl)
theorem dX0_takeIn_208 : decode cX0_takeIn 208 = .ok (.iload_n 3, 1) := dk_29 (dk_at dksX0_takeIn_8 19 rfl rfl)
theorem dX0_takeIn_209 : decode cX0_takeIn 209 = .ok (.iload 4, 2) := dk_21 4 (dk_at dksX0_takeIn_8 20 rfl rfl)
theorem dX0_takeIn_211 : decode cX0_takeIn 211 = .ok (.iload 5, 2) := dk_21 5 (dk_at dksX0_takeIn_8 22 rfl rfl)
theorem dX0_takeIn_213 : decode cX0_takeIn 213 = .ok (.iload 6, 2) := dk_21 6 (dk_at dksX0_takeIn_9 0 rfl rfl)
theorem dX0_takeIn_215 : decode cX0_takeIn 215 = .ok (.aload_n 0, 1) := dk_42 (dk_at dksX0_takeIn_9 2 rfl rfl)
theorem dX0_takeIn_216 : decode cX0_takeIn 216 = .ok (.iconst 0, 1) := dk_3 (dk_at dksX0_takeIn_9 3 rfl rfl)
theorem dX0_takeIn_217 : decode cX0_takeIn 217 = .ok (.iconst 1, 1) := dk_4 (dk_at dksX0_takeIn_9 4 rfl rfl)
theorem dX0_takeIn_218 : decode cX0_takeIn 218 = .ok (.invokevirtual 434, 3) := dk_182 1 178 (dk_at dksX0_takeIn_9 5 rfl rfl)
theorem dX0_takeIn_221 : decode cX0_takeIn 221 = .ok (.iconst 1, 1) := dk_4 (dk_at dksX0_takeIn_9 8 rfl rfl)
theorem dX0_takeIn_222 : decode cX0_takeIn 222 = .ok (.if_icmp .ne 7, 3) := dk_160 0 7 (dk_at dksX0_takeIn_9 9 rfl rfl)
theorem dX0_takeIn_225 : decode cX0_takeIn 225 = .ok (.iconst 1, 1) := dk_4 (dk_at dksX0_takeIn_9 12 rfl rfl)
theorem dX0_takeIn_226 : decode cX0_takeIn 226 = .ok (.goto 4, 3) := dk_167 0 4 (dk_at dksX0_takeIn_9 13 rfl rfl)
theorem dX0_takeIn_229 : decode cX0_takeIn 229 = .ok (.iconst 0, 1) := dk_3 (dk_at dksX0_takeIn_9 16 rfl rfl)
theorem dX0_takeIn_230 : decode cX0_takeIn 230 = .ok (.invokevirtual 217, 3) := dk_182 0 217 (dk_at dksX0_takeIn_9 17 rfl rfl)
theorem dX0_takeIn_233 : decode cX0_takeIn 233 = .ok (.aload_n 1, 1) := dk_43 (dk_at dksX0_takeIn_9 20 rfl rfl)
theorem dX0_takeIn_234 : decode cX0_takeIn 234 = .ok (.dup, 1) := dk_89 (dk_at dksX0_takeIn_9 21 rfl rfl)
theorem dX0_takeIn_235 : decode cX0_takeIn 235 = .ok (.getfield 214, 3) := dk_180 0 214 (dk_at dksX0_takeIn_10 0 rfl rfl)
theorem dX0_takeIn_238 : decode cX0_takeIn 238 = .ok (.iconst 1, 1) := dk_4 (dk_at dksX0_takeIn_10 3 rfl rfl)
theorem dX0_takeIn_239 : decode cX0_takeIn 239 = .ok (.iadd, 1) := dk_96 (dk_at dksX0_takeIn_10 4 rfl rfl)
theorem dX0_takeIn_240 : decode cX0_takeIn 240 = .ok (.putfield 214, 3) := dk_181 0 214 (dk_at dksX0_takeIn_10 5 rfl rfl)
theorem dX0_takeIn_243 : decode cX0_takeIn 243 = .ok (.iinc 3 1, 3) := dk_132 3 1 (dk_at dksX0_takeIn_10 8 rfl rfl)
theorem dX0_takeIn_246 : decode cX0_takeIn 246 = .ok (.goto (-99), 3) := dk_167 255 157 (dk_at dksX0_takeIn_10 11 rfl rfl)
theorem dX0_takeIn_249 : decode cX0_takeIn 249 = .ok (.aload_n 0, 1) := dk_42 (dk_at dksX0_takeIn_10 14 rfl rfl)
theorem dX0_takeIn_250 : decode cX0_takeIn 250 = .ok (.aload_n 0, 1) := dk_42 (dk_at dksX0_takeIn_10 15 rfl rfl)
theorem dX0_takeIn_251 : decode cX0_takeIn 251 = .ok (.getfield 431, 3) := dk_180 1 175 (dk_at dksX0_takeIn_10 16 rfl rfl)
theorem dX0_takeIn_254 : decode cX0_takeIn 254 = .ok (.aload_n 0, 1) := dk_42 (dk_at dksX0_takeIn_10 19 rfl rfl)
theorem dX0_takeIn_255 : decode cX0_takeIn 255 = .ok (.getfield 262, 3) := dk_180 1 6 (dk_at dksX0_takeIn_10 20 rfl rfl)
theorem dX0_takeIn_258 : decode cX0_takeIn 258 = .ok (.iconst 2, 1) := dk_5 (dk_at dksX0_takeIn_10 23 rfl rfl)
theorem dX0_takeIn_259 : decode cX0_takeIn 259 = .ok (.isub, 1) := dk_100 (dk_at dksX0_takeIn_11 0 rfl rfl)
theorem dX0_takeIn_260 : decode cX0_takeIn 260 = .ok (.if_icmp .ne 7, 3) := dk_160 0 7 (dk_at dksX0_takeIn_11 1 rfl rfl)
theorem dX0_takeIn_263 : decode cX0_takeIn 263 = .ok (.iconst 1, 1) := dk_4 (dk_at dksX0_takeIn_11 4 rfl rfl)
theorem dX0_takeIn_264 : decode cX0_takeIn 264 = .ok (.goto 4, 3) := dk_167 0 4 (dk_at dksX0_takeIn_11 5 rfl rfl)
theorem dX0_takeIn_267 : decode cX0_takeIn 267 = .ok (.iconst 0, 1) := dk_3 (dk_at dksX0_takeIn_11 8 rfl rfl)
theorem dX0_takeIn_268 : decode cX0_takeIn 268 = .ok (.bipush (-8), 2) := dk_16 248 (dk_at dksX0_takeIn_11 9 rfl rfl)
theorem dX0_takeIn_270 : decode cX0_takeIn 270 = .ok (.invokevirtual 184, 3) := dk_182 0 184 (dk_at dksX0_takeIn_11 11 rfl rfl)
theorem dX0_takeIn_273 : decode cX0_takeIn 273 = .ok (.return_, 1) := dk_177 (dk_at dksX0_takeIn_11 14 rfl rfl)
abbrev cX0_next : ByteArray := prog_1_method_59_code
def yX0_next : MethodName := ⟨RX0, "next", "(II)I"⟩
def dkwX0_next_2 : List UInt8 := [181, 1, 175, 42, 180, 0, 49, 42, 180, 1, 175, 4, 100, 46, 172]
abbrev dktX0_next_2 : List UInt8 := dkwX0_next_2 ++ []
def dkwX0_next_1 : List UInt8 := [28, 184, 0, 4, 153, 0, 7, 4, 167, 0, 4, 3, 16, 248, 182, 0, 184, 42, 89, 180, 1, 175, 4, 96]
abbrev dktX0_next_1 : List UInt8 := dkwX0_next_1 ++ dktX0_next_2
def dkwX0_next_0 : List UInt8 := [42, 42, 180, 1, 175, 42, 180, 1, 6, 5, 100, 162, 0, 24, 42, 180, 0, 49, 42, 180, 1, 175, 46, 27]
abbrev dktX0_next_0 : List UInt8 := dkwX0_next_0 ++ dktX0_next_1
theorem dksX0_next_0 : cX0_next.data.toList.drop 0 = dktX0_next_0 := by decide +kernel
theorem dksX0_next_1 : cX0_next.data.toList.drop 24 = dktX0_next_1 := dk_seg dksX0_next_0 24 rfl rfl
theorem dksX0_next_2 : cX0_next.data.toList.drop 48 = dktX0_next_2 := dk_seg dksX0_next_1 24 rfl rfl
theorem dX0_next_0 : decode cX0_next 0 = .ok (.aload_n 0, 1) := dk_42 (dk_at dksX0_next_0 0 rfl rfl)
theorem dX0_next_1 : decode cX0_next 1 = .ok (.aload_n 0, 1) := dk_42 (dk_at dksX0_next_0 1 rfl rfl)
theorem dX0_next_2 : decode cX0_next 2 = .ok (.getfield 431, 3) := dk_180 1 175 (dk_at dksX0_next_0 2 rfl rfl)
theorem dX0_next_5 : decode cX0_next 5 = .ok (.aload_n 0, 1) := dk_42 (dk_at dksX0_next_0 5 rfl rfl)
theorem dX0_next_6 : decode cX0_next 6 = .ok (.getfield 262, 3) := dk_180 1 6 (dk_at dksX0_next_0 6 rfl rfl)
theorem dX0_next_9 : decode cX0_next 9 = .ok (.iconst 2, 1) := dk_5 (dk_at dksX0_next_0 9 rfl rfl)
theorem dX0_next_10 : decode cX0_next 10 = .ok (.isub, 1) := dk_100 (dk_at dksX0_next_0 10 rfl rfl)
theorem dX0_next_11 : decode cX0_next 11 = .ok (.if_icmp .ge 24, 3) := dk_162 0 24 (dk_at dksX0_next_0 11 rfl rfl)
theorem dX0_next_14 : decode cX0_next 14 = .ok (.aload_n 0, 1) := dk_42 (dk_at dksX0_next_0 14 rfl rfl)
theorem dX0_next_15 : decode cX0_next 15 = .ok (.getfield 49, 3) := dk_180 0 49 (dk_at dksX0_next_0 15 rfl rfl)
theorem dX0_next_18 : decode cX0_next 18 = .ok (.aload_n 0, 1) := dk_42 (dk_at dksX0_next_0 18 rfl rfl)
theorem dX0_next_19 : decode cX0_next 19 = .ok (.getfield 431, 3) := dk_180 1 175 (dk_at dksX0_next_0 19 rfl rfl)
theorem dX0_next_22 : decode cX0_next 22 = .ok (.iaload, 1) := dk_46 (dk_at dksX0_next_0 22 rfl rfl)
theorem dX0_next_23 : decode cX0_next 23 = .ok (.iload_n 1, 1) := dk_27 (dk_at dksX0_next_0 23 rfl rfl)
theorem dX0_next_24 : decode cX0_next 24 = .ok (.iload_n 2, 1) := dk_28 (dk_at dksX0_next_1 0 rfl rfl)
theorem dX0_next_25 : decode cX0_next 25 = .ok (.invokestatic 4, 3) := dk_184 0 4 (dk_at dksX0_next_1 1 rfl rfl)
theorem dX0_next_28 : decode cX0_next 28 = .ok (.ifCond .eq 7, 3) := dk_153 0 7 (dk_at dksX0_next_1 4 rfl rfl)
theorem dX0_next_31 : decode cX0_next 31 = .ok (.iconst 1, 1) := dk_4 (dk_at dksX0_next_1 7 rfl rfl)
theorem dX0_next_32 : decode cX0_next 32 = .ok (.goto 4, 3) := dk_167 0 4 (dk_at dksX0_next_1 8 rfl rfl)
theorem dX0_next_35 : decode cX0_next 35 = .ok (.iconst 0, 1) := dk_3 (dk_at dksX0_next_1 11 rfl rfl)
theorem dX0_next_36 : decode cX0_next 36 = .ok (.bipush (-8), 2) := dk_16 248 (dk_at dksX0_next_1 12 rfl rfl)
theorem dX0_next_38 : decode cX0_next 38 = .ok (.invokevirtual 184, 3) := dk_182 0 184 (dk_at dksX0_next_1 14 rfl rfl)
theorem dX0_next_41 : decode cX0_next 41 = .ok (.aload_n 0, 1) := dk_42 (dk_at dksX0_next_1 17 rfl rfl)
theorem dX0_next_42 : decode cX0_next 42 = .ok (.dup, 1) := dk_89 (dk_at dksX0_next_1 18 rfl rfl)
theorem dX0_next_43 : decode cX0_next 43 = .ok (.getfield 431, 3) := dk_180 1 175 (dk_at dksX0_next_1 19 rfl rfl)
theorem dX0_next_46 : decode cX0_next 46 = .ok (.iconst 1, 1) := dk_4 (dk_at dksX0_next_1 22 rfl rfl)
theorem dX0_next_47 : decode cX0_next 47 = .ok (.iadd, 1) := dk_96 (dk_at dksX0_next_1 23 rfl rfl)
theorem dX0_next_48 : decode cX0_next 48 = .ok (.putfield 431, 3) := dk_181 1 175 (dk_at dksX0_next_2 0 rfl rfl)
theorem dX0_next_51 : decode cX0_next 51 = .ok (.aload_n 0, 1) := dk_42 (dk_at dksX0_next_2 3 rfl rfl)
theorem dX0_next_52 : decode cX0_next 52 = .ok (.getfield 49, 3) := dk_180 0 49 (dk_at dksX0_next_2 4 rfl rfl)
theorem dX0_next_55 : decode cX0_next 55 = .ok (.aload_n 0, 1) := dk_42 (dk_at dksX0_next_2 7 rfl rfl)
theorem dX0_next_56 : decode cX0_next 56 = .ok (.getfield 431, 3) := dk_180 1 175 (dk_at dksX0_next_2 8 rfl rfl)
theorem dX0_next_59 : decode cX0_next 59 = .ok (.iconst 1, 1) := dk_4 (dk_at dksX0_next_2 11 rfl rfl)
theorem dX0_next_60 : decode cX0_next 60 = .ok (.isub, 1) := dk_100 (dk_at dksX0_next_2 12 rfl rfl)
theorem dX0_next_61 : decode cX0_next 61 = .ok (.iaload, 1) := dk_46 (dk_at dksX0_next_2 13 rfl rfl)
theorem dX0_next_62 : decode cX0_next 62 = .ok (.ireturn, 1) := dk_172 (dk_at dksX0_next_2 14 rfl rfl)
abbrev cX0_number : ByteArray := prog_1_method_60_code
def yX0_number : MethodName := ⟨RX0, "number", "(I)I"⟩
def dkwX0_number_1 : List UInt8 := [132, 3, 1, 167, 255, 234, 28, 172]
abbrev dktX0_number_1 : List UInt8 := dkwX0_number_1 ++ []
def dkwX0_number_0 : List UInt8 := [3, 61, 3, 62, 29, 27, 162, 0, 23, 28, 16, 8, 120, 42, 3, 17, 0, 255, 182, 1, 178, 128, 61]
abbrev dktX0_number_0 : List UInt8 := dkwX0_number_0 ++ dktX0_number_1
theorem dksX0_number_0 : cX0_number.data.toList.drop 0 = dktX0_number_0 := by decide +kernel
theorem dksX0_number_1 : cX0_number.data.toList.drop 23 = dktX0_number_1 := dk_seg dksX0_number_0 23 rfl rfl
theorem dX0_number_0 : decode cX0_number 0 = .ok (.iconst 0, 1) := dk_3 (dk_at dksX0_number_0 0 rfl rfl)
theorem dX0_number_1 : decode cX0_number 1 = .ok (.istore_n 2, 1) := dk_61 (dk_at dksX0_number_0 1 rfl rfl)
theorem dX0_number_2 : decode cX0_number 2 = .ok (.iconst 0, 1) := dk_3 (dk_at dksX0_number_0 2 rfl rfl)
theorem dX0_number_3 : decode cX0_number 3 = .ok (.istore_n 3, 1) := dk_62 (dk_at dksX0_number_0 3 rfl rfl)
theorem dX0_number_4 : decode cX0_number 4 = .ok (.iload_n 3, 1) := dk_29 (dk_at dksX0_number_0 4 rfl rfl)
theorem dX0_number_5 : decode cX0_number 5 = .ok (.iload_n 1, 1) := dk_27 (dk_at dksX0_number_0 5 rfl rfl)
theorem dX0_number_6 : decode cX0_number 6 = .ok (.if_icmp .ge 23, 3) := dk_162 0 23 (dk_at dksX0_number_0 6 rfl rfl)
theorem dX0_number_9 : decode cX0_number 9 = .ok (.iload_n 2, 1) := dk_28 (dk_at dksX0_number_0 9 rfl rfl)
theorem dX0_number_10 : decode cX0_number 10 = .ok (.bipush 8, 2) := dk_16 8 (dk_at dksX0_number_0 10 rfl rfl)
theorem dX0_number_12 : decode cX0_number 12 = .ok (.ishl, 1) := dk_120 (dk_at dksX0_number_0 12 rfl rfl)
theorem dX0_number_13 : decode cX0_number 13 = .ok (.aload_n 0, 1) := dk_42 (dk_at dksX0_number_0 13 rfl rfl)
theorem dX0_number_14 : decode cX0_number 14 = .ok (.iconst 0, 1) := dk_3 (dk_at dksX0_number_0 14 rfl rfl)
theorem dX0_number_15 : decode cX0_number 15 = .ok (.sipush 255, 3) := dk_17 0 255 (dk_at dksX0_number_0 15 rfl rfl)
theorem dX0_number_18 : decode cX0_number 18 = .ok (.invokevirtual 434, 3) := dk_182 1 178 (dk_at dksX0_number_0 18 rfl rfl)
theorem dX0_number_21 : decode cX0_number 21 = .ok (.ior, 1) := dk_128 (dk_at dksX0_number_0 21 rfl rfl)
theorem dX0_number_22 : decode cX0_number 22 = .ok (.istore_n 2, 1) := dk_61 (dk_at dksX0_number_0 22 rfl rfl)
theorem dX0_number_23 : decode cX0_number 23 = .ok (.iinc 3 1, 3) := dk_132 3 1 (dk_at dksX0_number_1 0 rfl rfl)
theorem dX0_number_26 : decode cX0_number 26 = .ok (.goto (-22), 3) := dk_167 255 234 (dk_at dksX0_number_1 3 rfl rfl)
theorem dX0_number_29 : decode cX0_number 29 = .ok (.iload_n 2, 1) := dk_28 (dk_at dksX0_number_1 6 rfl rfl)
theorem dX0_number_30 : decode cX0_number 30 = .ok (.ireturn, 1) := dk_172 (dk_at dksX0_number_1 7 rfl rfl)
abbrev cX0_told : ByteArray := prog_1_method_63_code
def yX0_told : MethodName := ⟨RX0, "told", "(I)I"⟩
def dkwX0_told_5 : List UInt8 := [182, 0, 163, 172]
abbrev dktX0_told_5 : List UInt8 := dkwX0_told_5 ++ []
def dkwX0_told_4 : List UInt8 := [180, 0, 102, 180, 1, 19, 172, 42, 180, 1, 16, 172, 42, 180, 1, 53, 172, 42, 180, 0, 125, 172, 42, 2]
abbrev dktX0_told_4 : List UInt8 := dkwX0_told_4 ++ dktX0_told_5
def dkwX0_told_3 : List UInt8 := [172, 42, 180, 1, 6, 172, 42, 180, 1, 11, 172, 42, 180, 1, 16, 154, 0, 7, 3, 167, 0, 10, 42]
abbrev dktX0_told_3 : List UInt8 := dkwX0_told_3 ++ dktX0_told_4
def dkwX0_told_2 : List UInt8 := [42, 180, 1, 187, 172, 42, 180, 0, 233, 172, 42, 180, 0, 239, 172, 42, 180, 0, 245, 172, 42, 180, 0, 160]
abbrev dktX0_told_2 : List UInt8 := dkwX0_told_2 ++ dktX0_told_3
def dkwX0_told_1 : List UInt8 := [170, 0, 0, 0, 0, 0, 128, 0, 0, 0, 0, 0, 0, 0, 10, 0, 0, 0, 59, 0, 0, 0, 64, 0, 0, 0, 69, 0, 0, 0, 74, 0, 0, 0, 79, 0, 0, 0, 84, 0, 0, 0, 89, 0, 0, 0, 94, 0, 0, 0, 113, 0, 0, 0, 118, 0, 0, 0, 123]
abbrev dktX0_told_1 : List UInt8 := dkwX0_told_1 ++ dktX0_told_2
def dkwX0_told_0 : List UInt8 := [27]
abbrev dktX0_told_0 : List UInt8 := dkwX0_told_0 ++ dktX0_told_1
theorem dksX0_told_0 : cX0_told.data.toList.drop 0 = dktX0_told_0 := by decide +kernel
theorem dksX0_told_1 : cX0_told.data.toList.drop 1 = dktX0_told_1 := dk_seg dksX0_told_0 1 rfl rfl
theorem dksX0_told_2 : cX0_told.data.toList.drop 60 = dktX0_told_2 := dk_seg dksX0_told_1 59 rfl rfl
theorem dksX0_told_3 : cX0_told.data.toList.drop 84 = dktX0_told_3 := dk_seg dksX0_told_2 24 rfl rfl
theorem dksX0_told_4 : cX0_told.data.toList.drop 107 = dktX0_told_4 := dk_seg dksX0_told_3 23 rfl rfl
theorem dksX0_told_5 : cX0_told.data.toList.drop 131 = dktX0_told_5 := dk_seg dksX0_told_4 24 rfl rfl
theorem dX0_told_0 : decode cX0_told 0 = .ok (.iload_n 1, 1) := dk_27 (dk_at dksX0_told_0 0 rfl rfl)
theorem dX0_told_1 : decode cX0_told 1 = .ok (.tableswitch 128 0 10 #[59, 64, 69, 74, 79, 84, 89, 94, 113, 118, 123], 59) := by decide +kernel
theorem dX0_told_60 : decode cX0_told 60 = .ok (.aload_n 0, 1) := dk_42 (dk_at dksX0_told_2 0 rfl rfl)
theorem dX0_told_61 : decode cX0_told 61 = .ok (.getfield 443, 3) := dk_180 1 187 (dk_at dksX0_told_2 1 rfl rfl)
theorem dX0_told_64 : decode cX0_told 64 = .ok (.ireturn, 1) := dk_172 (dk_at dksX0_told_2 4 rfl rfl)
theorem dX0_told_65 : decode cX0_told 65 = .ok (.aload_n 0, 1) := dk_42 (dk_at dksX0_told_2 5 rfl rfl)
theorem dX0_told_66 : decode cX0_told 66 = .ok (.getfield 233, 3) := dk_180 0 233 (dk_at dksX0_told_2 6 rfl rfl)
theorem dX0_told_69 : decode cX0_told 69 = .ok (.ireturn, 1) := dk_172 (dk_at dksX0_told_2 9 rfl rfl)
theorem dX0_told_70 : decode cX0_told 70 = .ok (.aload_n 0, 1) := dk_42 (dk_at dksX0_told_2 10 rfl rfl)
theorem dX0_told_71 : decode cX0_told 71 = .ok (.getfield 239, 3) := dk_180 0 239 (dk_at dksX0_told_2 11 rfl rfl)
theorem dX0_told_74 : decode cX0_told 74 = .ok (.ireturn, 1) := dk_172 (dk_at dksX0_told_2 14 rfl rfl)
theorem dX0_told_75 : decode cX0_told 75 = .ok (.aload_n 0, 1) := dk_42 (dk_at dksX0_told_2 15 rfl rfl)
theorem dX0_told_76 : decode cX0_told 76 = .ok (.getfield 245, 3) := dk_180 0 245 (dk_at dksX0_told_2 16 rfl rfl)
theorem dX0_told_79 : decode cX0_told 79 = .ok (.ireturn, 1) := dk_172 (dk_at dksX0_told_2 19 rfl rfl)
theorem dX0_told_80 : decode cX0_told 80 = .ok (.aload_n 0, 1) := dk_42 (dk_at dksX0_told_2 20 rfl rfl)
theorem dX0_told_81 : decode cX0_told 81 = .ok (.getfield 160, 3) := dk_180 0 160 (dk_at dksX0_told_2 21 rfl rfl)
theorem dX0_told_84 : decode cX0_told 84 = .ok (.ireturn, 1) := dk_172 (dk_at dksX0_told_3 0 rfl rfl)
theorem dX0_told_85 : decode cX0_told 85 = .ok (.aload_n 0, 1) := dk_42 (dk_at dksX0_told_3 1 rfl rfl)
theorem dX0_told_86 : decode cX0_told 86 = .ok (.getfield 262, 3) := dk_180 1 6 (dk_at dksX0_told_3 2 rfl rfl)
theorem dX0_told_89 : decode cX0_told 89 = .ok (.ireturn, 1) := dk_172 (dk_at dksX0_told_3 5 rfl rfl)
theorem dX0_told_90 : decode cX0_told 90 = .ok (.aload_n 0, 1) := dk_42 (dk_at dksX0_told_3 6 rfl rfl)
theorem dX0_told_91 : decode cX0_told 91 = .ok (.getfield 267, 3) := dk_180 1 11 (dk_at dksX0_told_3 7 rfl rfl)
theorem dX0_told_94 : decode cX0_told 94 = .ok (.ireturn, 1) := dk_172 (dk_at dksX0_told_3 10 rfl rfl)
theorem dX0_told_95 : decode cX0_told 95 = .ok (.aload_n 0, 1) := dk_42 (dk_at dksX0_told_3 11 rfl rfl)
theorem dX0_told_96 : decode cX0_told 96 = .ok (.getfield 272, 3) := dk_180 1 16 (dk_at dksX0_told_3 12 rfl rfl)
theorem dX0_told_99 : decode cX0_told 99 = .ok (.ifCond .ne 7, 3) := dk_154 0 7 (dk_at dksX0_told_3 15 rfl rfl)
theorem dX0_told_102 : decode cX0_told 102 = .ok (.iconst 0, 1) := dk_3 (dk_at dksX0_told_3 18 rfl rfl)
theorem dX0_told_103 : decode cX0_told 103 = .ok (.goto 10, 3) := dk_167 0 10 (dk_at dksX0_told_3 19 rfl rfl)
theorem dX0_told_106 : decode cX0_told 106 = .ok (.aload_n 0, 1) := dk_42 (dk_at dksX0_told_3 22 rfl rfl)
theorem dX0_told_107 : decode cX0_told 107 = .ok (.getfield 102, 3) := dk_180 0 102 (dk_at dksX0_told_4 0 rfl rfl)
theorem dX0_told_110 : decode cX0_told 110 = .ok (.getfield 275, 3) := dk_180 1 19 (dk_at dksX0_told_4 3 rfl rfl)
theorem dX0_told_113 : decode cX0_told 113 = .ok (.ireturn, 1) := dk_172 (dk_at dksX0_told_4 6 rfl rfl)
theorem dX0_told_114 : decode cX0_told 114 = .ok (.aload_n 0, 1) := dk_42 (dk_at dksX0_told_4 7 rfl rfl)
theorem dX0_told_115 : decode cX0_told 115 = .ok (.getfield 272, 3) := dk_180 1 16 (dk_at dksX0_told_4 8 rfl rfl)
theorem dX0_told_118 : decode cX0_told 118 = .ok (.ireturn, 1) := dk_172 (dk_at dksX0_told_4 11 rfl rfl)
theorem dX0_told_119 : decode cX0_told 119 = .ok (.aload_n 0, 1) := dk_42 (dk_at dksX0_told_4 12 rfl rfl)
theorem dX0_told_120 : decode cX0_told 120 = .ok (.getfield 309, 3) := dk_180 1 53 (dk_at dksX0_told_4 13 rfl rfl)
theorem dX0_told_123 : decode cX0_told 123 = .ok (.ireturn, 1) := dk_172 (dk_at dksX0_told_4 16 rfl rfl)
theorem dX0_told_124 : decode cX0_told 124 = .ok (.aload_n 0, 1) := dk_42 (dk_at dksX0_told_4 17 rfl rfl)
theorem dX0_told_125 : decode cX0_told 125 = .ok (.getfield 125, 3) := dk_180 0 125 (dk_at dksX0_told_4 18 rfl rfl)
theorem dX0_told_128 : decode cX0_told 128 = .ok (.ireturn, 1) := dk_172 (dk_at dksX0_told_4 21 rfl rfl)
theorem dX0_told_129 : decode cX0_told 129 = .ok (.aload_n 0, 1) := dk_42 (dk_at dksX0_told_4 22 rfl rfl)
theorem dX0_told_130 : decode cX0_told 130 = .ok (.iconst (-1), 1) := dk_2 (dk_at dksX0_told_4 23 rfl rfl)
theorem dX0_told_131 : decode cX0_told 131 = .ok (.invokevirtual 163, 3) := dk_182 0 163 (dk_at dksX0_told_5 0 rfl rfl)
theorem dX0_told_134 : decode cX0_told 134 = .ok (.ireturn, 1) := dk_172 (dk_at dksX0_told_5 3 rfl rfl)
theorem q97 : (Jvm.Cond.initialized "CodeExchange") ∈ lw_all := lw_g (lw_at lw_m1 1 rfl) rfl
theorem q122 : (Jvm.Cond.instantiable "CodeExchange" (33 : Nat)) ∈ lw_all := lw_g (lw_at lw_m1 26 rfl) rfl
theorem q124 : (Jvm.Cond.instanceMethod ({ cls := "CodeExchange", name := "<init>", desc := "()V" } : Jvm.MethodName)) ∈ lw_all := lw_g (lw_at lw_m1 28 rfl) rfl
theorem q125 : (Jvm.Cond.code ({ cls := "CodeExchange", name := "<init>", desc := "()V" } : Jvm.MethodName) prog_1_method_8_code (2 : Nat) (Option.none : Option Jvm.ClassFile.FieldType)) ∈ lw_all := lw_g (lw_at lw_m1 29 rfl) rfl
theorem q126 : (Jvm.Cond.methodLink "CodeExchange" (29 : Nat) ({ cls := "java/lang/Object", name := "<init>", desc := "()V" } : Jvm.MethodName)) ∈ lw_all := lw_g (lw_at lw_m1 30 rfl) rfl
theorem q129 : (Jvm.Cond.classLink "CodeExchange" (18 : Nat) "CodeExchange$Refusal") ∈ lw_all := lw_g (lw_at lw_m1 33 rfl) rfl
theorem q184 : (Jvm.Cond.methodLink "CodeExchange" (35 : Nat) ({ cls := "CodeExchange$Refusal", name := "<init>", desc := "()V" } : Jvm.MethodName)) ∈ lw_all := lw_g (lw_at lw_m1 88 rfl) rfl
theorem q196 : (Jvm.Cond.fieldLinkNest "CodeExchange" (17 : Nat) "CodeExchange$Refusal" "finding" "I" "CodeExchange") ∈ lw_tbl := lw_at lw_m1 100 rfl
theorem q212 : (Jvm.Cond.classLink "CodeExchange" (36 : Nat) "CodeExchange$Slot") ∈ lw_all := lw_g (lw_at lw_m1 116 rfl) rfl
theorem q214 : (Jvm.Cond.classLink "CodeExchange" (42 : Nat) "CodeExchange$Table") ∈ lw_all := lw_g (lw_at lw_m1 118 rfl) rfl
theorem q216 : (Jvm.Cond.methodLinkNest "CodeExchange" (44 : Nat) ({ cls := "CodeExchange$Table", name := "<init>", desc := "()V" } : Jvm.MethodName) "CodeExchange") ∈ lw_tbl := lw_at lw_m1 120 rfl
theorem q226 : (Jvm.Cond.fieldLinkNest "CodeExchange" (144 : Nat) "CodeExchange$Table" "closed" "Z" "CodeExchange") ∈ lw_tbl := lw_at lw_m1 130 rfl
theorem q228 : (Jvm.Cond.fieldLinkNest "CodeExchange" (203 : Nat) "CodeExchange$Table" "entries" "I" "CodeExchange") ∈ lw_tbl := lw_at lw_m1 132 rfl
theorem q230 : (Jvm.Cond.fieldLinkNest "CodeExchange" (400 : Nat) "CodeExchange$Table" "state" "[I" "CodeExchange") ∈ lw_tbl := lw_at lw_m1 134 rfl
theorem q232 : (Jvm.Cond.fieldLinkNest "CodeExchange" (405 : Nat) "CodeExchange$Table" "bytes" "[I" "CodeExchange") ∈ lw_tbl := lw_at lw_m1 136 rfl
theorem q234 : (Jvm.Cond.fieldLinkNest "CodeExchange" (402 : Nat) "CodeExchange$Table" "length" "[I" "CodeExchange") ∈ lw_tbl := lw_at lw_m1 138 rfl
theorem q236 : (Jvm.Cond.fieldLinkNest "CodeExchange" (408 : Nat) "CodeExchange$Table" "point" "[I" "CodeExchange") ∈ lw_tbl := lw_at lw_m1 140 rfl
theorem q238 : (Jvm.Cond.fieldLinkNest "CodeExchange" (411 : Nat) "CodeExchange$Table" "preferred" "[Z" "CodeExchange") ∈ lw_tbl := lw_at lw_m1 142 rfl
theorem q240 : (Jvm.Cond.fieldLinkNest "CodeExchange" (214 : Nat) "CodeExchange$Table" "shifts" "I" "CodeExchange") ∈ lw_tbl := lw_at lw_m1 144 rfl
theorem q242 : (Jvm.Cond.fieldLinkNest "CodeExchange" (415 : Nat) "CodeExchange$Table" "from" "[I" "CodeExchange") ∈ lw_tbl := lw_at lw_m1 146 rfl
theorem q244 : (Jvm.Cond.fieldLinkNest "CodeExchange" (418 : Nat) "CodeExchange$Table" "by" "[I" "CodeExchange") ∈ lw_tbl := lw_at lw_m1 148 rfl
theorem q246 : (Jvm.Cond.fieldLinkNest "CodeExchange" (421 : Nat) "CodeExchange$Table" "to" "[I" "CodeExchange") ∈ lw_tbl := lw_at lw_m1 150 rfl
theorem q248 : (Jvm.Cond.fieldLinkNest "CodeExchange" (424 : Nat) "CodeExchange$Table" "sticky" "[Z" "CodeExchange") ∈ lw_tbl := lw_at lw_m1 152 rfl
theorem q259 : (Jvm.Cond.fieldLink "CodeExchange" (230 : Nat) "CodeExchange$Table" "rule" "I") ∈ lw_all := lw_g (lw_at lw_m1 163 rfl) rfl
theorem q261 : (Jvm.Cond.fieldLink "CodeExchange" (236 : Nat) "CodeExchange$Table" "which" "I") ∈ lw_all := lw_g (lw_at lw_m1 165 rfl) rfl
theorem q263 : (Jvm.Cond.fieldLink "CodeExchange" (242 : Nat) "CodeExchange$Table" "other" "I") ∈ lw_all := lw_g (lw_at lw_m1 167 rfl) rfl
theorem q333 : (Jvm.Cond.constant "CodeExchange" (56 : Nat) (65533 : Int32)) ∈ lw_all := lw_g (lw_at lw_m1 237 rfl) rfl
theorem q334 : (Jvm.Cond.classLink "CodeExchange" (75 : Nat) "CodeExchange$Reader") ∈ lw_all := lw_g (lw_at lw_m1 238 rfl) rfl
theorem q336 : (Jvm.Cond.classLink "CodeExchange" (81 : Nat) "CodeExchange$Writer") ∈ lw_all := lw_g (lw_at lw_m2 0 rfl) rfl
theorem q339 : (Jvm.Cond.methodLinkNest "CodeExchange" (87 : Nat) ({ cls := "CodeExchange$Reader", name := "<init>", desc := "(LCodeExchange;)V" } : Jvm.MethodName) "CodeExchange") ∈ lw_tbl := lw_at lw_m2 3 rfl
theorem q348 : (Jvm.Cond.fieldLinkNest "CodeExchange" (385 : Nat) "CodeExchange$Reader" "faults" "I" "CodeExchange") ∈ lw_tbl := lw_at lw_m2 12 rfl
theorem q368 : (Jvm.Cond.fieldLink "CodeExchange" (354 : Nat) "CodeExchange$Machine" "many" "I") ∈ lw_all := lw_g (lw_at lw_m2 32 rfl) rfl
theorem q374 : (Jvm.Cond.fieldLink "CodeExchange" (362 : Nat) "CodeExchange$Machine" "state" "I") ∈ lw_all := lw_g (lw_at lw_m2 38 rfl) rfl
theorem q375 : (Jvm.Cond.fieldLink "CodeExchange" (395 : Nat) "CodeExchange$Writer" "state" "I") ∈ lw_all := lw_g (lw_at lw_m2 39 rfl) rfl
theorem q379 : (Jvm.Cond.fieldLink "CodeExchange" (365 : Nat) "CodeExchange$Machine" "pending" "I") ∈ lw_all := lw_g (lw_at lw_m2 43 rfl) rfl
theorem q385 : (Jvm.Cond.fieldLink "CodeExchange" (368 : Nat) "CodeExchange$Machine" "kept" "I") ∈ lw_all := lw_g (lw_at lw_m2 49 rfl) rfl
theorem q388 : (Jvm.Cond.fieldLink "CodeExchange" (346 : Nat) "CodeExchange$Machine" "how" "I") ∈ lw_all := lw_g (lw_at lw_m2 52 rfl) rfl
theorem q422 : (Jvm.Cond.methodLinkNest "CodeExchange" (94 : Nat) ({ cls := "CodeExchange$Writer", name := "<init>", desc := "(LCodeExchange;)V" } : Jvm.MethodName) "CodeExchange") ∈ lw_tbl := lw_at lw_m2 86 rfl
theorem q451 : (Jvm.Cond.classLink "CodeExchange" (99 : Nat) "CodeExchange$Row") ∈ lw_all := lw_g (lw_at lw_m2 115 rfl) rfl
theorem q453 : (Jvm.Cond.methodLinkNest "CodeExchange" (101 : Nat) ({ cls := "CodeExchange$Row", name := "<init>", desc := "(LCodeExchange;)V" } : Jvm.MethodName) "CodeExchange") ∈ lw_tbl := lw_at lw_m2 117 rfl
theorem q458 : (Jvm.Cond.fieldLinkNest "CodeExchange" (278 : Nat) "CodeExchange$Row" "values" "[I" "CodeExchange") ∈ lw_tbl := lw_at lw_m2 122 rfl
theorem q460 : (Jvm.Cond.fieldLinkNest "CodeExchange" (275 : Nat) "CodeExchange$Row" "many" "I" "CodeExchange") ∈ lw_tbl := lw_at lw_m2 124 rfl
theorem q473 : (Jvm.Cond.methodLinkNest "CodeExchange" (124 : Nat) ({ cls := "CodeExchange$Slot", name := "<init>", desc := "()V" } : Jvm.MethodName) "CodeExchange") ∈ lw_tbl := lw_at lw_m2 137 rfl
theorem q477 : (Jvm.Cond.fieldLinkNest "CodeExchange" (128 : Nat) "CodeExchange$Slot" "thing" "Ljava/lang/Object;" "CodeExchange") ∈ lw_tbl := lw_at lw_m2 141 rfl
theorem q481 : (Jvm.Cond.fieldLink "CodeExchange" (13 : Nat) "CodeExchange" "refusal" "LCodeExchange$Refusal;") ∈ lw_all := lw_g (lw_at lw_m2 145 rfl) rfl
theorem q482 : (Jvm.Cond.fieldLink "CodeExchange" (38 : Nat) "CodeExchange" "pages" "[LCodeExchange$Slot;") ∈ lw_all := lw_g (lw_at lw_m2 146 rfl) rfl
theorem q483 : (Jvm.Cond.fieldLink "CodeExchange" (160 : Nat) "CodeExchange" "pageMany" "I") ∈ lw_all := lw_g (lw_at lw_m2 147 rfl) rfl
theorem q484 : (Jvm.Cond.fieldLink "CodeExchange" (45 : Nat) "CodeExchange" "spare" "LCodeExchange$Table;") ∈ lw_all := lw_g (lw_at lw_m2 148 rfl) rfl
theorem q485 : (Jvm.Cond.fieldLink "CodeExchange" (49 : Nat) "CodeExchange" "inBytes" "[I") ∈ lw_all := lw_g (lw_at lw_m2 149 rfl) rfl
theorem q486 : (Jvm.Cond.fieldLink "CodeExchange" (262 : Nat) "CodeExchange" "byteMany" "I") ∈ lw_all := lw_g (lw_at lw_m2 150 rfl) rfl
theorem q487 : (Jvm.Cond.fieldLink "CodeExchange" (53 : Nat) "CodeExchange" "inUnits" "[I") ∈ lw_all := lw_g (lw_at lw_m2 151 rfl) rfl
theorem q488 : (Jvm.Cond.fieldLink "CodeExchange" (267 : Nat) "CodeExchange" "unitMany" "I") ∈ lw_all := lw_g (lw_at lw_m2 152 rfl) rfl
theorem q491 : (Jvm.Cond.fieldLink "CodeExchange" (57 : Nat) "CodeExchange" "signs" "[I") ∈ lw_all := lw_g (lw_at lw_m2 155 rfl) rfl
theorem q492 : (Jvm.Cond.fieldLink "CodeExchange" (309 : Nat) "CodeExchange" "falls" "I") ∈ lw_all := lw_g (lw_at lw_m2 156 rfl) rfl
theorem q493 : (Jvm.Cond.fieldLink "CodeExchange" (60 : Nat) "CodeExchange" "fallPoint" "[I") ∈ lw_all := lw_g (lw_at lw_m2 157 rfl) rfl
theorem q495 : (Jvm.Cond.fieldLink "CodeExchange" (63 : Nat) "CodeExchange" "fallMany" "[I") ∈ lw_all := lw_g (lw_at lw_m2 159 rfl) rfl
theorem q497 : (Jvm.Cond.fieldLink "CodeExchange" (66 : Nat) "CodeExchange" "fallText" "[I") ∈ lw_all := lw_g (lw_at lw_m2 161 rfl) rfl
theorem q498 : (Jvm.Cond.fieldLink "CodeExchange" (69 : Nat) "CodeExchange" "fallLength" "[I") ∈ lw_all := lw_g (lw_at lw_m2 162 rfl) rfl
theorem q499 : (Jvm.Cond.fieldLink "CodeExchange" (72 : Nat) "CodeExchange" "machines" "[LCodeExchange$Slot;") ∈ lw_all := lw_g (lw_at lw_m2 163 rfl) rfl
theorem q500 : (Jvm.Cond.fieldLink "CodeExchange" (77 : Nat) "CodeExchange" "readers" "[LCodeExchange$Reader;") ∈ lw_all := lw_g (lw_at lw_m2 164 rfl) rfl
theorem q501 : (Jvm.Cond.fieldLink "CodeExchange" (83 : Nat) "CodeExchange" "writers" "[LCodeExchange$Writer;") ∈ lw_all := lw_g (lw_at lw_m2 165 rfl) rfl
theorem q502 : (Jvm.Cond.fieldLink "CodeExchange" (90 : Nat) "CodeExchange" "reader" "LCodeExchange$Reader;") ∈ lw_all := lw_g (lw_at lw_m2 166 rfl) rfl
theorem q503 : (Jvm.Cond.fieldLink "CodeExchange" (95 : Nat) "CodeExchange" "writer" "LCodeExchange$Writer;") ∈ lw_all := lw_g (lw_at lw_m2 167 rfl) rfl
theorem q505 : (Jvm.Cond.fieldLink "CodeExchange" (443 : Nat) "CodeExchange" "place" "I") ∈ lw_all := lw_g (lw_at lw_m2 169 rfl) rfl
theorem q506 : (Jvm.Cond.fieldLink "CodeExchange" (233 : Nat) "CodeExchange" "brokenRule" "I") ∈ lw_all := lw_g (lw_at lw_m2 170 rfl) rfl
theorem q507 : (Jvm.Cond.fieldLink "CodeExchange" (239 : Nat) "CodeExchange" "brokenWhich" "I") ∈ lw_all := lw_g (lw_at lw_m2 171 rfl) rfl
theorem q508 : (Jvm.Cond.fieldLink "CodeExchange" (245 : Nat) "CodeExchange" "brokenOther" "I") ∈ lw_all := lw_g (lw_at lw_m2 172 rfl) rfl
theorem q509 : (Jvm.Cond.fieldLink "CodeExchange" (125 : Nat) "CodeExchange" "findings" "I") ∈ lw_all := lw_g (lw_at lw_m2 173 rfl) rfl
theorem q510 : (Jvm.Cond.fieldLink "CodeExchange" (102 : Nat) "CodeExchange" "result" "LCodeExchange$Row;") ∈ lw_all := lw_g (lw_at lw_m2 174 rfl) rfl
theorem q511 : (Jvm.Cond.fieldLink "CodeExchange" (106 : Nat) "CodeExchange" "made" "LCodeExchange$Row;") ∈ lw_all := lw_g (lw_at lw_m2 175 rfl) rfl
theorem q512 : (Jvm.Cond.fieldLink "CodeExchange" (109 : Nat) "CodeExchange" "between" "LCodeExchange$Row;") ∈ lw_all := lw_g (lw_at lw_m2 176 rfl) rfl
theorem q513 : (Jvm.Cond.fieldLink "CodeExchange" (272 : Nat) "CodeExchange" "resultKind" "I") ∈ lw_all := lw_g (lw_at lw_m2 177 rfl) rfl
theorem q514 : (Jvm.Cond.fieldLink "CodeExchange" (112 : Nat) "CodeExchange" "before" "[I") ∈ lw_all := lw_g (lw_at lw_m2 178 rfl) rfl
theorem q515 : (Jvm.Cond.fieldLink "CodeExchange" (115 : Nat) "CodeExchange" "alone" "LCodeExchange$Row;") ∈ lw_all := lw_g (lw_at lw_m2 179 rfl) rfl
theorem q516 : (Jvm.Cond.fieldLink "CodeExchange" (118 : Nat) "CodeExchange" "alike" "LCodeExchange$Row;") ∈ lw_all := lw_g (lw_at lw_m2 180 rfl) rfl
theorem q517 : (Jvm.Cond.fieldLink "CodeExchange" (121 : Nat) "CodeExchange" "two" "[I") ∈ lw_all := lw_g (lw_at lw_m2 181 rfl) rfl
theorem q518 : (Jvm.Cond.fieldLink "CodeExchange" (431 : Nat) "CodeExchange" "at" "I") ∈ lw_all := lw_g (lw_at lw_m2 182 rfl) rfl
theorem q519 : (Jvm.Cond.laysFinal "CodeExchange" "CodeExchange" "refusal" "LCodeExchange$Refusal;") ∈ lw_all := lw_g (lw_at lw_m2 183 rfl) rfl
theorem q520 : (Jvm.Cond.soleField "CodeExchange" "refusal") ∈ lw_all := lw_g (lw_at lw_m2 184 rfl) rfl
theorem q521 : (Jvm.Cond.laysFinal "CodeExchange" "CodeExchange" "pages" "[LCodeExchange$Slot;") ∈ lw_all := lw_g (lw_at lw_m2 185 rfl) rfl
theorem q522 : (Jvm.Cond.soleField "CodeExchange" "pages") ∈ lw_all := lw_g (lw_at lw_m2 186 rfl) rfl
theorem q523 : (Jvm.Cond.lays "CodeExchange" "CodeExchange" "pageMany" "I") ∈ lw_all := lw_g (lw_at lw_m2 187 rfl) rfl
theorem q524 : (Jvm.Cond.soleField "CodeExchange" "pageMany") ∈ lw_all := lw_g (lw_at lw_m2 188 rfl) rfl
theorem q525 : (Jvm.Cond.lays "CodeExchange" "CodeExchange" "spare" "LCodeExchange$Table;") ∈ lw_all := lw_g (lw_at lw_m2 189 rfl) rfl
theorem q526 : (Jvm.Cond.soleField "CodeExchange" "spare") ∈ lw_all := lw_g (lw_at lw_m2 190 rfl) rfl
theorem q527 : (Jvm.Cond.laysFinal "CodeExchange" "CodeExchange" "inBytes" "[I") ∈ lw_all := lw_g (lw_at lw_m2 191 rfl) rfl
theorem q528 : (Jvm.Cond.soleField "CodeExchange" "inBytes") ∈ lw_all := lw_g (lw_at lw_m2 192 rfl) rfl
theorem q529 : (Jvm.Cond.lays "CodeExchange" "CodeExchange" "byteMany" "I") ∈ lw_all := lw_g (lw_at lw_m2 193 rfl) rfl
theorem q530 : (Jvm.Cond.soleField "CodeExchange" "byteMany") ∈ lw_all := lw_g (lw_at lw_m2 194 rfl) rfl
theorem q531 : (Jvm.Cond.laysFinal "CodeExchange" "CodeExchange" "inUnits" "[I") ∈ lw_all := lw_g (lw_at lw_m2 195 rfl) rfl
theorem q532 : (Jvm.Cond.soleField "CodeExchange" "inUnits") ∈ lw_all := lw_g (lw_at lw_m2 196 rfl) rfl
theorem q533 : (Jvm.Cond.lays "CodeExchange" "CodeExchange" "unitMany" "I") ∈ lw_all := lw_g (lw_at lw_m2 197 rfl) rfl
theorem q534 : (Jvm.Cond.soleField "CodeExchange" "unitMany") ∈ lw_all := lw_g (lw_at lw_m2 198 rfl) rfl
theorem q535 : (Jvm.Cond.laysFinal "CodeExchange" "CodeExchange" "signs" "[I") ∈ lw_all := lw_g (lw_at lw_m2 199 rfl) rfl
theorem q536 : (Jvm.Cond.soleField "CodeExchange" "signs") ∈ lw_all := lw_g (lw_at lw_m2 200 rfl) rfl
theorem q537 : (Jvm.Cond.lays "CodeExchange" "CodeExchange" "falls" "I") ∈ lw_all := lw_g (lw_at lw_m2 201 rfl) rfl
theorem q538 : (Jvm.Cond.soleField "CodeExchange" "falls") ∈ lw_all := lw_g (lw_at lw_m2 202 rfl) rfl
theorem q539 : (Jvm.Cond.laysFinal "CodeExchange" "CodeExchange" "fallPoint" "[I") ∈ lw_all := lw_g (lw_at lw_m2 203 rfl) rfl
theorem q540 : (Jvm.Cond.soleField "CodeExchange" "fallPoint") ∈ lw_all := lw_g (lw_at lw_m2 204 rfl) rfl
theorem q541 : (Jvm.Cond.laysFinal "CodeExchange" "CodeExchange" "fallMany" "[I") ∈ lw_all := lw_g (lw_at lw_m2 205 rfl) rfl
theorem q542 : (Jvm.Cond.soleField "CodeExchange" "fallMany") ∈ lw_all := lw_g (lw_at lw_m2 206 rfl) rfl
theorem q543 : (Jvm.Cond.laysFinal "CodeExchange" "CodeExchange" "fallText" "[I") ∈ lw_all := lw_g (lw_at lw_m2 207 rfl) rfl
theorem q544 : (Jvm.Cond.soleField "CodeExchange" "fallText") ∈ lw_all := lw_g (lw_at lw_m2 208 rfl) rfl
theorem q545 : (Jvm.Cond.laysFinal "CodeExchange" "CodeExchange" "fallLength" "[I") ∈ lw_all := lw_g (lw_at lw_m2 209 rfl) rfl
theorem q546 : (Jvm.Cond.soleField "CodeExchange" "fallLength") ∈ lw_all := lw_g (lw_at lw_m2 210 rfl) rfl
theorem q547 : (Jvm.Cond.laysFinal "CodeExchange" "CodeExchange" "machines" "[LCodeExchange$Slot;") ∈ lw_all := lw_g (lw_at lw_m2 211 rfl) rfl
theorem q548 : (Jvm.Cond.soleField "CodeExchange" "machines") ∈ lw_all := lw_g (lw_at lw_m2 212 rfl) rfl
theorem q549 : (Jvm.Cond.laysFinal "CodeExchange" "CodeExchange" "readers" "[LCodeExchange$Reader;") ∈ lw_all := lw_g (lw_at lw_m2 213 rfl) rfl
theorem q550 : (Jvm.Cond.soleField "CodeExchange" "readers") ∈ lw_all := lw_g (lw_at lw_m2 214 rfl) rfl
theorem q551 : (Jvm.Cond.laysFinal "CodeExchange" "CodeExchange" "writers" "[LCodeExchange$Writer;") ∈ lw_all := lw_g (lw_at lw_m2 215 rfl) rfl
theorem q552 : (Jvm.Cond.soleField "CodeExchange" "writers") ∈ lw_all := lw_g (lw_at lw_m2 216 rfl) rfl
theorem q553 : (Jvm.Cond.laysFinal "CodeExchange" "CodeExchange" "reader" "LCodeExchange$Reader;") ∈ lw_all := lw_g (lw_at lw_m2 217 rfl) rfl
theorem q554 : (Jvm.Cond.soleField "CodeExchange" "reader") ∈ lw_all := lw_g (lw_at lw_m2 218 rfl) rfl
theorem q555 : (Jvm.Cond.laysFinal "CodeExchange" "CodeExchange" "writer" "LCodeExchange$Writer;") ∈ lw_all := lw_g (lw_at lw_m2 219 rfl) rfl
theorem q556 : (Jvm.Cond.soleField "CodeExchange" "writer") ∈ lw_all := lw_g (lw_at lw_m2 220 rfl) rfl
theorem q557 : (Jvm.Cond.lays "CodeExchange" "CodeExchange" "place" "I") ∈ lw_all := lw_g (lw_at lw_m2 221 rfl) rfl
theorem q558 : (Jvm.Cond.soleField "CodeExchange" "place") ∈ lw_all := lw_g (lw_at lw_m2 222 rfl) rfl
theorem q559 : (Jvm.Cond.lays "CodeExchange" "CodeExchange" "brokenRule" "I") ∈ lw_all := lw_g (lw_at lw_m2 223 rfl) rfl
theorem q560 : (Jvm.Cond.soleField "CodeExchange" "brokenRule") ∈ lw_all := lw_g (lw_at lw_m2 224 rfl) rfl
theorem q561 : (Jvm.Cond.lays "CodeExchange" "CodeExchange" "brokenWhich" "I") ∈ lw_all := lw_g (lw_at lw_m2 225 rfl) rfl
theorem q562 : (Jvm.Cond.soleField "CodeExchange" "brokenWhich") ∈ lw_all := lw_g (lw_at lw_m2 226 rfl) rfl
theorem q563 : (Jvm.Cond.lays "CodeExchange" "CodeExchange" "brokenOther" "I") ∈ lw_all := lw_g (lw_at lw_m2 227 rfl) rfl
theorem q564 : (Jvm.Cond.soleField "CodeExchange" "brokenOther") ∈ lw_all := lw_g (lw_at lw_m2 228 rfl) rfl
theorem q565 : (Jvm.Cond.lays "CodeExchange" "CodeExchange" "findings" "I") ∈ lw_all := lw_g (lw_at lw_m2 229 rfl) rfl
theorem q566 : (Jvm.Cond.soleField "CodeExchange" "findings") ∈ lw_all := lw_g (lw_at lw_m2 230 rfl) rfl
theorem q567 : (Jvm.Cond.lays "CodeExchange" "CodeExchange" "result" "LCodeExchange$Row;") ∈ lw_all := lw_g (lw_at lw_m2 231 rfl) rfl
theorem q568 : (Jvm.Cond.soleField "CodeExchange" "result") ∈ lw_all := lw_g (lw_at lw_m2 232 rfl) rfl
theorem q569 : (Jvm.Cond.lays "CodeExchange" "CodeExchange" "made" "LCodeExchange$Row;") ∈ lw_all := lw_g (lw_at lw_m2 233 rfl) rfl
theorem q570 : (Jvm.Cond.soleField "CodeExchange" "made") ∈ lw_all := lw_g (lw_at lw_m2 234 rfl) rfl
theorem q571 : (Jvm.Cond.laysFinal "CodeExchange" "CodeExchange" "between" "LCodeExchange$Row;") ∈ lw_all := lw_g (lw_at lw_m2 235 rfl) rfl
theorem q572 : (Jvm.Cond.soleField "CodeExchange" "between") ∈ lw_all := lw_g (lw_at lw_m2 236 rfl) rfl
theorem q573 : (Jvm.Cond.lays "CodeExchange" "CodeExchange" "resultKind" "I") ∈ lw_all := lw_g (lw_at lw_m2 237 rfl) rfl
theorem q574 : (Jvm.Cond.soleField "CodeExchange" "resultKind") ∈ lw_all := lw_g (lw_at lw_m2 238 rfl) rfl
theorem q575 : (Jvm.Cond.laysFinal "CodeExchange" "CodeExchange" "before" "[I") ∈ lw_all := lw_g (lw_at lw_m2 239 rfl) rfl
theorem q576 : (Jvm.Cond.soleField "CodeExchange" "before") ∈ lw_all := lw_g (lw_at lw_m3 0 rfl) rfl
theorem q577 : (Jvm.Cond.laysFinal "CodeExchange" "CodeExchange" "alone" "LCodeExchange$Row;") ∈ lw_all := lw_g (lw_at lw_m3 1 rfl) rfl
theorem q578 : (Jvm.Cond.soleField "CodeExchange" "alone") ∈ lw_all := lw_g (lw_at lw_m3 2 rfl) rfl
theorem q579 : (Jvm.Cond.laysFinal "CodeExchange" "CodeExchange" "alike" "LCodeExchange$Row;") ∈ lw_all := lw_g (lw_at lw_m3 3 rfl) rfl
theorem q580 : (Jvm.Cond.soleField "CodeExchange" "alike") ∈ lw_all := lw_g (lw_at lw_m3 4 rfl) rfl
theorem q581 : (Jvm.Cond.laysFinal "CodeExchange" "CodeExchange" "two" "[I") ∈ lw_all := lw_g (lw_at lw_m3 5 rfl) rfl
theorem q582 : (Jvm.Cond.soleField "CodeExchange" "two") ∈ lw_all := lw_g (lw_at lw_m3 6 rfl) rfl
theorem q583 : (Jvm.Cond.lays "CodeExchange" "CodeExchange" "at" "I") ∈ lw_all := lw_g (lw_at lw_m3 7 rfl) rfl
theorem q584 : (Jvm.Cond.soleField "CodeExchange" "at") ∈ lw_all := lw_g (lw_at lw_m3 8 rfl) rfl
theorem q585 : (Jvm.Cond.superclass "CodeExchange" "java/lang/Object") ∈ lw_all := lw_g (lw_at lw_m3 9 rfl) rfl
theorem q587 : (Jvm.Cond.instanceMethod ({ cls := "CodeExchange", name := "page", desc := "(I)I" } : Jvm.MethodName)) ∈ lw_all := lw_g (lw_at lw_m3 11 rfl) rfl
theorem q588 : (Jvm.Cond.selects "CodeExchange" ({ cls := "CodeExchange", name := "page", desc := "(I)I" } : Jvm.MethodName) ({ cls := "CodeExchange", name := "page", desc := "(I)I" } : Jvm.MethodName)) ∈ lw_all := lw_g (lw_at lw_m3 12 rfl) rfl
theorem q589 : (Jvm.Cond.code ({ cls := "CodeExchange", name := "page", desc := "(I)I" } : Jvm.MethodName) prog_1_method_16_code (2 : Nat) (Option.some Jvm.ClassFile.FieldType.int)) ∈ lw_all := lw_g (lw_at lw_m3 13 rfl) rfl
theorem q590 : (Jvm.Cond.methodLink "CodeExchange" (4 : Nat) ({ cls := "CodeExchange", name := "in", desc := "(III)Z" } : Jvm.MethodName)) ∈ lw_all := lw_g (lw_at lw_m3 14 rfl) rfl
theorem q591 : (Jvm.Cond.static ({ cls := "CodeExchange", name := "in", desc := "(III)Z" } : Jvm.MethodName)) ∈ lw_all := lw_g (lw_at lw_m3 15 rfl) rfl
theorem q592 : (Jvm.Cond.code ({ cls := "CodeExchange", name := "in", desc := "(III)Z" } : Jvm.MethodName) prog_1_method_1_code (3 : Nat) (Option.some Jvm.ClassFile.FieldType.boolean)) ∈ lw_all := lw_g (lw_at lw_m3 16 rfl) rfl
theorem q593 : (Jvm.Cond.methodLink "CodeExchange" (163 : Nat) ({ cls := "CodeExchange", name := "answer", desc := "(I)I" } : Jvm.MethodName)) ∈ lw_all := lw_g (lw_at lw_m3 17 rfl) rfl
theorem q594 : (Jvm.Cond.privateMethod ({ cls := "CodeExchange", name := "answer", desc := "(I)I" } : Jvm.MethodName)) ∈ lw_tbl := lw_at lw_m3 18 rfl
theorem q595 : (Jvm.Cond.instanceMethod ({ cls := "CodeExchange", name := "answer", desc := "(I)I" } : Jvm.MethodName)) ∈ lw_all := lw_g (lw_at lw_m3 19 rfl) rfl
theorem q596 : (Jvm.Cond.code ({ cls := "CodeExchange", name := "answer", desc := "(I)I" } : Jvm.MethodName) prog_1_method_9_code (2 : Nat) (Option.some Jvm.ClassFile.FieldType.int)) ∈ lw_all := lw_g (lw_at lw_m3 20 rfl) rfl
theorem q597 : (Jvm.Cond.classLink "CodeExchange" (167 : Nat) "CodeExchange$Wide") ∈ lw_all := lw_g (lw_at lw_m3 21 rfl) rfl
theorem q599 : (Jvm.Cond.methodLinkNest "CodeExchange" (169 : Nat) ({ cls := "CodeExchange$Wide", name := "<init>", desc := "()V" } : Jvm.MethodName) "CodeExchange") ∈ lw_tbl := lw_at lw_m3 23 rfl
theorem q610 : (Jvm.Cond.classLink "CodeExchange" (170 : Nat) "CodeExchange$Turned") ∈ lw_all := lw_g (lw_at lw_m3 34 rfl) rfl
theorem q612 : (Jvm.Cond.methodLinkNest "CodeExchange" (172 : Nat) ({ cls := "CodeExchange$Turned", name := "<init>", desc := "()V" } : Jvm.MethodName) "CodeExchange") ∈ lw_tbl := lw_at lw_m3 36 rfl
theorem q620 : (Jvm.Cond.classLink "CodeExchange" (173 : Nat) "CodeExchange$Few") ∈ lw_all := lw_g (lw_at lw_m3 44 rfl) rfl
theorem q622 : (Jvm.Cond.methodLinkNest "CodeExchange" (175 : Nat) ({ cls := "CodeExchange$Few", name := "<init>", desc := "()V" } : Jvm.MethodName) "CodeExchange") ∈ lw_tbl := lw_at lw_m3 46 rfl
theorem q630 : (Jvm.Cond.methodLink "CodeExchange" (176 : Nat) ({ cls := "CodeExchange", name := "comes", desc := "(LCodeExchange$Page;)I" } : Jvm.MethodName)) ∈ lw_all := lw_g (lw_at lw_m3 54 rfl) rfl
theorem q631 : (Jvm.Cond.privateMethod ({ cls := "CodeExchange", name := "comes", desc := "(LCodeExchange$Page;)I" } : Jvm.MethodName)) ∈ lw_tbl := lw_at lw_m3 55 rfl
theorem q632 : (Jvm.Cond.instanceMethod ({ cls := "CodeExchange", name := "comes", desc := "(LCodeExchange$Page;)I" } : Jvm.MethodName)) ∈ lw_all := lw_g (lw_at lw_m3 56 rfl) rfl
theorem q633 : (Jvm.Cond.code ({ cls := "CodeExchange", name := "comes", desc := "(LCodeExchange$Page;)I" } : Jvm.MethodName) prog_1_method_15_code (2 : Nat) (Option.some Jvm.ClassFile.FieldType.int)) ∈ lw_all := lw_g (lw_at lw_m3 57 rfl) rfl
theorem q635 : (Jvm.Cond.instanceMethod ({ cls := "CodeExchange", name := "derive", desc := "(I)I" } : Jvm.MethodName)) ∈ lw_all := lw_g (lw_at lw_m3 59 rfl) rfl
theorem q636 : (Jvm.Cond.selects "CodeExchange" ({ cls := "CodeExchange", name := "derive", desc := "(I)I" } : Jvm.MethodName) ({ cls := "CodeExchange", name := "derive", desc := "(I)I" } : Jvm.MethodName)) ∈ lw_all := lw_g (lw_at lw_m3 60 rfl) rfl
theorem q637 : (Jvm.Cond.codeWith ({ cls := "CodeExchange", name := "derive", desc := "(I)I" } : Jvm.MethodName) prog_1_method_17_code (4 : Nat) (Option.some Jvm.ClassFile.FieldType.int) [((0 : Nat), (45 : Nat), (46 : Nat), (18 : Nat))]) ∈ lw_all := lw_g (lw_at lw_m3 61 rfl) rfl
theorem q638 : (Jvm.Cond.methodLink "CodeExchange" (180 : Nat) ({ cls := "CodeExchange", name := "tableAt", desc := "(II)LCodeExchange$Table;" } : Jvm.MethodName)) ∈ lw_all := lw_g (lw_at lw_m3 62 rfl) rfl
theorem q639 : (Jvm.Cond.privateMethod ({ cls := "CodeExchange", name := "tableAt", desc := "(II)LCodeExchange$Table;" } : Jvm.MethodName)) ∈ lw_tbl := lw_at lw_m3 63 rfl
theorem q640 : (Jvm.Cond.instanceMethod ({ cls := "CodeExchange", name := "tableAt", desc := "(II)LCodeExchange$Table;" } : Jvm.MethodName)) ∈ lw_all := lw_g (lw_at lw_m3 64 rfl) rfl
theorem q641 : (Jvm.Cond.codeWith ({ cls := "CodeExchange", name := "tableAt", desc := "(II)LCodeExchange$Table;" } : Jvm.MethodName) prog_1_method_11_code (7 : Nat) (Option.some (Jvm.ClassFile.FieldType.object "CodeExchange$Table")) [((6 : Nat), (12 : Nat), (15 : Nat), (138 : Nat)), ((24 : Nat), (31 : Nat), (34 : Nat), (148 : Nat))]) ∈ lw_all := lw_g (lw_at lw_m3 65 rfl) rfl
theorem q642 : (Jvm.Cond.classLink "CodeExchange" (138 : Nat) "java/lang/ClassCastException") ∈ lw_all := lw_g (lw_at lw_m3 66 rfl) rfl
theorem q670 : (Jvm.Cond.classLink "CodeExchange" (148 : Nat) "java/lang/NullPointerException") ∈ lw_all := lw_g (lw_at lw_m3 94 rfl) rfl
theorem q695 : (Jvm.Cond.methodLink "CodeExchange" (134 : Nat) ({ cls := "CodeExchange", name := "thingAt", desc := "(I)Ljava/lang/Object;" } : Jvm.MethodName)) ∈ lw_all := lw_g (lw_at lw_m3 119 rfl) rfl
theorem q696 : (Jvm.Cond.privateMethod ({ cls := "CodeExchange", name := "thingAt", desc := "(I)Ljava/lang/Object;" } : Jvm.MethodName)) ∈ lw_tbl := lw_at lw_m3 120 rfl
theorem q697 : (Jvm.Cond.instanceMethod ({ cls := "CodeExchange", name := "thingAt", desc := "(I)Ljava/lang/Object;" } : Jvm.MethodName)) ∈ lw_all := lw_g (lw_at lw_m3 121 rfl) rfl
theorem q698 : (Jvm.Cond.codeWith ({ cls := "CodeExchange", name := "thingAt", desc := "(I)Ljava/lang/Object;" } : Jvm.MethodName) prog_1_method_10_code (3 : Nat) (Option.some (Jvm.ClassFile.FieldType.object "java/lang/Object")) [((0 : Nat), (9 : Nat), (10 : Nat), (132 : Nat))]) ∈ lw_all := lw_g (lw_at lw_m3 122 rfl) rfl
theorem q699 : (Jvm.Cond.classLink "CodeExchange" (132 : Nat) "java/lang/ArrayIndexOutOfBoundsException") ∈ lw_all := lw_g (lw_at lw_m3 123 rfl) rfl
theorem q718 : (Jvm.Cond.methodLink "CodeExchange" (140 : Nat) ({ cls := "CodeExchange", name := "refused", desc := "(I)LCodeExchange$Refusal;" } : Jvm.MethodName)) ∈ lw_all := lw_g (lw_at lw_m3 142 rfl) rfl
theorem q719 : (Jvm.Cond.privateMethod ({ cls := "CodeExchange", name := "refused", desc := "(I)LCodeExchange$Refusal;" } : Jvm.MethodName)) ∈ lw_tbl := lw_at lw_m3 143 rfl
theorem q720 : (Jvm.Cond.instanceMethod ({ cls := "CodeExchange", name := "refused", desc := "(I)LCodeExchange$Refusal;" } : Jvm.MethodName)) ∈ lw_all := lw_g (lw_at lw_m3 144 rfl) rfl
theorem q721 : (Jvm.Cond.code ({ cls := "CodeExchange", name := "refused", desc := "(I)LCodeExchange$Refusal;" } : Jvm.MethodName) prog_1_method_6_code (2 : Nat) (Option.some (Jvm.ClassFile.FieldType.object "CodeExchange$Refusal"))) ∈ lw_all := lw_g (lw_at lw_m3 145 rfl) rfl
theorem q722 : (Jvm.Cond.methodLink "CodeExchange" (184 : Nat) ({ cls := "CodeExchange", name := "need", desc := "(ZI)V" } : Jvm.MethodName)) ∈ lw_all := lw_g (lw_at lw_m3 146 rfl) rfl
theorem q723 : (Jvm.Cond.privateMethod ({ cls := "CodeExchange", name := "need", desc := "(ZI)V" } : Jvm.MethodName)) ∈ lw_tbl := lw_at lw_m3 147 rfl
theorem q724 : (Jvm.Cond.instanceMethod ({ cls := "CodeExchange", name := "need", desc := "(ZI)V" } : Jvm.MethodName)) ∈ lw_all := lw_g (lw_at lw_m3 148 rfl) rfl
theorem q725 : (Jvm.Cond.code ({ cls := "CodeExchange", name := "need", desc := "(ZI)V" } : Jvm.MethodName) prog_1_method_14_code (3 : Nat) (Option.none : Option Jvm.ClassFile.FieldType)) ∈ lw_all := lw_g (lw_at lw_m3 149 rfl) rfl
theorem q726 : (Jvm.Cond.methodLink "CodeExchange" (188 : Nat) ({ cls := "CodeExchange$Table", name := "take", desc := "(LCodeExchange$Table;)V" } : Jvm.MethodName)) ∈ lw_all := lw_g (lw_at lw_m3 150 rfl) rfl
theorem q739 : (Jvm.Cond.instanceMethod ({ cls := "CodeExchange", name := "entry", desc := "(IIIII)I" } : Jvm.MethodName)) ∈ lw_all := lw_g (lw_at lw_m3 163 rfl) rfl
theorem q740 : (Jvm.Cond.selects "CodeExchange" ({ cls := "CodeExchange", name := "entry", desc := "(IIIII)I" } : Jvm.MethodName) ({ cls := "CodeExchange", name := "entry", desc := "(IIIII)I" } : Jvm.MethodName)) ∈ lw_all := lw_g (lw_at lw_m3 164 rfl) rfl
theorem q741 : (Jvm.Cond.codeWith ({ cls := "CodeExchange", name := "entry", desc := "(IIIII)I" } : Jvm.MethodName) prog_1_method_19_code (10 : Nat) (Option.some Jvm.ClassFile.FieldType.int) [((0 : Nat), (157 : Nat), (158 : Nat), (18 : Nat))]) ∈ lw_all := lw_g (lw_at lw_m3 165 rfl) rfl
theorem q742 : (Jvm.Cond.methodLink "CodeExchange" (192 : Nat) ({ cls := "CodeExchange", name := "isText", desc := "(III)Z" } : Jvm.MethodName)) ∈ lw_all := lw_g (lw_at lw_m3 166 rfl) rfl
theorem q743 : (Jvm.Cond.static ({ cls := "CodeExchange", name := "isText", desc := "(III)Z" } : Jvm.MethodName)) ∈ lw_all := lw_g (lw_at lw_m3 167 rfl) rfl
theorem q744 : (Jvm.Cond.code ({ cls := "CodeExchange", name := "isText", desc := "(III)Z" } : Jvm.MethodName) prog_1_method_18_code (3 : Nat) (Option.some Jvm.ClassFile.FieldType.boolean)) ∈ lw_all := lw_g (lw_at lw_m3 168 rfl) rfl
theorem q745 : (Jvm.Cond.methodLink "CodeExchange" (195 : Nat) ({ cls := "CodeExchange", name := "isPoint", desc := "(I)Z" } : Jvm.MethodName)) ∈ lw_all := lw_g (lw_at lw_m3 169 rfl) rfl
theorem q746 : (Jvm.Cond.static ({ cls := "CodeExchange", name := "isPoint", desc := "(I)Z" } : Jvm.MethodName)) ∈ lw_all := lw_g (lw_at lw_m3 170 rfl) rfl
theorem q747 : (Jvm.Cond.code ({ cls := "CodeExchange", name := "isPoint", desc := "(I)Z" } : Jvm.MethodName) prog_1_method_2_code (1 : Nat) (Option.some Jvm.ClassFile.FieldType.boolean)) ∈ lw_all := lw_g (lw_at lw_m3 171 rfl) rfl
theorem q748 : (Jvm.Cond.constant "CodeExchange" (3 : Nat) (1114111 : Int32)) ∈ lw_all := lw_g (lw_at lw_m3 172 rfl) rfl
theorem q749 : (Jvm.Cond.constant "CodeExchange" (8 : Nat) (55296 : Int32)) ∈ lw_all := lw_g (lw_at lw_m3 173 rfl) rfl
theorem q750 : (Jvm.Cond.constant "CodeExchange" (9 : Nat) (57343 : Int32)) ∈ lw_all := lw_g (lw_at lw_m3 174 rfl) rfl
theorem q751 : (Jvm.Cond.methodLink "CodeExchange" (199 : Nat) ({ cls := "CodeExchange$Table", name := "find", desc := "(III)I" } : Jvm.MethodName)) ∈ lw_all := lw_g (lw_at lw_m3 175 rfl) rfl
theorem q755 : (Jvm.Cond.methodLink "CodeExchange" (206 : Nat) ({ cls := "CodeExchange$Table", name := "set", desc := "(IIIIIZ)V" } : Jvm.MethodName)) ∈ lw_all := lw_g (lw_at lw_m3 179 rfl) rfl
theorem q757 : (Jvm.Cond.instanceMethod ({ cls := "CodeExchange", name := "shift", desc := "(IIIIZ)I" } : Jvm.MethodName)) ∈ lw_all := lw_g (lw_at lw_m3 181 rfl) rfl
theorem q758 : (Jvm.Cond.selects "CodeExchange" ({ cls := "CodeExchange", name := "shift", desc := "(IIIIZ)I" } : Jvm.MethodName) ({ cls := "CodeExchange", name := "shift", desc := "(IIIIZ)I" } : Jvm.MethodName)) ∈ lw_all := lw_g (lw_at lw_m3 182 rfl) rfl
theorem q759 : (Jvm.Cond.codeWith ({ cls := "CodeExchange", name := "shift", desc := "(IIIIZ)I" } : Jvm.MethodName) prog_1_method_20_code (7 : Nat) (Option.some Jvm.ClassFile.FieldType.int) [((0 : Nat), (124 : Nat), (125 : Nat), (18 : Nat))]) ∈ lw_all := lw_g (lw_at lw_m3 183 rfl) rfl
theorem q760 : (Jvm.Cond.methodLink "CodeExchange" (210 : Nat) ({ cls := "CodeExchange$Table", name := "findShift", desc := "(II)I" } : Jvm.MethodName)) ∈ lw_all := lw_g (lw_at lw_m3 184 rfl) rfl
theorem q764 : (Jvm.Cond.methodLink "CodeExchange" (217 : Nat) ({ cls := "CodeExchange$Table", name := "setShift", desc := "(IIIIZ)V" } : Jvm.MethodName)) ∈ lw_all := lw_g (lw_at lw_m3 188 rfl) rfl
theorem q766 : (Jvm.Cond.instanceMethod ({ cls := "CodeExchange", name := "drop", desc := "(IIII)I" } : Jvm.MethodName)) ∈ lw_all := lw_g (lw_at lw_m3 190 rfl) rfl
theorem q767 : (Jvm.Cond.selects "CodeExchange" ({ cls := "CodeExchange", name := "drop", desc := "(IIII)I" } : Jvm.MethodName) ({ cls := "CodeExchange", name := "drop", desc := "(IIII)I" } : Jvm.MethodName)) ∈ lw_all := lw_g (lw_at lw_m3 191 rfl) rfl
theorem q768 : (Jvm.Cond.codeWith ({ cls := "CodeExchange", name := "drop", desc := "(IIII)I" } : Jvm.MethodName) prog_1_method_21_code (7 : Nat) (Option.some Jvm.ClassFile.FieldType.int) [((0 : Nat), (44 : Nat), (89 : Nat), (18 : Nat)), ((45 : Nat), (88 : Nat), (89 : Nat), (18 : Nat))]) ∈ lw_all := lw_g (lw_at lw_m3 192 rfl) rfl
theorem q769 : (Jvm.Cond.methodLink "CodeExchange" (221 : Nat) ({ cls := "CodeExchange$Table", name := "remove", desc := "(I)V" } : Jvm.MethodName)) ∈ lw_all := lw_g (lw_at lw_m3 193 rfl) rfl
theorem q773 : (Jvm.Cond.methodLink "CodeExchange" (224 : Nat) ({ cls := "CodeExchange$Table", name := "removeShift", desc := "(I)V" } : Jvm.MethodName)) ∈ lw_all := lw_g (lw_at lw_m3 197 rfl) rfl
theorem q778 : (Jvm.Cond.instanceMethod ({ cls := "CodeExchange", name := "close", desc := "(I)I" } : Jvm.MethodName)) ∈ lw_all := lw_g (lw_at lw_m3 202 rfl) rfl
theorem q779 : (Jvm.Cond.selects "CodeExchange" ({ cls := "CodeExchange", name := "close", desc := "(I)I" } : Jvm.MethodName) ({ cls := "CodeExchange", name := "close", desc := "(I)I" } : Jvm.MethodName)) ∈ lw_all := lw_g (lw_at lw_m3 203 rfl) rfl
theorem q780 : (Jvm.Cond.codeWith ({ cls := "CodeExchange", name := "close", desc := "(I)I" } : Jvm.MethodName) prog_1_method_22_code (3 : Nat) (Option.some Jvm.ClassFile.FieldType.int) [((0 : Nat), (50 : Nat), (51 : Nat), (18 : Nat))]) ∈ lw_all := lw_g (lw_at lw_m3 204 rfl) rfl
theorem q781 : (Jvm.Cond.methodLink "CodeExchange" (227 : Nat) ({ cls := "CodeExchange$Table", name := "isBad", desc := "()Z" } : Jvm.MethodName)) ∈ lw_all := lw_g (lw_at lw_m3 205 rfl) rfl
theorem q844 : (Jvm.Cond.methodLink "CodeExchange" (248 : Nat) ({ cls := "CodeExchange$Table", name := "close", desc := "()V" } : Jvm.MethodName)) ∈ lw_all := lw_g (lw_at lw_m4 28 rfl) rfl
theorem q849 : (Jvm.Cond.instanceMethod ({ cls := "CodeExchange", name := "size", desc := "(II)I" } : Jvm.MethodName)) ∈ lw_all := lw_g (lw_at lw_m4 33 rfl) rfl
theorem q850 : (Jvm.Cond.selects "CodeExchange" ({ cls := "CodeExchange", name := "size", desc := "(II)I" } : Jvm.MethodName) ({ cls := "CodeExchange", name := "size", desc := "(II)I" } : Jvm.MethodName)) ∈ lw_all := lw_g (lw_at lw_m4 34 rfl) rfl
theorem q851 : (Jvm.Cond.codeWith ({ cls := "CodeExchange", name := "size", desc := "(II)I" } : Jvm.MethodName) prog_1_method_23_code (5 : Nat) (Option.some Jvm.ClassFile.FieldType.int) [((0 : Nat), (85 : Nat), (86 : Nat), (18 : Nat))]) ∈ lw_all := lw_g (lw_at lw_m4 35 rfl) rfl
theorem q852 : (Jvm.Cond.methodLink "CodeExchange" (152 : Nat) ({ cls := "CodeExchange", name := "pageAt", desc := "(I)LCodeExchange$Page;" } : Jvm.MethodName)) ∈ lw_all := lw_g (lw_at lw_m4 36 rfl) rfl
theorem q853 : (Jvm.Cond.privateMethod ({ cls := "CodeExchange", name := "pageAt", desc := "(I)LCodeExchange$Page;" } : Jvm.MethodName)) ∈ lw_tbl := lw_at lw_m4 37 rfl
theorem q854 : (Jvm.Cond.instanceMethod ({ cls := "CodeExchange", name := "pageAt", desc := "(I)LCodeExchange$Page;" } : Jvm.MethodName)) ∈ lw_all := lw_g (lw_at lw_m4 38 rfl) rfl
theorem q855 : (Jvm.Cond.code ({ cls := "CodeExchange", name := "pageAt", desc := "(I)LCodeExchange$Page;" } : Jvm.MethodName) prog_1_method_12_code (3 : Nat) (Option.some (Jvm.ClassFile.FieldType.object "CodeExchange$Page"))) ∈ lw_all := lw_g (lw_at lw_m4 39 rfl) rfl
theorem q856 : (Jvm.Cond.classLink "CodeExchange" (150 : Nat) "CodeExchange$Page") ∈ lw_all := lw_g (lw_at lw_m4 40 rfl) rfl
theorem q857 : (Jvm.Cond.methodLink "CodeExchange" (251 : Nat) ({ cls := "CodeExchange$Page", name := "kind", desc := "()I" } : Jvm.MethodName)) ∈ lw_all := lw_g (lw_at lw_m4 41 rfl) rfl
theorem q872 : (Jvm.Cond.methodLink "CodeExchange" (156 : Nat) ({ cls := "CodeExchange$Page", name := "isClosed", desc := "()Z" } : Jvm.MethodName)) ∈ lw_all := lw_g (lw_at lw_m4 56 rfl) rfl
theorem q884 : (Jvm.Cond.instanceMethod ({ cls := "CodeExchange", name := "code", desc := "(II)J" } : Jvm.MethodName)) ∈ lw_all := lw_g (lw_at lw_m4 68 rfl) rfl
theorem q885 : (Jvm.Cond.selects "CodeExchange" ({ cls := "CodeExchange", name := "code", desc := "(II)J" } : Jvm.MethodName) ({ cls := "CodeExchange", name := "code", desc := "(II)J" } : Jvm.MethodName)) ∈ lw_all := lw_g (lw_at lw_m4 69 rfl) rfl
theorem q886 : (Jvm.Cond.codeWith ({ cls := "CodeExchange", name := "code", desc := "(II)J" } : Jvm.MethodName) prog_1_method_24_code (6 : Nat) (Option.some Jvm.ClassFile.FieldType.long) [((0 : Nat), (42 : Nat), (43 : Nat), (18 : Nat))]) ∈ lw_all := lw_g (lw_at lw_m4 70 rfl) rfl
theorem q887 : (Jvm.Cond.methodLink "CodeExchange" (255 : Nat) ({ cls := "CodeExchange", name := "closedAt", desc := "(I)LCodeExchange$Page;" } : Jvm.MethodName)) ∈ lw_all := lw_g (lw_at lw_m4 71 rfl) rfl
theorem q888 : (Jvm.Cond.privateMethod ({ cls := "CodeExchange", name := "closedAt", desc := "(I)LCodeExchange$Page;" } : Jvm.MethodName)) ∈ lw_tbl := lw_at lw_m4 72 rfl
theorem q889 : (Jvm.Cond.instanceMethod ({ cls := "CodeExchange", name := "closedAt", desc := "(I)LCodeExchange$Page;" } : Jvm.MethodName)) ∈ lw_all := lw_g (lw_at lw_m4 73 rfl) rfl
theorem q890 : (Jvm.Cond.code ({ cls := "CodeExchange", name := "closedAt", desc := "(I)LCodeExchange$Page;" } : Jvm.MethodName) prog_1_method_13_code (3 : Nat) (Option.some (Jvm.ClassFile.FieldType.object "CodeExchange$Page"))) ∈ lw_all := lw_g (lw_at lw_m4 74 rfl) rfl
theorem q891 : (Jvm.Cond.methodLink "CodeExchange" (258 : Nat) ({ cls := "CodeExchange$Page", name := "code", desc := "(I)J" } : Jvm.MethodName)) ∈ lw_all := lw_g (lw_at lw_m4 75 rfl) rfl
theorem q934 : (Jvm.Cond.instanceMethod ({ cls := "CodeExchange", name := "bytesIn", desc := "(JI)I" } : Jvm.MethodName)) ∈ lw_all := lw_g (lw_at lw_m4 118 rfl) rfl
theorem q935 : (Jvm.Cond.selects "CodeExchange" ({ cls := "CodeExchange", name := "bytesIn", desc := "(JI)I" } : Jvm.MethodName) ({ cls := "CodeExchange", name := "bytesIn", desc := "(JI)I" } : Jvm.MethodName)) ∈ lw_all := lw_g (lw_at lw_m4 119 rfl) rfl
theorem q936 : (Jvm.Cond.code ({ cls := "CodeExchange", name := "bytesIn", desc := "(JI)I" } : Jvm.MethodName) prog_1_method_25_code (5 : Nat) (Option.some Jvm.ClassFile.FieldType.int)) ∈ lw_all := lw_g (lw_at lw_m4 120 rfl) rfl
theorem q937 : (Jvm.Cond.constantLong "CodeExchange" (265 : Nat) (255 : Int64)) ∈ lw_all := lw_g (lw_at lw_m4 121 rfl) rfl
theorem q939 : (Jvm.Cond.instanceMethod ({ cls := "CodeExchange", name := "unitsIn", desc := "(JI)I" } : Jvm.MethodName)) ∈ lw_all := lw_g (lw_at lw_m4 123 rfl) rfl
theorem q940 : (Jvm.Cond.selects "CodeExchange" ({ cls := "CodeExchange", name := "unitsIn", desc := "(JI)I" } : Jvm.MethodName) ({ cls := "CodeExchange", name := "unitsIn", desc := "(JI)I" } : Jvm.MethodName)) ∈ lw_all := lw_g (lw_at lw_m4 124 rfl) rfl
theorem q941 : (Jvm.Cond.code ({ cls := "CodeExchange", name := "unitsIn", desc := "(JI)I" } : Jvm.MethodName) prog_1_method_26_code (5 : Nat) (Option.some Jvm.ClassFile.FieldType.int)) ∈ lw_all := lw_g (lw_at lw_m4 125 rfl) rfl
theorem q942 : (Jvm.Cond.constantLong "CodeExchange" (270 : Nat) (65535 : Int64)) ∈ lw_all := lw_g (lw_at lw_m4 126 rfl) rfl
theorem q944 : (Jvm.Cond.instanceMethod ({ cls := "CodeExchange", name := "fill", desc := "(I)I" } : Jvm.MethodName)) ∈ lw_all := lw_g (lw_at lw_m4 128 rfl) rfl
theorem q945 : (Jvm.Cond.selects "CodeExchange" ({ cls := "CodeExchange", name := "fill", desc := "(I)I" } : Jvm.MethodName) ({ cls := "CodeExchange", name := "fill", desc := "(I)I" } : Jvm.MethodName)) ∈ lw_all := lw_g (lw_at lw_m4 129 rfl) rfl
theorem q946 : (Jvm.Cond.code ({ cls := "CodeExchange", name := "fill", desc := "(I)I" } : Jvm.MethodName) prog_1_method_27_code (3 : Nat) (Option.some Jvm.ClassFile.FieldType.int)) ∈ lw_all := lw_g (lw_at lw_m4 130 rfl) rfl
theorem q947 : (Jvm.Cond.methodLink "CodeExchange" (281 : Nat) ({ cls := "java/lang/System", name := "arraycopy", desc := "(Ljava/lang/Object;ILjava/lang/Object;II)V" } : Jvm.MethodName)) ∈ lw_all := lw_g (lw_at lw_m4 131 rfl) rfl
theorem q951 : (Jvm.Cond.instanceMethod ({ cls := "CodeExchange", name := "decode", desc := "(II)I" } : Jvm.MethodName)) ∈ lw_all := lw_g (lw_at lw_m4 135 rfl) rfl
theorem q952 : (Jvm.Cond.selects "CodeExchange" ({ cls := "CodeExchange", name := "decode", desc := "(II)I" } : Jvm.MethodName) ({ cls := "CodeExchange", name := "decode", desc := "(II)I" } : Jvm.MethodName)) ∈ lw_all := lw_g (lw_at lw_m4 136 rfl) rfl
theorem q953 : (Jvm.Cond.codeWith ({ cls := "CodeExchange", name := "decode", desc := "(II)I" } : Jvm.MethodName) prog_1_method_30_code (4 : Nat) (Option.some Jvm.ClassFile.FieldType.int) [((0 : Nat), (52 : Nat), (53 : Nat), (18 : Nat))]) ∈ lw_all := lw_g (lw_at lw_m4 137 rfl) rfl
theorem q954 : (Jvm.Cond.methodLink "CodeExchange" (299 : Nat) ({ cls := "CodeExchange$Row", name := "begin", desc := "(Z)V" } : Jvm.MethodName)) ∈ lw_all := lw_g (lw_at lw_m4 138 rfl) rfl
theorem q958 : (Jvm.Cond.methodLink "CodeExchange" (302 : Nat) ({ cls := "CodeExchange", name := "run", desc := "(LCodeExchange$Machine;LCodeExchange$Page;I[IILCodeExchange$Row;)V" } : Jvm.MethodName)) ∈ lw_all := lw_g (lw_at lw_m4 142 rfl) rfl
theorem q959 : (Jvm.Cond.privateMethod ({ cls := "CodeExchange", name := "run", desc := "(LCodeExchange$Machine;LCodeExchange$Page;I[IILCodeExchange$Row;)V" } : Jvm.MethodName)) ∈ lw_tbl := lw_at lw_m4 143 rfl
theorem q960 : (Jvm.Cond.instanceMethod ({ cls := "CodeExchange", name := "run", desc := "(LCodeExchange$Machine;LCodeExchange$Page;I[IILCodeExchange$Row;)V" } : Jvm.MethodName)) ∈ lw_all := lw_g (lw_at lw_m4 144 rfl) rfl
theorem q961 : (Jvm.Cond.code ({ cls := "CodeExchange", name := "run", desc := "(LCodeExchange$Machine;LCodeExchange$Page;I[IILCodeExchange$Row;)V" } : Jvm.MethodName) prog_1_method_28_code (8 : Nat) (Option.none : Option Jvm.ClassFile.FieldType)) ∈ lw_all := lw_g (lw_at lw_m4 145 rfl) rfl
theorem q962 : (Jvm.Cond.methodLink "CodeExchange" (287 : Nat) ({ cls := "CodeExchange$Machine", name := "begin", desc := "(LCodeExchange$Page;ILCodeExchange$Sink;)V" } : Jvm.MethodName)) ∈ lw_all := lw_g (lw_at lw_m4 146 rfl) rfl
theorem q968 : (Jvm.Cond.methodLink "CodeExchange" (293 : Nat) ({ cls := "CodeExchange$Machine", name := "feed", desc := "(I)V" } : Jvm.MethodName)) ∈ lw_all := lw_g (lw_at lw_m4 152 rfl) rfl
theorem q1019 : (Jvm.Cond.static ({ cls := "CodeExchange", name := "isHigh", desc := "(I)Z" } : Jvm.MethodName)) ∈ lw_all := lw_g (lw_at lw_m4 203 rfl) rfl
theorem q1020 : (Jvm.Cond.code ({ cls := "CodeExchange", name := "isHigh", desc := "(I)Z" } : Jvm.MethodName) prog_1_method_3_code (1 : Nat) (Option.some Jvm.ClassFile.FieldType.boolean)) ∈ lw_all := lw_g (lw_at lw_m4 204 rfl) rfl
theorem q1021 : (Jvm.Cond.constant "CodeExchange" (10 : Nat) (56319 : Int32)) ∈ lw_all := lw_g (lw_at lw_m4 205 rfl) rfl
theorem q1023 : (Jvm.Cond.static ({ cls := "CodeExchange", name := "isLow", desc := "(I)Z" } : Jvm.MethodName)) ∈ lw_all := lw_g (lw_at lw_m4 207 rfl) rfl
theorem q1024 : (Jvm.Cond.code ({ cls := "CodeExchange", name := "isLow", desc := "(I)Z" } : Jvm.MethodName) prog_1_method_4_code (1 : Nat) (Option.some Jvm.ClassFile.FieldType.boolean)) ∈ lw_all := lw_g (lw_at lw_m4 208 rfl) rfl
theorem q1025 : (Jvm.Cond.constant "CodeExchange" (11 : Nat) (56320 : Int32)) ∈ lw_all := lw_g (lw_at lw_m4 209 rfl) rfl
theorem q1027 : (Jvm.Cond.static ({ cls := "CodeExchange", name := "paired", desc := "(II)I" } : Jvm.MethodName)) ∈ lw_all := lw_g (lw_at lw_m4 211 rfl) rfl
theorem q1028 : (Jvm.Cond.code ({ cls := "CodeExchange", name := "paired", desc := "(II)I" } : Jvm.MethodName) prog_1_method_5_code (2 : Nat) (Option.some Jvm.ClassFile.FieldType.int)) ∈ lw_all := lw_g (lw_at lw_m4 212 rfl) rfl
theorem q1029 : (Jvm.Cond.constant "CodeExchange" (12 : Nat) (65536 : Int32)) ∈ lw_all := lw_g (lw_at lw_m4 213 rfl) rfl
theorem q1072 : (Jvm.Cond.static ({ cls := "CodeExchange", name := "putPoint", desc := "(LCodeExchange$Sink;I)V" } : Jvm.MethodName)) ∈ lw_all := lw_g (lw_at lw_m5 16 rfl) rfl
theorem q1073 : (Jvm.Cond.code ({ cls := "CodeExchange", name := "putPoint", desc := "(LCodeExchange$Sink;I)V" } : Jvm.MethodName) prog_1_method_7_code (2 : Nat) (Option.none : Option Jvm.ClassFile.FieldType)) ∈ lw_all := lw_g (lw_at lw_m5 17 rfl) rfl
theorem q1074 : (Jvm.Cond.interfaceEntry "CodeExchange" (23 : Nat)) ∈ lw_tbl := lw_at lw_m5 18 rfl
theorem q1075 : (Jvm.Cond.methodLink "CodeExchange" (23 : Nat) ({ cls := "CodeExchange$Sink", name := "put", desc := "(I)V" } : Jvm.MethodName)) ∈ lw_all := lw_g (lw_at lw_m5 19 rfl) rfl
theorem q1145 : (Jvm.Cond.privateMethod ({ cls := "CodeExchange", name := "fallbackOf", desc := "(I)I" } : Jvm.MethodName)) ∈ lw_tbl := lw_at lw_m5 89 rfl
theorem q1146 : (Jvm.Cond.instanceMethod ({ cls := "CodeExchange", name := "fallbackOf", desc := "(I)I" } : Jvm.MethodName)) ∈ lw_all := lw_g (lw_at lw_m5 90 rfl) rfl
theorem q1147 : (Jvm.Cond.code ({ cls := "CodeExchange", name := "fallbackOf", desc := "(I)I" } : Jvm.MethodName) prog_1_method_35_code (3 : Nat) (Option.some Jvm.ClassFile.FieldType.int)) ∈ lw_all := lw_g (lw_at lw_m5 91 rfl) rfl
theorem q1155 : (Jvm.Cond.methodLink "CodeExchange" (296 : Nat) ({ cls := "CodeExchange$Machine", name := "end", desc := "()V" } : Jvm.MethodName)) ∈ lw_all := lw_g (lw_at lw_m5 99 rfl) rfl
theorem q1180 : (Jvm.Cond.methodLink "CodeExchange" (306 : Nat) ({ cls := "CodeExchange", name := "becomes", desc := "(I)I" } : Jvm.MethodName)) ∈ lw_all := lw_g (lw_at lw_m5 124 rfl) rfl
theorem q1181 : (Jvm.Cond.privateMethod ({ cls := "CodeExchange", name := "becomes", desc := "(I)I" } : Jvm.MethodName)) ∈ lw_tbl := lw_at lw_m5 125 rfl
theorem q1182 : (Jvm.Cond.instanceMethod ({ cls := "CodeExchange", name := "becomes", desc := "(I)I" } : Jvm.MethodName)) ∈ lw_all := lw_g (lw_at lw_m5 126 rfl) rfl
theorem q1183 : (Jvm.Cond.code ({ cls := "CodeExchange", name := "becomes", desc := "(I)I" } : Jvm.MethodName) prog_1_method_29_code (3 : Nat) (Option.some Jvm.ClassFile.FieldType.int)) ∈ lw_all := lw_g (lw_at lw_m5 127 rfl) rfl
theorem q1185 : (Jvm.Cond.instanceMethod ({ cls := "CodeExchange", name := "encode", desc := "(II)I" } : Jvm.MethodName)) ∈ lw_all := lw_g (lw_at lw_m5 129 rfl) rfl
theorem q1186 : (Jvm.Cond.selects "CodeExchange" ({ cls := "CodeExchange", name := "encode", desc := "(II)I" } : Jvm.MethodName) ({ cls := "CodeExchange", name := "encode", desc := "(II)I" } : Jvm.MethodName)) ∈ lw_all := lw_g (lw_at lw_m5 130 rfl) rfl
theorem q1187 : (Jvm.Cond.codeWith ({ cls := "CodeExchange", name := "encode", desc := "(II)I" } : Jvm.MethodName) prog_1_method_31_code (4 : Nat) (Option.some Jvm.ClassFile.FieldType.int) [((0 : Nat), (52 : Nat), (53 : Nat), (18 : Nat))]) ∈ lw_all := lw_g (lw_at lw_m5 131 rfl) rfl
theorem q1189 : (Jvm.Cond.instanceMethod ({ cls := "CodeExchange", name := "transcode", desc := "(IIII)I" } : Jvm.MethodName)) ∈ lw_all := lw_g (lw_at lw_m5 133 rfl) rfl
theorem q1190 : (Jvm.Cond.selects "CodeExchange" ({ cls := "CodeExchange", name := "transcode", desc := "(IIII)I" } : Jvm.MethodName) ({ cls := "CodeExchange", name := "transcode", desc := "(IIII)I" } : Jvm.MethodName)) ∈ lw_all := lw_g (lw_at lw_m5 134 rfl) rfl
theorem q1191 : (Jvm.Cond.codeWith ({ cls := "CodeExchange", name := "transcode", desc := "(IIII)I" } : Jvm.MethodName) prog_1_method_32_code (7 : Nat) (Option.some Jvm.ClassFile.FieldType.int) [((0 : Nat), (129 : Nat), (130 : Nat), (18 : Nat))]) ∈ lw_all := lw_g (lw_at lw_m5 135 rfl) rfl
theorem q1193 : (Jvm.Cond.instanceMethod ({ cls := "CodeExchange", name := "result", desc := "(I)I" } : Jvm.MethodName)) ∈ lw_all := lw_g (lw_at lw_m5 137 rfl) rfl
theorem q1194 : (Jvm.Cond.selects "CodeExchange" ({ cls := "CodeExchange", name := "result", desc := "(I)I" } : Jvm.MethodName) ({ cls := "CodeExchange", name := "result", desc := "(I)I" } : Jvm.MethodName)) ∈ lw_all := lw_g (lw_at lw_m5 138 rfl) rfl
theorem q1195 : (Jvm.Cond.code ({ cls := "CodeExchange", name := "result", desc := "(I)I" } : Jvm.MethodName) prog_1_method_33_code (2 : Nat) (Option.some Jvm.ClassFile.FieldType.int)) ∈ lw_all := lw_g (lw_at lw_m5 139 rfl) rfl
theorem q1197 : (Jvm.Cond.instanceMethod ({ cls := "CodeExchange", name := "sign", desc := "(II)I" } : Jvm.MethodName)) ∈ lw_all := lw_g (lw_at lw_m5 141 rfl) rfl
theorem q1198 : (Jvm.Cond.selects "CodeExchange" ({ cls := "CodeExchange", name := "sign", desc := "(II)I" } : Jvm.MethodName) ({ cls := "CodeExchange", name := "sign", desc := "(II)I" } : Jvm.MethodName)) ∈ lw_all := lw_g (lw_at lw_m5 142 rfl) rfl
theorem q1199 : (Jvm.Cond.code ({ cls := "CodeExchange", name := "sign", desc := "(II)I" } : Jvm.MethodName) prog_1_method_34_code (4 : Nat) (Option.some Jvm.ClassFile.FieldType.int)) ∈ lw_all := lw_g (lw_at lw_m5 143 rfl) rfl
theorem q1201 : (Jvm.Cond.instanceMethod ({ cls := "CodeExchange", name := "fallback", desc := "(I)I" } : Jvm.MethodName)) ∈ lw_all := lw_g (lw_at lw_m5 145 rfl) rfl
theorem q1202 : (Jvm.Cond.selects "CodeExchange" ({ cls := "CodeExchange", name := "fallback", desc := "(I)I" } : Jvm.MethodName) ({ cls := "CodeExchange", name := "fallback", desc := "(I)I" } : Jvm.MethodName)) ∈ lw_all := lw_g (lw_at lw_m5 146 rfl) rfl
theorem q1203 : (Jvm.Cond.codeWith ({ cls := "CodeExchange", name := "fallback", desc := "(I)I" } : Jvm.MethodName) prog_1_method_40_code (5 : Nat) (Option.some Jvm.ClassFile.FieldType.int) [((0 : Nat), (90 : Nat), (132 : Nat), (18 : Nat)), ((91 : Nat), (131 : Nat), (132 : Nat), (18 : Nat))]) ∈ lw_all := lw_g (lw_at lw_m5 147 rfl) rfl
theorem q1204 : (Jvm.Cond.methodLink "CodeExchange" (329 : Nat) ({ cls := "CodeExchange", name := "takeText", desc := "()I" } : Jvm.MethodName)) ∈ lw_all := lw_g (lw_at lw_m5 148 rfl) rfl
theorem q1205 : (Jvm.Cond.privateMethod ({ cls := "CodeExchange", name := "takeText", desc := "()I" } : Jvm.MethodName)) ∈ lw_tbl := lw_at lw_m5 149 rfl
theorem q1206 : (Jvm.Cond.instanceMethod ({ cls := "CodeExchange", name := "takeText", desc := "()I" } : Jvm.MethodName)) ∈ lw_all := lw_g (lw_at lw_m5 150 rfl) rfl
theorem q1207 : (Jvm.Cond.code ({ cls := "CodeExchange", name := "takeText", desc := "()I" } : Jvm.MethodName) prog_1_method_39_code (4 : Nat) (Option.some Jvm.ClassFile.FieldType.int)) ∈ lw_all := lw_g (lw_at lw_m5 151 rfl) rfl
theorem q1208 : (Jvm.Cond.methodLink "CodeExchange" (320 : Nat) ({ cls := "CodeExchange", name := "isHigh", desc := "(I)Z" } : Jvm.MethodName)) ∈ lw_all := lw_g (lw_at lw_m5 152 rfl) rfl
theorem q1209 : (Jvm.Cond.methodLink "CodeExchange" (323 : Nat) ({ cls := "CodeExchange", name := "isLow", desc := "(I)Z" } : Jvm.MethodName)) ∈ lw_all := lw_g (lw_at lw_m5 153 rfl) rfl
theorem q1210 : (Jvm.Cond.methodLink "CodeExchange" (326 : Nat) ({ cls := "CodeExchange", name := "paired", desc := "(II)I" } : Jvm.MethodName)) ∈ lw_all := lw_g (lw_at lw_m5 154 rfl) rfl
theorem q1211 : (Jvm.Cond.methodLink "CodeExchange" (312 : Nat) ({ cls := "CodeExchange", name := "fallbackOf", desc := "(I)I" } : Jvm.MethodName)) ∈ lw_all := lw_g (lw_at lw_m5 155 rfl) rfl
theorem q1212 : (Jvm.Cond.methodLink "CodeExchange" (332 : Nat) ({ cls := "CodeExchange", name := "setFallback", desc := "(II)V" } : Jvm.MethodName)) ∈ lw_all := lw_g (lw_at lw_m5 156 rfl) rfl
theorem q1213 : (Jvm.Cond.privateMethod ({ cls := "CodeExchange", name := "setFallback", desc := "(II)V" } : Jvm.MethodName)) ∈ lw_tbl := lw_at lw_m5 157 rfl
theorem q1214 : (Jvm.Cond.instanceMethod ({ cls := "CodeExchange", name := "setFallback", desc := "(II)V" } : Jvm.MethodName)) ∈ lw_all := lw_g (lw_at lw_m5 158 rfl) rfl
theorem q1215 : (Jvm.Cond.code ({ cls := "CodeExchange", name := "setFallback", desc := "(II)V" } : Jvm.MethodName) prog_1_method_36_code (4 : Nat) (Option.none : Option Jvm.ClassFile.FieldType)) ∈ lw_all := lw_g (lw_at lw_m5 159 rfl) rfl
theorem q1216 : (Jvm.Cond.methodLink "CodeExchange" (336 : Nat) ({ cls := "CodeExchange", name := "lay", desc := "(III)V" } : Jvm.MethodName)) ∈ lw_all := lw_g (lw_at lw_m5 160 rfl) rfl
theorem q1217 : (Jvm.Cond.privateMethod ({ cls := "CodeExchange", name := "lay", desc := "(III)V" } : Jvm.MethodName)) ∈ lw_tbl := lw_at lw_m5 161 rfl
theorem q1218 : (Jvm.Cond.instanceMethod ({ cls := "CodeExchange", name := "lay", desc := "(III)V" } : Jvm.MethodName)) ∈ lw_all := lw_g (lw_at lw_m5 162 rfl) rfl
theorem q1219 : (Jvm.Cond.code ({ cls := "CodeExchange", name := "lay", desc := "(III)V" } : Jvm.MethodName) prog_1_method_41_code (7 : Nat) (Option.none : Option Jvm.ClassFile.FieldType)) ∈ lw_all := lw_g (lw_at lw_m5 163 rfl) rfl
theorem q1220 : (Jvm.Cond.methodLink "CodeExchange" (340 : Nat) ({ cls := "CodeExchange", name := "areLengths", desc := "()Z" } : Jvm.MethodName)) ∈ lw_all := lw_g (lw_at lw_m5 164 rfl) rfl
theorem q1221 : (Jvm.Cond.privateMethod ({ cls := "CodeExchange", name := "areLengths", desc := "()Z" } : Jvm.MethodName)) ∈ lw_tbl := lw_at lw_m5 165 rfl
theorem q1222 : (Jvm.Cond.instanceMethod ({ cls := "CodeExchange", name := "areLengths", desc := "()Z" } : Jvm.MethodName)) ∈ lw_all := lw_g (lw_at lw_m5 166 rfl) rfl
theorem q1223 : (Jvm.Cond.code ({ cls := "CodeExchange", name := "areLengths", desc := "()Z" } : Jvm.MethodName) prog_1_method_37_code (6 : Nat) (Option.some Jvm.ClassFile.FieldType.boolean)) ∈ lw_all := lw_g (lw_at lw_m5 167 rfl) rfl
theorem q1224 : (Jvm.Cond.methodLink "CodeExchange" (315 : Nat) ({ cls := "java/lang/Math", name := "min", desc := "(II)I" } : Jvm.MethodName)) ∈ lw_all := lw_g (lw_at lw_m5 168 rfl) rfl
theorem q1225 : (Jvm.Cond.methodLink "CodeExchange" (343 : Nat) ({ cls := "CodeExchange", name := "areShort", desc := "()Z" } : Jvm.MethodName)) ∈ lw_all := lw_g (lw_at lw_m5 169 rfl) rfl
theorem q1226 : (Jvm.Cond.privateMethod ({ cls := "CodeExchange", name := "areShort", desc := "()Z" } : Jvm.MethodName)) ∈ lw_tbl := lw_at lw_m5 170 rfl
theorem q1227 : (Jvm.Cond.instanceMethod ({ cls := "CodeExchange", name := "areShort", desc := "()Z" } : Jvm.MethodName)) ∈ lw_all := lw_g (lw_at lw_m5 171 rfl) rfl
theorem q1228 : (Jvm.Cond.code ({ cls := "CodeExchange", name := "areShort", desc := "()Z" } : Jvm.MethodName) prog_1_method_38_code (2 : Nat) (Option.some Jvm.ClassFile.FieldType.boolean)) ∈ lw_all := lw_g (lw_at lw_m5 172 rfl) rfl
theorem q1230 : (Jvm.Cond.instanceMethod ({ cls := "CodeExchange", name := "begin", desc := "(IIZI)I" } : Jvm.MethodName)) ∈ lw_all := lw_g (lw_at lw_m5 174 rfl) rfl
theorem q1231 : (Jvm.Cond.selects "CodeExchange" ({ cls := "CodeExchange", name := "begin", desc := "(IIZI)I" } : Jvm.MethodName) ({ cls := "CodeExchange", name := "begin", desc := "(IIZI)I" } : Jvm.MethodName)) ∈ lw_all := lw_g (lw_at lw_m5 175 rfl) rfl
theorem q1232 : (Jvm.Cond.codeWith ({ cls := "CodeExchange", name := "begin", desc := "(IIZI)I" } : Jvm.MethodName) prog_1_method_42_code (7 : Nat) (Option.some Jvm.ClassFile.FieldType.int) [((0 : Nat), (82 : Nat), (83 : Nat), (18 : Nat))]) ∈ lw_all := lw_g (lw_at lw_m5 176 rfl) rfl
theorem q1234 : (Jvm.Cond.instanceMethod ({ cls := "CodeExchange", name := "feed", desc := "(II)I" } : Jvm.MethodName)) ∈ lw_all := lw_g (lw_at lw_m5 178 rfl) rfl
theorem q1235 : (Jvm.Cond.selects "CodeExchange" ({ cls := "CodeExchange", name := "feed", desc := "(II)I" } : Jvm.MethodName) ({ cls := "CodeExchange", name := "feed", desc := "(II)I" } : Jvm.MethodName)) ∈ lw_all := lw_g (lw_at lw_m5 179 rfl) rfl
theorem q1236 : (Jvm.Cond.codeWith ({ cls := "CodeExchange", name := "feed", desc := "(II)I" } : Jvm.MethodName) prog_1_method_44_code (4 : Nat) (Option.some Jvm.ClassFile.FieldType.int) [((0 : Nat), (62 : Nat), (63 : Nat), (18 : Nat))]) ∈ lw_all := lw_g (lw_at lw_m5 180 rfl) rfl
theorem q1237 : (Jvm.Cond.methodLink "CodeExchange" (349 : Nat) ({ cls := "CodeExchange", name := "machineAt", desc := "(I)LCodeExchange$Machine;" } : Jvm.MethodName)) ∈ lw_all := lw_g (lw_at lw_m5 181 rfl) rfl
theorem q1238 : (Jvm.Cond.privateMethod ({ cls := "CodeExchange", name := "machineAt", desc := "(I)LCodeExchange$Machine;" } : Jvm.MethodName)) ∈ lw_tbl := lw_at lw_m5 182 rfl
theorem q1239 : (Jvm.Cond.instanceMethod ({ cls := "CodeExchange", name := "machineAt", desc := "(I)LCodeExchange$Machine;" } : Jvm.MethodName)) ∈ lw_all := lw_g (lw_at lw_m5 183 rfl) rfl
theorem q1240 : (Jvm.Cond.codeWith ({ cls := "CodeExchange", name := "machineAt", desc := "(I)LCodeExchange$Machine;" } : Jvm.MethodName) prog_1_method_43_code (4 : Nat) (Option.some (Jvm.ClassFile.FieldType.object "CodeExchange$Machine")) [((0 : Nat), (10 : Nat), (13 : Nat), (132 : Nat)), ((20 : Nat), (41 : Nat), (44 : Nat), (148 : Nat))]) ∈ lw_all := lw_g (lw_at lw_m5 184 rfl) rfl
theorem q1241 : (Jvm.Cond.classLink "CodeExchange" (288 : Nat) "CodeExchange$Machine") ∈ lw_all := lw_g (lw_at lw_m5 185 rfl) rfl
theorem q1242 : (Jvm.Cond.constant "CodeExchange" (353 : Nat) (65535 : Int32)) ∈ lw_all := lw_g (lw_at lw_m5 186 rfl) rfl
theorem q1244 : (Jvm.Cond.instanceMethod ({ cls := "CodeExchange", name := "end", desc := "(I)I" } : Jvm.MethodName)) ∈ lw_all := lw_g (lw_at lw_m5 188 rfl) rfl
theorem q1245 : (Jvm.Cond.selects "CodeExchange" ({ cls := "CodeExchange", name := "end", desc := "(I)I" } : Jvm.MethodName) ({ cls := "CodeExchange", name := "end", desc := "(I)I" } : Jvm.MethodName)) ∈ lw_all := lw_g (lw_at lw_m5 189 rfl) rfl
theorem q1246 : (Jvm.Cond.codeWith ({ cls := "CodeExchange", name := "end", desc := "(I)I" } : Jvm.MethodName) prog_1_method_45_code (3 : Nat) (Option.some Jvm.ClassFile.FieldType.int) [((0 : Nat), (35 : Nat), (36 : Nat), (18 : Nat))]) ∈ lw_all := lw_g (lw_at lw_m5 190 rfl) rfl
theorem q1248 : (Jvm.Cond.instanceMethod ({ cls := "CodeExchange", name := "take", desc := "(I)I" } : Jvm.MethodName)) ∈ lw_all := lw_g (lw_at lw_m5 192 rfl) rfl
theorem q1249 : (Jvm.Cond.selects "CodeExchange" ({ cls := "CodeExchange", name := "take", desc := "(I)I" } : Jvm.MethodName) ({ cls := "CodeExchange", name := "take", desc := "(I)I" } : Jvm.MethodName)) ∈ lw_all := lw_g (lw_at lw_m5 193 rfl) rfl
theorem q1250 : (Jvm.Cond.code ({ cls := "CodeExchange", name := "take", desc := "(I)I" } : Jvm.MethodName) prog_1_method_46_code (3 : Nat) (Option.some Jvm.ClassFile.FieldType.int)) ∈ lw_all := lw_g (lw_at lw_m5 194 rfl) rfl
theorem q1251 : (Jvm.Cond.classLink "CodeExchange" (355 : Nat) "CodeExchange$Steps") ∈ lw_all := lw_g (lw_at lw_m5 195 rfl) rfl
theorem q1252 : (Jvm.Cond.interfaceEntry "CodeExchange" (357 : Nat)) ∈ lw_tbl := lw_at lw_m5 196 rfl
theorem q1253 : (Jvm.Cond.methodLink "CodeExchange" (357 : Nat) ({ cls := "CodeExchange$Steps", name := "isEmpty", desc := "()Z" } : Jvm.MethodName)) ∈ lw_all := lw_g (lw_at lw_m5 197 rfl) rfl
theorem q1274 : (Jvm.Cond.methodLink "CodeExchange" (360 : Nat) ({ cls := "CodeExchange$Machine", name := "take", desc := "()I" } : Jvm.MethodName)) ∈ lw_all := lw_g (lw_at lw_m5 218 rfl) rfl
theorem q1281 : (Jvm.Cond.instanceMethod ({ cls := "CodeExchange", name := "machine", desc := "(II)I" } : Jvm.MethodName)) ∈ lw_all := lw_g (lw_at lw_m5 225 rfl) rfl
theorem q1282 : (Jvm.Cond.selects "CodeExchange" ({ cls := "CodeExchange", name := "machine", desc := "(II)I" } : Jvm.MethodName) ({ cls := "CodeExchange", name := "machine", desc := "(II)I" } : Jvm.MethodName)) ∈ lw_all := lw_g (lw_at lw_m5 226 rfl) rfl
theorem q1283 : (Jvm.Cond.code ({ cls := "CodeExchange", name := "machine", desc := "(II)I" } : Jvm.MethodName) prog_1_method_47_code (4 : Nat) (Option.some Jvm.ClassFile.FieldType.int)) ∈ lw_all := lw_g (lw_at lw_m5 227 rfl) rfl
theorem q1285 : (Jvm.Cond.instanceMethod ({ cls := "CodeExchange", name := "coverage", desc := "(III)I" } : Jvm.MethodName)) ∈ lw_all := lw_g (lw_at lw_m5 229 rfl) rfl
theorem q1286 : (Jvm.Cond.selects "CodeExchange" ({ cls := "CodeExchange", name := "coverage", desc := "(III)I" } : Jvm.MethodName) ({ cls := "CodeExchange", name := "coverage", desc := "(III)I" } : Jvm.MethodName)) ∈ lw_all := lw_g (lw_at lw_m5 230 rfl) rfl
theorem q1287 : (Jvm.Cond.codeWith ({ cls := "CodeExchange", name := "coverage", desc := "(III)I" } : Jvm.MethodName) prog_1_method_48_code (5 : Nat) (Option.some Jvm.ClassFile.FieldType.int) [((0 : Nat), (52 : Nat), (53 : Nat), (18 : Nat))]) ∈ lw_all := lw_g (lw_at lw_m5 231 rfl) rfl
theorem q1288 : (Jvm.Cond.methodLink "CodeExchange" (371 : Nat) ({ cls := "CodeExchange$Page", name := "coverage", desc := "(II)I" } : Jvm.MethodName)) ∈ lw_all := lw_g (lw_at lw_m5 232 rfl) rfl
theorem q1305 : (Jvm.Cond.instanceMethod ({ cls := "CodeExchange", name := "differ", desc := "(III)I" } : Jvm.MethodName)) ∈ lw_all := lw_g (lw_at lw_m6 9 rfl) rfl
theorem q1306 : (Jvm.Cond.selects "CodeExchange" ({ cls := "CodeExchange", name := "differ", desc := "(III)I" } : Jvm.MethodName) ({ cls := "CodeExchange", name := "differ", desc := "(III)I" } : Jvm.MethodName)) ∈ lw_all := lw_g (lw_at lw_m6 10 rfl) rfl
theorem q1307 : (Jvm.Cond.codeWith ({ cls := "CodeExchange", name := "differ", desc := "(III)I" } : Jvm.MethodName) prog_1_method_51_code (7 : Nat) (Option.some Jvm.ClassFile.FieldType.int) [((0 : Nat), (109 : Nat), (123 : Nat), (18 : Nat)), ((110 : Nat), (123 : Nat), (123 : Nat), (18 : Nat))]) ∈ lw_all := lw_g (lw_at lw_m6 11 rfl) rfl
theorem q1308 : (Jvm.Cond.methodLink "CodeExchange" (374 : Nat) ({ cls := "CodeExchange", name := "isWritten", desc := "(LCodeExchange$Page;ILCodeExchange$Row;)Z" } : Jvm.MethodName)) ∈ lw_all := lw_g (lw_at lw_m6 12 rfl) rfl
theorem q1309 : (Jvm.Cond.privateMethod ({ cls := "CodeExchange", name := "isWritten", desc := "(LCodeExchange$Page;ILCodeExchange$Row;)Z" } : Jvm.MethodName)) ∈ lw_tbl := lw_at lw_m6 13 rfl
theorem q1310 : (Jvm.Cond.instanceMethod ({ cls := "CodeExchange", name := "isWritten", desc := "(LCodeExchange$Page;ILCodeExchange$Row;)Z" } : Jvm.MethodName)) ∈ lw_all := lw_g (lw_at lw_m6 14 rfl) rfl
theorem q1311 : (Jvm.Cond.code ({ cls := "CodeExchange", name := "isWritten", desc := "(LCodeExchange$Page;ILCodeExchange$Row;)Z" } : Jvm.MethodName) prog_1_method_49_code (4 : Nat) (Option.some Jvm.ClassFile.FieldType.boolean)) ∈ lw_all := lw_g (lw_at lw_m6 15 rfl) rfl
theorem q1312 : (Jvm.Cond.methodLink "CodeExchange" (378 : Nat) ({ cls := "CodeExchange", name := "areAlike", desc := "(LCodeExchange$Row;LCodeExchange$Row;)Z" } : Jvm.MethodName)) ∈ lw_all := lw_g (lw_at lw_m6 16 rfl) rfl
theorem q1313 : (Jvm.Cond.static ({ cls := "CodeExchange", name := "areAlike", desc := "(LCodeExchange$Row;LCodeExchange$Row;)Z" } : Jvm.MethodName)) ∈ lw_all := lw_g (lw_at lw_m6 17 rfl) rfl
theorem q1314 : (Jvm.Cond.code ({ cls := "CodeExchange", name := "areAlike", desc := "(LCodeExchange$Row;LCodeExchange$Row;)Z" } : Jvm.MethodName) prog_1_method_50_code (4 : Nat) (Option.some Jvm.ClassFile.FieldType.boolean)) ∈ lw_all := lw_g (lw_at lw_m6 18 rfl) rfl
theorem q1316 : (Jvm.Cond.instanceMethod ({ cls := "CodeExchange", name := "misread", desc := "(II)I" } : Jvm.MethodName)) ∈ lw_all := lw_g (lw_at lw_m6 20 rfl) rfl
theorem q1317 : (Jvm.Cond.selects "CodeExchange" ({ cls := "CodeExchange", name := "misread", desc := "(II)I" } : Jvm.MethodName) ({ cls := "CodeExchange", name := "misread", desc := "(II)I" } : Jvm.MethodName)) ∈ lw_all := lw_g (lw_at lw_m6 21 rfl) rfl
theorem q1318 : (Jvm.Cond.codeWith ({ cls := "CodeExchange", name := "misread", desc := "(II)I" } : Jvm.MethodName) prog_1_method_52_code (8 : Nat) (Option.some Jvm.ClassFile.FieldType.int) [((0 : Nat), (183 : Nat), (184 : Nat), (18 : Nat))]) ∈ lw_all := lw_g (lw_at lw_m6 22 rfl) rfl
theorem q1319 : (Jvm.Cond.methodLink "CodeExchange" (382 : Nat) ({ cls := "java/lang/Math", name := "max", desc := "(II)I" } : Jvm.MethodName)) ∈ lw_all := lw_g (lw_at lw_m6 23 rfl) rfl
theorem q1321 : (Jvm.Cond.instanceMethod ({ cls := "CodeExchange", name := "faults", desc := "(I)I" } : Jvm.MethodName)) ∈ lw_all := lw_g (lw_at lw_m6 25 rfl) rfl
theorem q1322 : (Jvm.Cond.selects "CodeExchange" ({ cls := "CodeExchange", name := "faults", desc := "(I)I" } : Jvm.MethodName) ({ cls := "CodeExchange", name := "faults", desc := "(I)I" } : Jvm.MethodName)) ∈ lw_all := lw_g (lw_at lw_m6 26 rfl) rfl
theorem q1323 : (Jvm.Cond.codeWith ({ cls := "CodeExchange", name := "faults", desc := "(I)I" } : Jvm.MethodName) prog_1_method_54_code (3 : Nat) (Option.some Jvm.ClassFile.FieldType.int) [((0 : Nat), (9 : Nat), (10 : Nat), (18 : Nat))]) ∈ lw_all := lw_g (lw_at lw_m6 27 rfl) rfl
theorem q1324 : (Jvm.Cond.methodLink "CodeExchange" (388 : Nat) ({ cls := "CodeExchange", name := "faultsOf", desc := "(LCodeExchange$Page;)I" } : Jvm.MethodName)) ∈ lw_all := lw_g (lw_at lw_m6 28 rfl) rfl
theorem q1325 : (Jvm.Cond.privateMethod ({ cls := "CodeExchange", name := "faultsOf", desc := "(LCodeExchange$Page;)I" } : Jvm.MethodName)) ∈ lw_tbl := lw_at lw_m6 29 rfl
theorem q1326 : (Jvm.Cond.instanceMethod ({ cls := "CodeExchange", name := "faultsOf", desc := "(LCodeExchange$Page;)I" } : Jvm.MethodName)) ∈ lw_all := lw_g (lw_at lw_m6 30 rfl) rfl
theorem q1327 : (Jvm.Cond.code ({ cls := "CodeExchange", name := "faultsOf", desc := "(LCodeExchange$Page;)I" } : Jvm.MethodName) prog_1_method_53_code (2 : Nat) (Option.some Jvm.ClassFile.FieldType.int)) ∈ lw_all := lw_g (lw_at lw_m6 31 rfl) rfl
theorem q1329 : (Jvm.Cond.instanceMethod ({ cls := "CodeExchange", name := "detect", desc := "()I" } : Jvm.MethodName)) ∈ lw_all := lw_g (lw_at lw_m6 33 rfl) rfl
theorem q1330 : (Jvm.Cond.selects "CodeExchange" ({ cls := "CodeExchange", name := "detect", desc := "()I" } : Jvm.MethodName) ({ cls := "CodeExchange", name := "detect", desc := "()I" } : Jvm.MethodName)) ∈ lw_all := lw_g (lw_at lw_m6 34 rfl) rfl
theorem q1331 : (Jvm.Cond.code ({ cls := "CodeExchange", name := "detect", desc := "()I" } : Jvm.MethodName) prog_1_method_55_code (6 : Nat) (Option.some Jvm.ClassFile.FieldType.int)) ∈ lw_all := lw_g (lw_at lw_m6 35 rfl) rfl
theorem q1333 : (Jvm.Cond.instanceMethod ({ cls := "CodeExchange", name := "lengths", desc := "(II)I" } : Jvm.MethodName)) ∈ lw_all := lw_g (lw_at lw_m6 37 rfl) rfl
theorem q1334 : (Jvm.Cond.selects "CodeExchange" ({ cls := "CodeExchange", name := "lengths", desc := "(II)I" } : Jvm.MethodName) ({ cls := "CodeExchange", name := "lengths", desc := "(II)I" } : Jvm.MethodName)) ∈ lw_all := lw_g (lw_at lw_m6 38 rfl) rfl
theorem q1335 : (Jvm.Cond.codeWith ({ cls := "CodeExchange", name := "lengths", desc := "(II)I" } : Jvm.MethodName) prog_1_method_56_code (7 : Nat) (Option.some Jvm.ClassFile.FieldType.int) [((0 : Nat), (168 : Nat), (169 : Nat), (18 : Nat))]) ∈ lw_all := lw_g (lw_at lw_m6 39 rfl) rfl
theorem q1336 : (Jvm.Cond.methodLink "CodeExchange" (391 : Nat) ({ cls := "CodeExchange$Page", name := "isReached", desc := "(I)Z" } : Jvm.MethodName)) ∈ lw_all := lw_g (lw_at lw_m6 40 rfl) rfl
theorem q1344 : (Jvm.Cond.methodLink "CodeExchange" (394 : Nat) ({ cls := "CodeExchange$Writer", name := "begin", desc := "(LCodeExchange$Page;ILCodeExchange$Sink;)V" } : Jvm.MethodName)) ∈ lw_all := lw_g (lw_at lw_m6 48 rfl) rfl
theorem q1348 : (Jvm.Cond.methodLink "CodeExchange" (396 : Nat) ({ cls := "CodeExchange$Writer", name := "feed", desc := "(I)V" } : Jvm.MethodName)) ∈ lw_all := lw_g (lw_at lw_m6 52 rfl) rfl
theorem q1352 : (Jvm.Cond.methodLink "CodeExchange" (397 : Nat) ({ cls := "CodeExchange$Writer", name := "end", desc := "()V" } : Jvm.MethodName)) ∈ lw_all := lw_g (lw_at lw_m6 56 rfl) rfl
theorem q1357 : (Jvm.Cond.instanceMethod ({ cls := "CodeExchange", name := "send", desc := "(I)I" } : Jvm.MethodName)) ∈ lw_all := lw_g (lw_at lw_m6 61 rfl) rfl
theorem q1358 : (Jvm.Cond.selects "CodeExchange" ({ cls := "CodeExchange", name := "send", desc := "(I)I" } : Jvm.MethodName) ({ cls := "CodeExchange", name := "send", desc := "(I)I" } : Jvm.MethodName)) ∈ lw_all := lw_g (lw_at lw_m6 62 rfl) rfl
theorem q1359 : (Jvm.Cond.codeWith ({ cls := "CodeExchange", name := "send", desc := "(I)I" } : Jvm.MethodName) prog_1_method_58_code (5 : Nat) (Option.some Jvm.ClassFile.FieldType.int) [((0 : Nat), (303 : Nat), (304 : Nat), (18 : Nat))]) ∈ lw_all := lw_g (lw_at lw_m6 63 rfl) rfl
theorem q1360 : (Jvm.Cond.methodLink "CodeExchange" (399 : Nat) ({ cls := "CodeExchange$Row", name := "put", desc := "(I)V" } : Jvm.MethodName)) ∈ lw_all := lw_g (lw_at lw_m6 64 rfl) rfl
theorem q1361 : (Jvm.Cond.methodLink "CodeExchange" (427 : Nat) ({ cls := "CodeExchange", name := "sumOf", desc := "([II)I" } : Jvm.MethodName)) ∈ lw_all := lw_g (lw_at lw_m6 65 rfl) rfl
theorem q1362 : (Jvm.Cond.static ({ cls := "CodeExchange", name := "sumOf", desc := "([II)I" } : Jvm.MethodName)) ∈ lw_all := lw_g (lw_at lw_m6 66 rfl) rfl
theorem q1363 : (Jvm.Cond.code ({ cls := "CodeExchange", name := "sumOf", desc := "([II)I" } : Jvm.MethodName) prog_1_method_57_code (4 : Nat) (Option.some Jvm.ClassFile.FieldType.int)) ∈ lw_all := lw_g (lw_at lw_m6 67 rfl) rfl
theorem q1364 : (Jvm.Cond.constant "CodeExchange" (398 : Nat) (65521 : Int32)) ∈ lw_all := lw_g (lw_at lw_m6 68 rfl) rfl
theorem q1366 : (Jvm.Cond.instanceMethod ({ cls := "CodeExchange", name := "receive", desc := "()I" } : Jvm.MethodName)) ∈ lw_all := lw_g (lw_at lw_m6 70 rfl) rfl
theorem q1367 : (Jvm.Cond.selects "CodeExchange" ({ cls := "CodeExchange", name := "receive", desc := "()I" } : Jvm.MethodName) ({ cls := "CodeExchange", name := "receive", desc := "()I" } : Jvm.MethodName)) ∈ lw_all := lw_g (lw_at lw_m6 71 rfl) rfl
theorem q1368 : (Jvm.Cond.codeWith ({ cls := "CodeExchange", name := "receive", desc := "()I" } : Jvm.MethodName) prog_1_method_62_code (2 : Nat) (Option.some Jvm.ClassFile.FieldType.int) [((0 : Nat), (136 : Nat), (137 : Nat), (18 : Nat))]) ∈ lw_all := lw_g (lw_at lw_m6 72 rfl) rfl
theorem q1369 : (Jvm.Cond.methodLink "CodeExchange" (440 : Nat) ({ cls := "CodeExchange", name := "takeIn", desc := "(LCodeExchange$Table;)V" } : Jvm.MethodName)) ∈ lw_all := lw_g (lw_at lw_m6 73 rfl) rfl
theorem q1370 : (Jvm.Cond.privateMethod ({ cls := "CodeExchange", name := "takeIn", desc := "(LCodeExchange$Table;)V" } : Jvm.MethodName)) ∈ lw_tbl := lw_at lw_m6 74 rfl
theorem q1371 : (Jvm.Cond.instanceMethod ({ cls := "CodeExchange", name := "takeIn", desc := "(LCodeExchange$Table;)V" } : Jvm.MethodName)) ∈ lw_all := lw_g (lw_at lw_m6 75 rfl) rfl
theorem q1372 : (Jvm.Cond.code ({ cls := "CodeExchange", name := "takeIn", desc := "(LCodeExchange$Table;)V" } : Jvm.MethodName) prog_1_method_61_code (8 : Nat) (Option.none : Option Jvm.ClassFile.FieldType)) ∈ lw_all := lw_g (lw_at lw_m6 76 rfl) rfl
theorem q1373 : (Jvm.Cond.methodLink "CodeExchange" (434 : Nat) ({ cls := "CodeExchange", name := "next", desc := "(II)I" } : Jvm.MethodName)) ∈ lw_all := lw_g (lw_at lw_m6 77 rfl) rfl
theorem q1374 : (Jvm.Cond.privateMethod ({ cls := "CodeExchange", name := "next", desc := "(II)I" } : Jvm.MethodName)) ∈ lw_tbl := lw_at lw_m6 78 rfl
theorem q1375 : (Jvm.Cond.instanceMethod ({ cls := "CodeExchange", name := "next", desc := "(II)I" } : Jvm.MethodName)) ∈ lw_all := lw_g (lw_at lw_m6 79 rfl) rfl
theorem q1376 : (Jvm.Cond.code ({ cls := "CodeExchange", name := "next", desc := "(II)I" } : Jvm.MethodName) prog_1_method_59_code (3 : Nat) (Option.some Jvm.ClassFile.FieldType.int)) ∈ lw_all := lw_g (lw_at lw_m6 80 rfl) rfl
theorem q1377 : (Jvm.Cond.methodLink "CodeExchange" (437 : Nat) ({ cls := "CodeExchange", name := "number", desc := "(I)I" } : Jvm.MethodName)) ∈ lw_all := lw_g (lw_at lw_m6 81 rfl) rfl
theorem q1378 : (Jvm.Cond.privateMethod ({ cls := "CodeExchange", name := "number", desc := "(I)I" } : Jvm.MethodName)) ∈ lw_tbl := lw_at lw_m6 82 rfl
theorem q1379 : (Jvm.Cond.instanceMethod ({ cls := "CodeExchange", name := "number", desc := "(I)I" } : Jvm.MethodName)) ∈ lw_all := lw_g (lw_at lw_m6 83 rfl) rfl
theorem q1380 : (Jvm.Cond.code ({ cls := "CodeExchange", name := "number", desc := "(I)I" } : Jvm.MethodName) prog_1_method_60_code (4 : Nat) (Option.some Jvm.ClassFile.FieldType.int)) ∈ lw_all := lw_g (lw_at lw_m6 84 rfl) rfl
theorem q1382 : (Jvm.Cond.instanceMethod ({ cls := "CodeExchange", name := "told", desc := "(I)I" } : Jvm.MethodName)) ∈ lw_all := lw_g (lw_at lw_m6 86 rfl) rfl
theorem q1383 : (Jvm.Cond.selects "CodeExchange" ({ cls := "CodeExchange", name := "told", desc := "(I)I" } : Jvm.MethodName) ({ cls := "CodeExchange", name := "told", desc := "(I)I" } : Jvm.MethodName)) ∈ lw_all := lw_g (lw_at lw_m6 87 rfl) rfl
theorem q1384 : (Jvm.Cond.code ({ cls := "CodeExchange", name := "told", desc := "(I)I" } : Jvm.MethodName) prog_1_method_63_code (2 : Nat) (Option.some Jvm.ClassFile.FieldType.int)) ∈ lw_all := lw_g (lw_at lw_m6 88 rfl) rfl
theorem in_X0 : ∀ w ∈ wsX00, w ∈ lw_all := lw_in wsX00 [519, 521, 523, 525, 527, 529, 531, 533, 535, 537, 539, 541, 543, 545, 547, 549, 551, 553, 555, 557, 559, 561, 563, 565, 567, 569, 571, 573, 575, 577, 579, 581, 583] (by decide +kernel) (by decide +kernel)
