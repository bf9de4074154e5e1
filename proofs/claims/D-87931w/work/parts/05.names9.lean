/-! CodeExchangeModel -/
set_option maxRecDepth 100000
def RX9 : String := "CodeExchangeModel"
def TX9 : u_T := fun k => match k with
  | 0 => ("CodeExchangeModel", "pages", "I", false)
  | 1 => ("CodeExchangeModel", "kinds", "[I", true)
  | 2 => ("CodeExchangeModel", "closed", "[Z", true)
  | 3 => ("CodeExchangeModel", "entries", "[I", true)
  | 4 => ("CodeExchangeModel", "shifts", "[I", true)
  | 5 => ("CodeExchangeModel", "eState", "[I", true)
  | 6 => ("CodeExchangeModel", "eMany", "[I", true)
  | 7 => ("CodeExchangeModel", "eBytes", "[I", true)
  | 8 => ("CodeExchangeModel", "ePoint", "[I", true)
  | 9 => ("CodeExchangeModel", "ePreferred", "[Z", true)
  | 10 => ("CodeExchangeModel", "sState", "[I", true)
  | 11 => ("CodeExchangeModel", "sByte", "[I", true)
  | 12 => ("CodeExchangeModel", "sTo", "[I", true)
  | 13 => ("CodeExchangeModel", "sSticky", "[Z", true)
  | 14 => ("CodeExchangeModel", "bytes", "I", false)
  | 15 => ("CodeExchangeModel", "byteRow", "[I", true)
  | 16 => ("CodeExchangeModel", "units", "I", false)
  | 17 => ("CodeExchangeModel", "unitRow", "[I", true)
  | 18 => ("CodeExchangeModel", "results", "I", false)
  | 19 => ("CodeExchangeModel", "resultKind", "I", false)
  | 20 => ("CodeExchangeModel", "resultRow", "[I", true)
  | 21 => ("CodeExchangeModel", "signs", "[I", true)
  | 22 => ("CodeExchangeModel", "place", "I", false)
  | 23 => ("CodeExchangeModel", "broken", "[I", true)
  | 24 => ("CodeExchangeModel", "findings", "I", false)
  | 25 => ("CodeExchangeModel", "fallbacks", "I", false)
  | 26 => ("CodeExchangeModel", "fPoint", "[I", true)
  | 27 => ("CodeExchangeModel", "fMany", "[I", true)
  | 28 => ("CodeExchangeModel", "fPoints", "[I", true)
  | 29 => ("CodeExchangeModel", "reached", "[Z", true)
  | 30 => ("CodeExchangeModel", "breach", "[I", true)
  | 31 => ("CodeExchangeModel", "textState", "I", false)
  | 32 => ("CodeExchangeModel", "textMany", "I", false)
  | 33 => ("CodeExchangeModel", "text", "[I", true)
  | 34 => ("CodeExchangeModel", "state", "I", false)
  | 35 => ("CodeExchangeModel", "pending", "I", false)
  | 36 => ("CodeExchangeModel", "out", "[I", false)
  | 37 => ("CodeExchangeModel", "outs", "I", false)
  | 38 => ("CodeExchangeModel", "most", "I", false)
  | 39 => ("CodeExchangeModel", "faultCount", "I", false)
  | 40 => ("CodeExchangeModel", "foundMany", "I", false)
  | 41 => ("CodeExchangeModel", "foundPoint", "I", false)
  | 42 => ("CodeExchangeModel", "foundShift", "I", false)
  | 43 => ("CodeExchangeModel", "read", "[I", true)
  | 44 => ("CodeExchangeModel", "readToo", "[I", true)
  | 45 => ("CodeExchangeModel", "written", "[I", true)
  | 46 => ("CodeExchangeModel", "way", "[I", true)
  | 47 => ("CodeExchangeModel", "ways", "I", false)
  | 48 => ("CodeExchangeModel", "counts", "Z", false)
  | 49 => ("CodeExchangeModel", "points", "[I", true)
  | 50 => ("CodeExchangeModel", "seen", "[I", true)
  | 51 => ("CodeExchangeModel", "known", "[I", true)
  | 52 => ("CodeExchangeModel", "begun", "[Z", true)
  | 53 => ("CodeExchangeModel", "mPage", "[I", true)
  | 54 => ("CodeExchangeModel", "mWrites", "[Z", true)
  | 55 => ("CodeExchangeModel", "mRule", "[I", true)
  | 56 => ("CodeExchangeModel", "mState", "[I", true)
  | 57 => ("CodeExchangeModel", "mPending", "[I", true)
  | 58 => ("CodeExchangeModel", "mKept", "[I", true)
  | 59 => ("CodeExchangeModel", "mKeeps", "[I", true)
  | 60 => ("CodeExchangeModel", "mFed", "[I", true)
  | 61 => ("CodeExchangeModel", "mMode", "[I", true)
  | 62 => ("CodeExchangeModel", "mWaits", "[I", true)
  | 63 => ("CodeExchangeModel", "queues", "[I", true)
  | 64 => ("CodeExchangeModel", "keeps", "[I", true)
  | 65 => ("CodeExchangeModel", "fresh", "[I", true)
  | 66 => ("CodeExchangeModel", "alone", "[I", true)
  | 67 => ("CodeExchangeModel", "at", "I", false)
  | _ => ("CodeExchangeModel", "limit", "I", false)
def tyX9 : Nat → FieldType := fun k => match k with
  | 0 => .int
  | 1 => .array .int
  | 2 => .array .boolean
  | 3 => .array .int
  | 4 => .array .int
  | 5 => .array .int
  | 6 => .array .int
  | 7 => .array .int
  | 8 => .array .int
  | 9 => .array .boolean
  | 10 => .array .int
  | 11 => .array .int
  | 12 => .array .int
  | 13 => .array .boolean
  | 14 => .int
  | 15 => .array .int
  | 16 => .int
  | 17 => .array .int
  | 18 => .int
  | 19 => .int
  | 20 => .array .int
  | 21 => .array .int
  | 22 => .int
  | 23 => .array .int
  | 24 => .int
  | 25 => .int
  | 26 => .array .int
  | 27 => .array .int
  | 28 => .array .int
  | 29 => .array .boolean
  | 30 => .array .int
  | 31 => .int
  | 32 => .int
  | 33 => .array .int
  | 34 => .int
  | 35 => .int
  | 36 => .array .int
  | 37 => .int
  | 38 => .int
  | 39 => .int
  | 40 => .int
  | 41 => .int
  | 42 => .int
  | 43 => .array .int
  | 44 => .array .int
  | 45 => .array .int
  | 46 => .array .int
  | 47 => .int
  | 48 => .boolean
  | 49 => .array .int
  | 50 => .array .int
  | 51 => .array .int
  | 52 => .array .boolean
  | 53 => .array .int
  | 54 => .array .boolean
  | 55 => .array .int
  | 56 => .array .int
  | 57 => .array .int
  | 58 => .array .int
  | 59 => .array .int
  | 60 => .array .int
  | 61 => .array .int
  | 62 => .array .int
  | 63 => .array .int
  | 64 => .array .int
  | 65 => .array .int
  | 66 => .array .int
  | 67 => .int
  | _ => .int
abbrev wsX90 : List Cond := u_ws RX9 TX9 69
set_option maxRecDepth 100000 in
theorem nmX9 : ∀ a, a < 69 → ∀ b, b < 69 → a ≠ b → (TX9 a).2.1 ≠ (TX9 b).2.1 := by decide +kernel
set_option maxRecDepth 100000 in
theorem tyX9_ok : ∀ k, k < 69 → parseFieldDescriptor (TX9 k).2.2.1 = some (tyX9 k) := by decide +kernel
abbrev cX9_init : ByteArray := prog_17_method_1_code
def yX9_init : MethodName := ⟨RX9, "<init>", "()V"⟩
def dkwX9_init_16 : List UInt8 := [188, 10, 181, 0, 144, 42, 16, 64, 188, 10, 181, 0, 147, 177]
abbrev dktX9_init_16 : List UInt8 := dkwX9_init_16 ++ []
def dkwX9_init_15 : List UInt8 := [181, 0, 135, 42, 17, 18, 192, 188, 10, 181, 0, 138, 42, 16, 8, 188, 10, 181, 0, 141, 42, 17, 4, 176]
abbrev dktX9_init_15 : List UInt8 := dkwX9_init_15 ++ dktX9_init_16
def dkwX9_init_14 : List UInt8 := [188, 10, 181, 0, 126, 42, 7, 188, 10, 181, 0, 129, 42, 7, 188, 10, 181, 0, 132, 42, 7, 188, 10]
abbrev dktX9_init_14 : List UInt8 := dkwX9_init_14 ++ dktX9_init_15
def dkwX9_init_13 : List UInt8 := [42, 7, 188, 10, 181, 0, 117, 42, 7, 188, 10, 181, 0, 120, 42, 7, 188, 10, 181, 0, 123, 42, 16, 32]
abbrev dktX9_init_13 : List UInt8 := dkwX9_init_13 ++ dktX9_init_14
def dkwX9_init_12 : List UInt8 := [181, 0, 105, 42, 7, 188, 10, 181, 0, 108, 42, 7, 188, 4, 181, 0, 111, 42, 7, 188, 10, 181, 0, 114]
abbrev dktX9_init_12 : List UInt8 := dkwX9_init_12 ++ dktX9_init_13
def dkwX9_init_11 : List UInt8 := [181, 0, 96, 42, 16, 40, 188, 10, 181, 0, 99, 42, 16, 40, 188, 10, 181, 0, 102, 42, 7, 188, 4]
abbrev dktX9_init_11 : List UInt8 := dkwX9_init_11 ++ dktX9_init_12
def dkwX9_init_10 : List UInt8 := [17, 25, 0, 188, 10, 181, 0, 90, 42, 16, 8, 188, 10, 181, 0, 93, 42, 17, 3, 232, 188, 10]
abbrev dktX9_init_10 : List UInt8 := dkwX9_init_10 ++ dktX9_init_11
def dkwX9_init_9 : List UInt8 := [181, 0, 81, 42, 17, 15, 160, 188, 10, 181, 0, 84, 42, 17, 15, 160, 188, 10, 181, 0, 87, 42]
abbrev dktX9_init_9 : List UInt8 := dkwX9_init_9 ++ dktX9_init_10
def dkwX9_init_8 : List UInt8 := [188, 10, 181, 0, 72, 42, 7, 188, 4, 181, 0, 75, 42, 6, 188, 10, 181, 0, 78, 42, 7, 188, 10]
abbrev dktX9_init_8 : List UInt8 := dkwX9_init_8 ++ dktX9_init_9
def dkwX9_init_7 : List UInt8 := [181, 0, 63, 42, 16, 40, 188, 10, 181, 0, 66, 42, 16, 40, 188, 10, 181, 0, 69, 42, 17, 0, 160]
abbrev dktX9_init_7 : List UInt8 := dkwX9_init_7 ++ dktX9_init_8
def dkwX9_init_6 : List UInt8 := [181, 0, 56, 42, 5, 188, 10, 89, 3, 18, 59, 79, 89, 4, 16, 63, 79, 181, 0, 60, 42, 6, 188, 10]
abbrev dktX9_init_6 : List UInt8 := dkwX9_init_6 ++ dktX9_init_7
def dkwX9_init_5 : List UInt8 := [17, 3, 232, 188, 10, 181, 0, 50, 42, 17, 3, 232, 188, 10, 181, 0, 53, 42, 17, 23, 112, 188, 10]
abbrev dktX9_init_5 : List UInt8 := dkwX9_init_5 ++ dktX9_init_6
def dkwX9_init_4 : List UInt8 := [188, 10, 181, 0, 41, 42, 16, 110, 188, 10, 181, 0, 44, 42, 16, 110, 188, 4, 181, 0, 47, 42]
abbrev dktX9_init_4 : List UInt8 := dkwX9_init_4 ++ dktX9_init_5
def dkwX9_init_3 : List UInt8 := [181, 0, 32, 42, 17, 4, 76, 188, 4, 181, 0, 35, 42, 16, 110, 188, 10, 181, 0, 38, 42, 16, 110]
abbrev dktX9_init_3 : List UInt8 := dkwX9_init_3 ++ dktX9_init_4
def dkwX9_init_2 : List UInt8 := [17, 4, 76, 188, 10, 181, 0, 26, 42, 17, 4, 76, 188, 10, 181, 0, 29, 42, 17, 4, 76, 188, 10]
abbrev dktX9_init_2 : List UInt8 := dkwX9_init_2 ++ dktX9_init_3
def dkwX9_init_1 : List UInt8 := [188, 10, 181, 0, 17, 42, 16, 11, 188, 10, 181, 0, 20, 42, 17, 4, 76, 188, 10, 181, 0, 23, 42]
abbrev dktX9_init_1 : List UInt8 := dkwX9_init_1 ++ dktX9_init_2
def dkwX9_init_0 : List UInt8 := [42, 183, 0, 1, 42, 16, 11, 188, 10, 181, 0, 9, 42, 16, 11, 188, 4, 181, 0, 13, 42, 16, 11]
abbrev dktX9_init_0 : List UInt8 := dkwX9_init_0 ++ dktX9_init_1
theorem dksX9_init_0 : cX9_init.data.toList.drop 0 = dktX9_init_0 := by decide +kernel
theorem dksX9_init_1 : cX9_init.data.toList.drop 23 = dktX9_init_1 := dk_seg dksX9_init_0 23 rfl rfl
theorem dksX9_init_2 : cX9_init.data.toList.drop 46 = dktX9_init_2 := dk_seg dksX9_init_1 23 rfl rfl
theorem dksX9_init_3 : cX9_init.data.toList.drop 69 = dktX9_init_3 := dk_seg dksX9_init_2 23 rfl rfl
theorem dksX9_init_4 : cX9_init.data.toList.drop 92 = dktX9_init_4 := dk_seg dksX9_init_3 23 rfl rfl
theorem dksX9_init_5 : cX9_init.data.toList.drop 114 = dktX9_init_5 := dk_seg dksX9_init_4 22 rfl rfl
theorem dksX9_init_6 : cX9_init.data.toList.drop 137 = dktX9_init_6 := dk_seg dksX9_init_5 23 rfl rfl
theorem dksX9_init_7 : cX9_init.data.toList.drop 161 = dktX9_init_7 := dk_seg dksX9_init_6 24 rfl rfl
theorem dksX9_init_8 : cX9_init.data.toList.drop 184 = dktX9_init_8 := dk_seg dksX9_init_7 23 rfl rfl
theorem dksX9_init_9 : cX9_init.data.toList.drop 207 = dktX9_init_9 := dk_seg dksX9_init_8 23 rfl rfl
theorem dksX9_init_10 : cX9_init.data.toList.drop 229 = dktX9_init_10 := dk_seg dksX9_init_9 22 rfl rfl
theorem dksX9_init_11 : cX9_init.data.toList.drop 251 = dktX9_init_11 := dk_seg dksX9_init_10 22 rfl rfl
theorem dksX9_init_12 : cX9_init.data.toList.drop 274 = dktX9_init_12 := dk_seg dksX9_init_11 23 rfl rfl
theorem dksX9_init_13 : cX9_init.data.toList.drop 298 = dktX9_init_13 := dk_seg dksX9_init_12 24 rfl rfl
theorem dksX9_init_14 : cX9_init.data.toList.drop 322 = dktX9_init_14 := dk_seg dksX9_init_13 24 rfl rfl
theorem dksX9_init_15 : cX9_init.data.toList.drop 345 = dktX9_init_15 := dk_seg dksX9_init_14 23 rfl rfl
theorem dksX9_init_16 : cX9_init.data.toList.drop 369 = dktX9_init_16 := dk_seg dksX9_init_15 24 rfl rfl
theorem dX9_init_0 : decode cX9_init 0 = .ok (.aload_n 0, 1) := dk_42 (dk_at dksX9_init_0 0 rfl rfl)
theorem dX9_init_1 : decode cX9_init 1 = .ok (.invokespecial 1, 3) := dk_183 0 1 (dk_at dksX9_init_0 1 rfl rfl)
theorem dX9_init_4 : decode cX9_init 4 = .ok (.aload_n 0, 1) := dk_42 (dk_at dksX9_init_0 4 rfl rfl)
theorem dX9_init_5 : decode cX9_init 5 = .ok (.bipush 11, 2) := dk_16 11 (dk_at dksX9_init_0 5 rfl rfl)
theorem dX9_init_7 : decode cX9_init 7 = .ok (.newarray .int, 2) := dk_188_10 (dk_at dksX9_init_0 7 rfl rfl)
theorem dX9_init_9 : decode cX9_init 9 = .ok (.putfield 9, 3) := dk_181 0 9 (dk_at dksX9_init_0 9 rfl rfl)
theorem dX9_init_12 : decode cX9_init 12 = .ok (.aload_n 0, 1) := dk_42 (dk_at dksX9_init_0 12 rfl rfl)
theorem dX9_init_13 : decode cX9_init 13 = .ok (.bipush 11, 2) := dk_16 11 (dk_at dksX9_init_0 13 rfl rfl)
theorem dX9_init_15 : decode cX9_init 15 = .ok (.newarray .boolean, 2) := dk_188_4 (dk_at dksX9_init_0 15 rfl rfl)
theorem dX9_init_17 : decode cX9_init 17 = .ok (.putfield 13, 3) := dk_181 0 13 (dk_at dksX9_init_0 17 rfl rfl)
theorem dX9_init_20 : decode cX9_init 20 = .ok (.aload_n 0, 1) := dk_42 (dk_at dksX9_init_0 20 rfl rfl)
theorem dX9_init_21 : decode cX9_init 21 = .ok (.bipush 11, 2) := dk_16 11 (dk_at dksX9_init_0 21 rfl rfl)
theorem dX9_init_23 : decode cX9_init 23 = .ok (.newarray .int, 2) := dk_188_10 (dk_at dksX9_init_1 0 rfl rfl)
theorem dX9_init_25 : decode cX9_init 25 = .ok (.putfield 17, 3) := dk_181 0 17 (dk_at dksX9_init_1 2 rfl rfl)
theorem dX9_init_28 : decode cX9_init 28 = .ok (.aload_n 0, 1) := dk_42 (dk_at dksX9_init_1 5 rfl rfl)
theorem dX9_init_29 : decode cX9_init 29 = .ok (.bipush 11, 2) := dk_16 11 (dk_at dksX9_init_1 6 rfl rfl)
theorem dX9_init_31 : decode cX9_init 31 = .ok (.newarray .int, 2) := dk_188_10 (dk_at dksX9_init_1 8 rfl rfl)
theorem dX9_init_33 : decode cX9_init 33 = .ok (.putfield 20, 3) := dk_181 0 20 (dk_at dksX9_init_1 10 rfl rfl)
theorem dX9_init_36 : decode cX9_init 36 = .ok (.aload_n 0, 1) := dk_42 (dk_at dksX9_init_1 13 rfl rfl)
theorem dX9_init_37 : decode cX9_init 37 = .ok (.sipush 1100, 3) := dk_17 4 76 (dk_at dksX9_init_1 14 rfl rfl)
theorem dX9_init_40 : decode cX9_init 40 = .ok (.newarray .int, 2) := dk_188_10 (dk_at dksX9_init_1 17 rfl rfl)
theorem dX9_init_42 : decode cX9_init 42 = .ok (.putfield 23, 3) := dk_181 0 23 (dk_at dksX9_init_1 19 rfl rfl)
theorem dX9_init_45 : decode cX9_init 45 = .ok (.aload_n 0, 1) := dk_42 (dk_at dksX9_init_1 22 rfl rfl)
theorem dX9_init_46 : decode cX9_init 46 = .ok (.sipush 1100, 3) := dk_17 4 76 (dk_at dksX9_init_2 0 rfl rfl)
theorem dX9_init_49 : decode cX9_init 49 = .ok (.newarray .int, 2) := dk_188_10 (dk_at dksX9_init_2 3 rfl rfl)
theorem dX9_init_51 : decode cX9_init 51 = .ok (.putfield 26, 3) := dk_181 0 26 (dk_at dksX9_init_2 5 rfl rfl)
theorem dX9_init_54 : decode cX9_init 54 = .ok (.aload_n 0, 1) := dk_42 (dk_at dksX9_init_2 8 rfl rfl)
theorem dX9_init_55 : decode cX9_init 55 = .ok (.sipush 1100, 3) := dk_17 4 76 (dk_at dksX9_init_2 9 rfl rfl)
theorem dX9_init_58 : decode cX9_init 58 = .ok (.newarray .int, 2) := dk_188_10 (dk_at dksX9_init_2 12 rfl rfl)
theorem dX9_init_60 : decode cX9_init 60 = .ok (.putfield 29, 3) := dk_181 0 29 (dk_at dksX9_init_2 14 rfl rfl)
theorem dX9_init_63 : decode cX9_init 63 = .ok (.aload_n 0, 1) := dk_42 (dk_at dksX9_init_2 17 rfl rfl)
theorem dX9_init_64 : decode cX9_init 64 = .ok (.sipush 1100, 3) := dk_17 4 76 (dk_at dksX9_init_2 18 rfl rfl)
theorem dX9_init_67 : decode cX9_init 67 = .ok (.newarray .int, 2) := dk_188_10 (dk_at dksX9_init_2 21 rfl rfl)
theorem dX9_init_69 : decode cX9_init 69 = .ok (.putfield 32, 3) := dk_181 0 32 (dk_at dksX9_init_3 0 rfl rfl)
theorem dX9_init_72 : decode cX9_init 72 = .ok (.aload_n 0, 1) := dk_42 (dk_at dksX9_init_3 3 rfl rfl)
theorem dX9_init_73 : decode cX9_init 73 = .ok (.sipush 1100, 3) := dk_17 4 76 (dk_at dksX9_init_3 4 rfl rfl)
theorem dX9_init_76 : decode cX9_init 76 = .ok (.newarray .boolean, 2) := dk_188_4 (dk_at dksX9_init_3 7 rfl rfl)
theorem dX9_init_78 : decode cX9_init 78 = .ok (.putfield 35, 3) := dk_181 0 35 (dk_at dksX9_init_3 9 rfl rfl)
theorem dX9_init_81 : decode cX9_init 81 = .ok (.aload_n 0, 1) := dk_42 (dk_at dksX9_init_3 12 rfl rfl)
theorem dX9_init_82 : decode cX9_init 82 = .ok (.bipush 110, 2) := dk_16 110 (dk_at dksX9_init_3 13 rfl rfl)
theorem dX9_init_84 : decode cX9_init 84 = .ok (.newarray .int, 2) := dk_188_10 (dk_at dksX9_init_3 15 rfl rfl)
theorem dX9_init_86 : decode cX9_init 86 = .ok (.putfield 38, 3) := dk_181 0 38 (dk_at dksX9_init_3 17 rfl rfl)
theorem dX9_init_89 : decode cX9_init 89 = .ok (.aload_n 0, 1) := dk_42 (dk_at dksX9_init_3 20 rfl rfl)
theorem dX9_init_90 : decode cX9_init 90 = .ok (.bipush 110, 2) := dk_16 110 (dk_at dksX9_init_3 21 rfl rfl)
theorem dX9_init_92 : decode cX9_init 92 = .ok (.newarray .int, 2) := dk_188_10 (dk_at dksX9_init_4 0 rfl rfl)
theorem dX9_init_94 : decode cX9_init 94 = .ok (.putfield 41, 3) := dk_181 0 41 (dk_at dksX9_init_4 2 rfl rfl)
theorem dX9_init_97 : decode cX9_init 97 = .ok (.aload_n 0, 1) := dk_42 (dk_at dksX9_init_4 5 rfl rfl)
theorem dX9_init_98 : decode cX9_init 98 = .ok (.bipush 110, 2) := dk_16 110 (dk_at dksX9_init_4 6 rfl rfl)
theorem dX9_init_100 : decode cX9_init 100 = .ok (.newarray .int, 2) := dk_188_10 (dk_at dksX9_init_4 8 rfl rfl)
theorem dX9_init_102 : decode cX9_init 102 = .ok (.putfield 44, 3) := dk_181 0 44 (dk_at dksX9_init_4 10 rfl rfl)
theorem dX9_init_105 : decode cX9_init 105 = .ok (.aload_n 0, 1) := dk_42 (dk_at dksX9_init_4 13 rfl rfl)
theorem dX9_init_106 : decode cX9_init 106 = .ok (.bipush 110, 2) := dk_16 110 (dk_at dksX9_init_4 14 rfl rfl)
theorem dX9_init_108 : decode cX9_init 108 = .ok (.newarray .boolean, 2) := dk_188_4 (dk_at dksX9_init_4 16 rfl rfl)
theorem dX9_init_110 : decode cX9_init 110 = .ok (.putfield 47, 3) := dk_181 0 47 (dk_at dksX9_init_4 18 rfl rfl)
theorem dX9_init_113 : decode cX9_init 113 = .ok (.aload_n 0, 1) := dk_42 (dk_at dksX9_init_4 21 rfl rfl)
theorem dX9_init_114 : decode cX9_init 114 = .ok (.sipush 1000, 3) := dk_17 3 232 (dk_at dksX9_init_5 0 rfl rfl)
theorem dX9_init_117 : decode cX9_init 117 = .ok (.newarray .int, 2) := dk_188_10 (dk_at dksX9_init_5 3 rfl rfl)
theorem dX9_init_119 : decode cX9_init 119 = .ok (.putfield 50, 3) := dk_181 0 50 (dk_at dksX9_init_5 5 rfl rfl)
theorem dX9_init_122 : decode cX9_init 122 = .ok (.aload_n 0, 1) := dk_42 (dk_at dksX9_init_5 8 rfl rfl)
theorem dX9_init_123 : decode cX9_init 123 = .ok (.sipush 1000, 3) := dk_17 3 232 (dk_at dksX9_init_5 9 rfl rfl)
theorem dX9_init_126 : decode cX9_init 126 = .ok (.newarray .int, 2) := dk_188_10 (dk_at dksX9_init_5 12 rfl rfl)
theorem dX9_init_128 : decode cX9_init 128 = .ok (.putfield 53, 3) := dk_181 0 53 (dk_at dksX9_init_5 14 rfl rfl)
theorem dX9_init_131 : decode cX9_init 131 = .ok (.aload_n 0, 1) := dk_42 (dk_at dksX9_init_5 17 rfl rfl)
theorem dX9_init_132 : decode cX9_init 132 = .ok (.sipush 6000, 3) := dk_17 23 112 (dk_at dksX9_init_5 18 rfl rfl)
theorem dX9_init_135 : decode cX9_init 135 = .ok (.newarray .int, 2) := dk_188_10 (dk_at dksX9_init_5 21 rfl rfl)
theorem dX9_init_137 : decode cX9_init 137 = .ok (.putfield 56, 3) := dk_181 0 56 (dk_at dksX9_init_6 0 rfl rfl)
theorem dX9_init_140 : decode cX9_init 140 = .ok (.aload_n 0, 1) := dk_42 (dk_at dksX9_init_6 3 rfl rfl)
theorem dX9_init_141 : decode cX9_init 141 = .ok (.iconst 2, 1) := dk_5 (dk_at dksX9_init_6 4 rfl rfl)
theorem dX9_init_142 : decode cX9_init 142 = .ok (.newarray .int, 2) := dk_188_10 (dk_at dksX9_init_6 5 rfl rfl)
theorem dX9_init_144 : decode cX9_init 144 = .ok (.dup, 1) := dk_89 (dk_at dksX9_init_6 7 rfl rfl)
theorem dX9_init_145 : decode cX9_init 145 = .ok (.iconst 0, 1) := dk_3 (dk_at dksX9_init_6 8 rfl rfl)
theorem dX9_init_146 : decode cX9_init 146 = .ok (.ldc 59, 2) := dk_18 59 (dk_at dksX9_init_6 9 rfl rfl)
theorem dX9_init_148 : decode cX9_init 148 = .ok (.iastore, 1) := dk_79 (dk_at dksX9_init_6 11 rfl rfl)
theorem dX9_init_149 : decode cX9_init 149 = .ok (.dup, 1) := dk_89 (dk_at dksX9_init_6 12 rfl rfl)
theorem dX9_init_150 : decode cX9_init 150 = .ok (.iconst 1, 1) := dk_4 (dk_at dksX9_init_6 13 rfl rfl)
theorem dX9_init_151 : decode cX9_init 151 = .ok (.bipush 63, 2) := dk_16 63 (dk_at dksX9_init_6 14 rfl rfl)
theorem dX9_init_153 : decode cX9_init 153 = .ok (.iastore, 1) := dk_79 (dk_at dksX9_init_6 16 rfl rfl)
theorem dX9_init_154 : decode cX9_init 154 = .ok (.putfield 60, 3) := dk_181 0 60 (dk_at dksX9_init_6 17 rfl rfl)
theorem dX9_init_157 : decode cX9_init 157 = .ok (.aload_n 0, 1) := dk_42 (dk_at dksX9_init_6 20 rfl rfl)
theorem dX9_init_158 : decode cX9_init 158 = .ok (.iconst 3, 1) := dk_6 (dk_at dksX9_init_6 21 rfl rfl)
theorem dX9_init_159 : decode cX9_init 159 = .ok (.newarray .int, 2) := dk_188_10 (dk_at dksX9_init_6 22 rfl rfl)
theorem dX9_init_161 : decode cX9_init 161 = .ok (.putfield 63, 3) := dk_181 0 63 (dk_at dksX9_init_7 0 rfl rfl)
theorem dX9_init_164 : decode cX9_init 164 = .ok (.aload_n 0, 1) := dk_42 (dk_at dksX9_init_7 3 rfl rfl)
theorem dX9_init_165 : decode cX9_init 165 = .ok (.bipush 40, 2) := dk_16 40 (dk_at dksX9_init_7 4 rfl rfl)
theorem dX9_init_167 : decode cX9_init 167 = .ok (.newarray .int, 2) := dk_188_10 (dk_at dksX9_init_7 6 rfl rfl)
theorem dX9_init_169 : decode cX9_init 169 = .ok (.putfield 66, 3) := dk_181 0 66 (dk_at dksX9_init_7 8 rfl rfl)
theorem dX9_init_172 : decode cX9_init 172 = .ok (.aload_n 0, 1) := dk_42 (dk_at dksX9_init_7 11 rfl rfl)
theorem dX9_init_173 : decode cX9_init 173 = .ok (.bipush 40, 2) := dk_16 40 (dk_at dksX9_init_7 12 rfl rfl)
theorem dX9_init_175 : decode cX9_init 175 = .ok (.newarray .int, 2) := dk_188_10 (dk_at dksX9_init_7 14 rfl rfl)
theorem dX9_init_177 : decode cX9_init 177 = .ok (.putfield 69, 3) := dk_181 0 69 (dk_at dksX9_init_7 16 rfl rfl)
theorem dX9_init_180 : decode cX9_init 180 = .ok (.aload_n 0, 1) := dk_42 (dk_at dksX9_init_7 19 rfl rfl)
theorem dX9_init_181 : decode cX9_init 181 = .ok (.sipush 160, 3) := dk_17 0 160 (dk_at dksX9_init_7 20 rfl rfl)
theorem dX9_init_184 : decode cX9_init 184 = .ok (.newarray .int, 2) := dk_188_10 (dk_at dksX9_init_8 0 rfl rfl)
theorem dX9_init_186 : decode cX9_init 186 = .ok (.putfield 72, 3) := dk_181 0 72 (dk_at dksX9_init_8 2 rfl rfl)
theorem dX9_init_189 : decode cX9_init 189 = .ok (.aload_n 0, 1) := dk_42 (dk_at dksX9_init_8 5 rfl rfl)
theorem dX9_init_190 : decode cX9_init 190 = .ok (.iconst 4, 1) := dk_7 (dk_at dksX9_init_8 6 rfl rfl)
theorem dX9_init_191 : decode cX9_init 191 = .ok (.newarray .boolean, 2) := dk_188_4 (dk_at dksX9_init_8 7 rfl rfl)
theorem dX9_init_193 : decode cX9_init 193 = .ok (.putfield 75, 3) := dk_181 0 75 (dk_at dksX9_init_8 9 rfl rfl)
theorem dX9_init_196 : decode cX9_init 196 = .ok (.aload_n 0, 1) := dk_42 (dk_at dksX9_init_8 12 rfl rfl)
theorem dX9_init_197 : decode cX9_init 197 = .ok (.iconst 3, 1) := dk_6 (dk_at dksX9_init_8 13 rfl rfl)
theorem dX9_init_198 : decode cX9_init 198 = .ok (.newarray .int, 2) := dk_188_10 (dk_at dksX9_init_8 14 rfl rfl)
theorem dX9_init_200 : decode cX9_init 200 = .ok (.putfield 78, 3) := dk_181 0 78 (dk_at dksX9_init_8 16 rfl rfl)
theorem dX9_init_203 : decode cX9_init 203 = .ok (.aload_n 0, 1) := dk_42 (dk_at dksX9_init_8 19 rfl rfl)
theorem dX9_init_204 : decode cX9_init 204 = .ok (.iconst 4, 1) := dk_7 (dk_at dksX9_init_8 20 rfl rfl)
theorem dX9_init_205 : decode cX9_init 205 = .ok (.newarray .int, 2) := dk_188_10 (dk_at dksX9_init_8 21 rfl rfl)
theorem dX9_init_207 : decode cX9_init 207 = .ok (.putfield 81, 3) := dk_181 0 81 (dk_at dksX9_init_9 0 rfl rfl)
theorem dX9_init_210 : decode cX9_init 210 = .ok (.aload_n 0, 1) := dk_42 (dk_at dksX9_init_9 3 rfl rfl)
theorem dX9_init_211 : decode cX9_init 211 = .ok (.sipush 4000, 3) := dk_17 15 160 (dk_at dksX9_init_9 4 rfl rfl)
theorem dX9_init_214 : decode cX9_init 214 = .ok (.newarray .int, 2) := dk_188_10 (dk_at dksX9_init_9 7 rfl rfl)
theorem dX9_init_216 : decode cX9_init 216 = .ok (.putfield 84, 3) := dk_181 0 84 (dk_at dksX9_init_9 9 rfl rfl)
theorem dX9_init_219 : decode cX9_init 219 = .ok (.aload_n 0, 1) := dk_42 (dk_at dksX9_init_9 12 rfl rfl)
theorem dX9_init_220 : decode cX9_init 220 = .ok (.sipush 4000, 3) := dk_17 15 160 (dk_at dksX9_init_9 13 rfl rfl)
theorem dX9_init_223 : decode cX9_init 223 = .ok (.newarray .int, 2) := dk_188_10 (dk_at dksX9_init_9 16 rfl rfl)
theorem dX9_init_225 : decode cX9_init 225 = .ok (.putfield 87, 3) := dk_181 0 87 (dk_at dksX9_init_9 18 rfl rfl)
theorem dX9_init_228 : decode cX9_init 228 = .ok (.aload_n 0, 1) := dk_42 (dk_at dksX9_init_9 21 rfl rfl)
theorem dX9_init_229 : decode cX9_init 229 = .ok (.sipush 6400, 3) := dk_17 25 0 (dk_at dksX9_init_10 0 rfl rfl)
theorem dX9_init_232 : decode cX9_init 232 = .ok (.newarray .int, 2) := dk_188_10 (dk_at dksX9_init_10 3 rfl rfl)
theorem dX9_init_234 : decode cX9_init 234 = .ok (.putfield 90, 3) := dk_181 0 90 (dk_at dksX9_init_10 5 rfl rfl)
theorem dX9_init_237 : decode cX9_init 237 = .ok (.aload_n 0, 1) := dk_42 (dk_at dksX9_init_10 8 rfl rfl)
theorem dX9_init_238 : decode cX9_init 238 = .ok (.bipush 8, 2) := dk_16 8 (dk_at dksX9_init_10 9 rfl rfl)
theorem dX9_init_240 : decode cX9_init 240 = .ok (.newarray .int, 2) := dk_188_10 (dk_at dksX9_init_10 11 rfl rfl)
theorem dX9_init_242 : decode cX9_init 242 = .ok (.putfield 93, 3) := dk_181 0 93 (dk_at dksX9_init_10 13 rfl rfl)
theorem dX9_init_245 : decode cX9_init 245 = .ok (.aload_n 0, 1) := dk_42 (dk_at dksX9_init_10 16 rfl rfl)
theorem dX9_init_246 : decode cX9_init 246 = .ok (.sipush 1000, 3) := dk_17 3 232 (dk_at dksX9_init_10 17 rfl rfl)
theorem dX9_init_249 : decode cX9_init 249 = .ok (.newarray .int, 2) := dk_188_10 (dk_at dksX9_init_10 20 rfl rfl)
theorem dX9_init_251 : decode cX9_init 251 = .ok (.putfield 96, 3) := dk_181 0 96 (dk_at dksX9_init_11 0 rfl rfl)
theorem dX9_init_254 : decode cX9_init 254 = .ok (.aload_n 0, 1) := dk_42 (dk_at dksX9_init_11 3 rfl rfl)
theorem dX9_init_255 : decode cX9_init 255 = .ok (.bipush 40, 2) := dk_16 40 (dk_at dksX9_init_11 4 rfl rfl)
theorem dX9_init_257 : decode cX9_init 257 = .ok (.newarray .int, 2) := dk_188_10 (dk_at dksX9_init_11 6 rfl rfl)
theorem dX9_init_259 : decode cX9_init 259 = .ok (.putfield 99, 3) := dk_181 0 99 (dk_at dksX9_init_11 8 rfl rfl)
theorem dX9_init_262 : decode cX9_init 262 = .ok (.aload_n 0, 1) := dk_42 (dk_at dksX9_init_11 11 rfl rfl)
theorem dX9_init_263 : decode cX9_init 263 = .ok (.bipush 40, 2) := dk_16 40 (dk_at dksX9_init_11 12 rfl rfl)
theorem dX9_init_265 : decode cX9_init 265 = .ok (.newarray .int, 2) := dk_188_10 (dk_at dksX9_init_11 14 rfl rfl)
theorem dX9_init_267 : decode cX9_init 267 = .ok (.putfield 102, 3) := dk_181 0 102 (dk_at dksX9_init_11 16 rfl rfl)
theorem dX9_init_270 : decode cX9_init 270 = .ok (.aload_n 0, 1) := dk_42 (dk_at dksX9_init_11 19 rfl rfl)
theorem dX9_init_271 : decode cX9_init 271 = .ok (.iconst 4, 1) := dk_7 (dk_at dksX9_init_11 20 rfl rfl)
theorem dX9_init_272 : decode cX9_init 272 = .ok (.newarray .boolean, 2) := dk_188_4 (dk_at dksX9_init_11 21 rfl rfl)
theorem dX9_init_274 : decode cX9_init 274 = .ok (.putfield 105, 3) := dk_181 0 105 (dk_at dksX9_init_12 0 rfl rfl)
theorem dX9_init_277 : decode cX9_init 277 = .ok (.aload_n 0, 1) := dk_42 (dk_at dksX9_init_12 3 rfl rfl)
theorem dX9_init_278 : decode cX9_init 278 = .ok (.iconst 4, 1) := dk_7 (dk_at dksX9_init_12 4 rfl rfl)
theorem dX9_init_279 : decode cX9_init 279 = .ok (.newarray .int, 2) := dk_188_10 (dk_at dksX9_init_12 5 rfl rfl)
theorem dX9_init_281 : decode cX9_init 281 = .ok (.putfield 108, 3) := dk_181 0 108 (dk_at dksX9_init_12 7 rfl rfl)
theorem dX9_init_284 : decode cX9_init 284 = .ok (.aload_n 0, 1) := dk_42 (dk_at dksX9_init_12 10 rfl rfl)
theorem dX9_init_285 : decode cX9_init 285 = .ok (.iconst 4, 1) := dk_7 (dk_at dksX9_init_12 11 rfl rfl)
theorem dX9_init_286 : decode cX9_init 286 = .ok (.newarray .boolean, 2) := dk_188_4 (dk_at dksX9_init_12 12 rfl rfl)
theorem dX9_init_288 : decode cX9_init 288 = .ok (.putfield 111, 3) := dk_181 0 111 (dk_at dksX9_init_12 14 rfl rfl)
theorem dX9_init_291 : decode cX9_init 291 = .ok (.aload_n 0, 1) := dk_42 (dk_at dksX9_init_12 17 rfl rfl)
theorem dX9_init_292 : decode cX9_init 292 = .ok (.iconst 4, 1) := dk_7 (dk_at dksX9_init_12 18 rfl rfl)
theorem dX9_init_293 : decode cX9_init 293 = .ok (.newarray .int, 2) := dk_188_10 (dk_at dksX9_init_12 19 rfl rfl)
theorem dX9_init_295 : decode cX9_init 295 = .ok (.putfield 114, 3) := dk_181 0 114 (dk_at dksX9_init_12 21 rfl rfl)
theorem dX9_init_298 : decode cX9_init 298 = .ok (.aload_n 0, 1) := dk_42 (dk_at dksX9_init_13 0 rfl rfl)
theorem dX9_init_299 : decode cX9_init 299 = .ok (.iconst 4, 1) := dk_7 (dk_at dksX9_init_13 1 rfl rfl)
theorem dX9_init_300 : decode cX9_init 300 = .ok (.newarray .int, 2) := dk_188_10 (dk_at dksX9_init_13 2 rfl rfl)
theorem dX9_init_302 : decode cX9_init 302 = .ok (.putfield 117, 3) := dk_181 0 117 (dk_at dksX9_init_13 4 rfl rfl)
theorem dX9_init_305 : decode cX9_init 305 = .ok (.aload_n 0, 1) := dk_42 (dk_at dksX9_init_13 7 rfl rfl)
theorem dX9_init_306 : decode cX9_init 306 = .ok (.iconst 4, 1) := dk_7 (dk_at dksX9_init_13 8 rfl rfl)
theorem dX9_init_307 : decode cX9_init 307 = .ok (.newarray .int, 2) := dk_188_10 (dk_at dksX9_init_13 9 rfl rfl)
theorem dX9_init_309 : decode cX9_init 309 = .ok (.putfield 120, 3) := dk_181 0 120 (dk_at dksX9_init_13 11 rfl rfl)
theorem dX9_init_312 : decode cX9_init 312 = .ok (.aload_n 0, 1) := dk_42 (dk_at dksX9_init_13 14 rfl rfl)
theorem dX9_init_313 : decode cX9_init 313 = .ok (.iconst 4, 1) := dk_7 (dk_at dksX9_init_13 15 rfl rfl)
theorem dX9_init_314 : decode cX9_init 314 = .ok (.newarray .int, 2) := dk_188_10 (dk_at dksX9_init_13 16 rfl rfl)
theorem dX9_init_316 : decode cX9_init 316 = .ok (.putfield 123, 3) := dk_181 0 123 (dk_at dksX9_init_13 18 rfl rfl)
theorem dX9_init_319 : decode cX9_init 319 = .ok (.aload_n 0, 1) := dk_42 (dk_at dksX9_init_13 21 rfl rfl)
theorem dX9_init_320 : decode cX9_init 320 = .ok (.bipush 32, 2) := dk_16 32 (dk_at dksX9_init_13 22 rfl rfl)
theorem dX9_init_322 : decode cX9_init 322 = .ok (.newarray .int, 2) := dk_188_10 (dk_at dksX9_init_14 0 rfl rfl)
theorem dX9_init_324 : decode cX9_init 324 = .ok (.putfield 126, 3) := dk_181 0 126 (dk_at dksX9_init_14 2 rfl rfl)
theorem dX9_init_327 : decode cX9_init 327 = .ok (.aload_n 0, 1) := dk_42 (dk_at dksX9_init_14 5 rfl rfl)
theorem dX9_init_328 : decode cX9_init 328 = .ok (.iconst 4, 1) := dk_7 (dk_at dksX9_init_14 6 rfl rfl)
theorem dX9_init_329 : decode cX9_init 329 = .ok (.newarray .int, 2) := dk_188_10 (dk_at dksX9_init_14 7 rfl rfl)
theorem dX9_init_331 : decode cX9_init 331 = .ok (.putfield 129, 3) := dk_181 0 129 (dk_at dksX9_init_14 9 rfl rfl)
theorem dX9_init_334 : decode cX9_init 334 = .ok (.aload_n 0, 1) := dk_42 (dk_at dksX9_init_14 12 rfl rfl)
theorem dX9_init_335 : decode cX9_init 335 = .ok (.iconst 4, 1) := dk_7 (dk_at dksX9_init_14 13 rfl rfl)
theorem dX9_init_336 : decode cX9_init 336 = .ok (.newarray .int, 2) := dk_188_10 (dk_at dksX9_init_14 14 rfl rfl)
theorem dX9_init_338 : decode cX9_init 338 = .ok (.putfield 132, 3) := dk_181 0 132 (dk_at dksX9_init_14 16 rfl rfl)
theorem dX9_init_341 : decode cX9_init 341 = .ok (.aload_n 0, 1) := dk_42 (dk_at dksX9_init_14 19 rfl rfl)
theorem dX9_init_342 : decode cX9_init 342 = .ok (.iconst 4, 1) := dk_7 (dk_at dksX9_init_14 20 rfl rfl)
theorem dX9_init_343 : decode cX9_init 343 = .ok (.newarray .int, 2) := dk_188_10 (dk_at dksX9_init_14 21 rfl rfl)
theorem dX9_init_345 : decode cX9_init 345 = .ok (.putfield 135, 3) := dk_181 0 135 (dk_at dksX9_init_15 0 rfl rfl)
theorem dX9_init_348 : decode cX9_init 348 = .ok (.aload_n 0, 1) := dk_42 (dk_at dksX9_init_15 3 rfl rfl)
theorem dX9_init_349 : decode cX9_init 349 = .ok (.sipush 4800, 3) := dk_17 18 192 (dk_at dksX9_init_15 4 rfl rfl)
theorem dX9_init_352 : decode cX9_init 352 = .ok (.newarray .int, 2) := dk_188_10 (dk_at dksX9_init_15 7 rfl rfl)
theorem dX9_init_354 : decode cX9_init 354 = .ok (.putfield 138, 3) := dk_181 0 138 (dk_at dksX9_init_15 9 rfl rfl)
theorem dX9_init_357 : decode cX9_init 357 = .ok (.aload_n 0, 1) := dk_42 (dk_at dksX9_init_15 12 rfl rfl)
theorem dX9_init_358 : decode cX9_init 358 = .ok (.bipush 8, 2) := dk_16 8 (dk_at dksX9_init_15 13 rfl rfl)
theorem dX9_init_360 : decode cX9_init 360 = .ok (.newarray .int, 2) := dk_188_10 (dk_at dksX9_init_15 15 rfl rfl)
theorem dX9_init_362 : decode cX9_init 362 = .ok (.putfield 141, 3) := dk_181 0 141 (dk_at dksX9_init_15 17 rfl rfl)
theorem dX9_init_365 : decode cX9_init 365 = .ok (.aload_n 0, 1) := dk_42 (dk_at dksX9_init_15 20 rfl rfl)
theorem dX9_init_366 : decode cX9_init 366 = .ok (.sipush 1200, 3) := dk_17 4 176 (dk_at dksX9_init_15 21 rfl rfl)
theorem dX9_init_369 : decode cX9_init 369 = .ok (.newarray .int, 2) := dk_188_10 (dk_at dksX9_init_16 0 rfl rfl)
theorem dX9_init_371 : decode cX9_init 371 = .ok (.putfield 144, 3) := dk_181 0 144 (dk_at dksX9_init_16 2 rfl rfl)
theorem dX9_init_374 : decode cX9_init 374 = .ok (.aload_n 0, 1) := dk_42 (dk_at dksX9_init_16 5 rfl rfl)
theorem dX9_init_375 : decode cX9_init 375 = .ok (.bipush 64, 2) := dk_16 64 (dk_at dksX9_init_16 6 rfl rfl)
theorem dX9_init_377 : decode cX9_init 377 = .ok (.newarray .int, 2) := dk_188_10 (dk_at dksX9_init_16 8 rfl rfl)
theorem dX9_init_379 : decode cX9_init 379 = .ok (.putfield 147, 3) := dk_181 0 147 (dk_at dksX9_init_16 10 rfl rfl)
theorem dX9_init_382 : decode cX9_init 382 = .ok (.return_, 1) := dk_177 (dk_at dksX9_init_16 13 rfl rfl)
abbrev cX9_page : ByteArray := prog_17_method_8_code
def yX9_page : MethodName := ⟨RX9, "page", "(I)I"⟩
def dkwX9_page_4 : List UInt8 := [100, 172]
abbrev dktX9_page_4 : List UInt8 := dkwX9_page_4 ++ []
def dkwX9_page_3 : List UInt8 := [180, 0, 20, 42, 180, 0, 163, 3, 79, 42, 89, 180, 0, 163, 4, 96, 181, 0, 163, 42, 180, 0, 163, 4]
abbrev dktX9_page_3 : List UInt8 := dkwX9_page_3 ++ dktX9_page_4
def dkwX9_page_2 : List UInt8 := [180, 0, 163, 27, 153, 0, 7, 4, 167, 0, 4, 3, 84, 42, 180, 0, 17, 42, 180, 0, 163, 3, 79, 42]
abbrev dktX9_page_2 : List UInt8 := dkwX9_page_2 ++ dktX9_page_3
def dkwX9_page_1 : List UInt8 := [42, 16, 250, 182, 0, 166, 172, 42, 180, 0, 9, 42, 180, 0, 163, 27, 79, 42, 180, 0, 13, 42]
abbrev dktX9_page_1 : List UInt8 := dkwX9_page_1 ++ dktX9_page_2
def dkwX9_page_0 : List UInt8 := [27, 3, 6, 184, 0, 156, 154, 0, 9, 42, 2, 182, 0, 166, 172, 42, 180, 0, 163, 16, 10, 160, 0, 10]
abbrev dktX9_page_0 : List UInt8 := dkwX9_page_0 ++ dktX9_page_1
theorem dksX9_page_0 : cX9_page.data.toList.drop 0 = dktX9_page_0 := by decide +kernel
theorem dksX9_page_1 : cX9_page.data.toList.drop 24 = dktX9_page_1 := dk_seg dksX9_page_0 24 rfl rfl
theorem dksX9_page_2 : cX9_page.data.toList.drop 46 = dktX9_page_2 := dk_seg dksX9_page_1 22 rfl rfl
theorem dksX9_page_3 : cX9_page.data.toList.drop 70 = dktX9_page_3 := dk_seg dksX9_page_2 24 rfl rfl
theorem dksX9_page_4 : cX9_page.data.toList.drop 94 = dktX9_page_4 := dk_seg dksX9_page_3 24 rfl rfl
theorem dX9_page_0 : decode cX9_page 0 = .ok (.iload_n 1, 1) := dk_27 (dk_at dksX9_page_0 0 rfl rfl)
theorem dX9_page_1 : decode cX9_page 1 = .ok (.iconst 0, 1) := dk_3 (dk_at dksX9_page_0 1 rfl rfl)
theorem dX9_page_2 : decode cX9_page 2 = .ok (.iconst 3, 1) := dk_6 (dk_at dksX9_page_0 2 rfl rfl)
theorem dX9_page_3 : decode cX9_page 3 = .ok (.invokestatic 156, 3) := dk_184 0 156 (dk_at dksX9_page_0 3 rfl rfl)
theorem dX9_page_6 : decode cX9_page 6 = .ok (.ifCond .ne 9, 3) := dk_154 0 9 (dk_at dksX9_page_0 6 rfl rfl)
theorem dX9_page_9 : decode cX9_page 9 = .ok (.aload_n 0, 1) := dk_42 (dk_at dksX9_page_0 9 rfl rfl)
theorem dX9_page_10 : decode cX9_page 10 = .ok (.iconst (-1), 1) := dk_2 (dk_at dksX9_page_0 10 rfl rfl)
theorem dX9_page_11 : decode cX9_page 11 = .ok (.invokevirtual 166, 3) := dk_182 0 166 (dk_at dksX9_page_0 11 rfl rfl)
theorem dX9_page_14 : decode cX9_page 14 = .ok (.ireturn, 1) := dk_172 (dk_at dksX9_page_0 14 rfl rfl)
theorem dX9_page_15 : decode cX9_page 15 = .ok (.aload_n 0, 1) := dk_42 (dk_at dksX9_page_0 15 rfl rfl)
theorem dX9_page_16 : decode cX9_page 16 = .ok (.getfield 163, 3) := dk_180 0 163 (dk_at dksX9_page_0 16 rfl rfl)
theorem dX9_page_19 : decode cX9_page 19 = .ok (.bipush 10, 2) := dk_16 10 (dk_at dksX9_page_0 19 rfl rfl)
theorem dX9_page_21 : decode cX9_page 21 = .ok (.if_icmp .ne 10, 3) := dk_160 0 10 (dk_at dksX9_page_0 21 rfl rfl)
theorem dX9_page_24 : decode cX9_page 24 = .ok (.aload_n 0, 1) := dk_42 (dk_at dksX9_page_1 0 rfl rfl)
theorem dX9_page_25 : decode cX9_page 25 = .ok (.bipush (-6), 2) := dk_16 250 (dk_at dksX9_page_1 1 rfl rfl)
theorem dX9_page_27 : decode cX9_page 27 = .ok (.invokevirtual 166, 3) := dk_182 0 166 (dk_at dksX9_page_1 3 rfl rfl)
theorem dX9_page_30 : decode cX9_page 30 = .ok (.ireturn, 1) := dk_172 (dk_at dksX9_page_1 6 rfl rfl)
theorem dX9_page_31 : decode cX9_page 31 = .ok (.aload_n 0, 1) := dk_42 (dk_at dksX9_page_1 7 rfl rfl)
theorem dX9_page_32 : decode cX9_page 32 = .ok (.getfield 9, 3) := dk_180 0 9 (dk_at dksX9_page_1 8 rfl rfl)
theorem dX9_page_35 : decode cX9_page 35 = .ok (.aload_n 0, 1) := dk_42 (dk_at dksX9_page_1 11 rfl rfl)
theorem dX9_page_36 : decode cX9_page 36 = .ok (.getfield 163, 3) := dk_180 0 163 (dk_at dksX9_page_1 12 rfl rfl)
theorem dX9_page_39 : decode cX9_page 39 = .ok (.iload_n 1, 1) := dk_27 (dk_at dksX9_page_1 15 rfl rfl)
theorem dX9_page_40 : decode cX9_page 40 = .ok (.iastore, 1) := dk_79 (dk_at dksX9_page_1 16 rfl rfl)
theorem dX9_page_41 : decode cX9_page 41 = .ok (.aload_n 0, 1) := dk_42 (dk_at dksX9_page_1 17 rfl rfl)
theorem dX9_page_42 : decode cX9_page 42 = .ok (.getfield 13, 3) := dk_180 0 13 (dk_at dksX9_page_1 18 rfl rfl)
theorem dX9_page_45 : decode cX9_page 45 = .ok (.aload_n 0, 1) := dk_42 (dk_at dksX9_page_1 21 rfl rfl)
theorem dX9_page_46 : decode cX9_page 46 = .ok (.getfield 163, 3) := dk_180 0 163 (dk_at dksX9_page_2 0 rfl rfl)
theorem dX9_page_49 : decode cX9_page 49 = .ok (.iload_n 1, 1) := dk_27 (dk_at dksX9_page_2 3 rfl rfl)
theorem dX9_page_50 : decode cX9_page 50 = .ok (.ifCond .eq 7, 3) := dk_153 0 7 (dk_at dksX9_page_2 4 rfl rfl)
theorem dX9_page_53 : decode cX9_page 53 = .ok (.iconst 1, 1) := dk_4 (dk_at dksX9_page_2 7 rfl rfl)
theorem dX9_page_54 : decode cX9_page 54 = .ok (.goto 4, 3) := dk_167 0 4 (dk_at dksX9_page_2 8 rfl rfl)
theorem dX9_page_57 : decode cX9_page 57 = .ok (.iconst 0, 1) := dk_3 (dk_at dksX9_page_2 11 rfl rfl)
theorem dX9_page_58 : decode cX9_page 58 = .ok (.bastore, 1) := dk_84 (dk_at dksX9_page_2 12 rfl rfl)
theorem dX9_page_59 : decode cX9_page 59 = .ok (.aload_n 0, 1) := dk_42 (dk_at dksX9_page_2 13 rfl rfl)
theorem dX9_page_60 : decode cX9_page 60 = .ok (.getfield 17, 3) := dk_180 0 17 (dk_at dksX9_page_2 14 rfl rfl)
theorem dX9_page_63 : decode cX9_page 63 = .ok (.aload_n 0, 1) := dk_42 (dk_at dksX9_page_2 17 rfl rfl)
theorem dX9_page_64 : decode cX9_page 64 = .ok (.getfield 163, 3) := dk_180 0 163 (dk_at dksX9_page_2 18 rfl rfl)
theorem dX9_page_67 : decode cX9_page 67 = .ok (.iconst 0, 1) := dk_3 (dk_at dksX9_page_2 21 rfl rfl)
theorem dX9_page_68 : decode cX9_page 68 = .ok (.iastore, 1) := dk_79 (dk_at dksX9_page_2 22 rfl rfl)
theorem dX9_page_69 : decode cX9_page 69 = .ok (.aload_n 0, 1) := dk_42 (dk_at dksX9_page_2 23 rfl rfl)
theorem dX9_page_70 : decode cX9_page 70 = .ok (.getfield 20, 3) := dk_180 0 20 (dk_at dksX9_page_3 0 rfl rfl)
theorem dX9_page_73 : decode cX9_page 73 = .ok (.aload_n 0, 1) := dk_42 (dk_at dksX9_page_3 3 rfl rfl)
theorem dX9_page_74 : decode cX9_page 74 = .ok (.getfield 163, 3) := dk_180 0 163 (dk_at dksX9_page_3 4 rfl rfl)
theorem dX9_page_77 : decode cX9_page 77 = .ok (.iconst 0, 1) := dk_3 (dk_at dksX9_page_3 7 rfl rfl)
theorem dX9_page_78 : decode cX9_page 78 = .ok (.iastore, 1) := dk_79 (dk_at dksX9_page_3 8 rfl rfl)
theorem dX9_page_79 : decode cX9_page 79 = .ok (.aload_n 0, 1) := dk_42 (dk_at dksX9_page_3 9 rfl rfl)
theorem dX9_page_80 : decode cX9_page 80 = .ok (.dup, 1) := dk_89 (dk_at dksX9_page_3 10 rfl rfl)
theorem dX9_page_81 : decode cX9_page 81 = .ok (.getfield 163, 3) := dk_180 0 163 (dk_at dksX9_page_3 11 rfl rfl)
theorem dX9_page_84 : decode cX9_page 84 = .ok (.iconst 1, 1) := dk_4 (dk_at dksX9_page_3 14 rfl rfl)
theorem dX9_page_85 : decode cX9_page 85 = .ok (.iadd, 1) := dk_96 (dk_at dksX9_page_3 15 rfl rfl)
theorem dX9_page_86 : decode cX9_page 86 = .ok (.putfield 163, 3) := dk_181 0 163 (dk_at dksX9_page_3 16 rfl rfl)
theorem dX9_page_89 : decode cX9_page 89 = .ok (.aload_n 0, 1) := dk_42 (dk_at dksX9_page_3 19 rfl rfl)
theorem dX9_page_90 : decode cX9_page 90 = .ok (.getfield 163, 3) := dk_180 0 163 (dk_at dksX9_page_3 20 rfl rfl)
theorem dX9_page_93 : decode cX9_page 93 = .ok (.iconst 1, 1) := dk_4 (dk_at dksX9_page_3 23 rfl rfl)
theorem dX9_page_94 : decode cX9_page 94 = .ok (.isub, 1) := dk_100 (dk_at dksX9_page_4 0 rfl rfl)
theorem dX9_page_95 : decode cX9_page 95 = .ok (.ireturn, 1) := dk_172 (dk_at dksX9_page_4 1 rfl rfl)
abbrev cX9_in : ByteArray := prog_17_method_3_code
def yX9_in : MethodName := ⟨RX9, "in", "(III)Z"⟩
def dkwX9_in_0 : List UInt8 := [26, 27, 161, 0, 12, 26, 28, 163, 0, 7, 4, 167, 0, 4, 3, 172]
abbrev dktX9_in_0 : List UInt8 := dkwX9_in_0 ++ []
theorem dksX9_in_0 : cX9_in.data.toList.drop 0 = dktX9_in_0 := by decide +kernel
theorem dX9_in_0 : decode cX9_in 0 = .ok (.iload_n 0, 1) := dk_26 (dk_at dksX9_in_0 0 rfl rfl)
theorem dX9_in_1 : decode cX9_in 1 = .ok (.iload_n 1, 1) := dk_27 (dk_at dksX9_in_0 1 rfl rfl)
theorem dX9_in_2 : decode cX9_in 2 = .ok (.if_icmp .lt 12, 3) := dk_161 0 12 (dk_at dksX9_in_0 2 rfl rfl)
theorem dX9_in_5 : decode cX9_in 5 = .ok (.iload_n 0, 1) := dk_26 (dk_at dksX9_in_0 5 rfl rfl)
theorem dX9_in_6 : decode cX9_in 6 = .ok (.iload_n 2, 1) := dk_28 (dk_at dksX9_in_0 6 rfl rfl)
theorem dX9_in_7 : decode cX9_in 7 = .ok (.if_icmp .gt 7, 3) := dk_163 0 7 (dk_at dksX9_in_0 7 rfl rfl)
theorem dX9_in_10 : decode cX9_in 10 = .ok (.iconst 1, 1) := dk_4 (dk_at dksX9_in_0 10 rfl rfl)
theorem dX9_in_11 : decode cX9_in 11 = .ok (.goto 4, 3) := dk_167 0 4 (dk_at dksX9_in_0 11 rfl rfl)
theorem dX9_in_14 : decode cX9_in 14 = .ok (.iconst 0, 1) := dk_3 (dk_at dksX9_in_0 14 rfl rfl)
theorem dX9_in_15 : decode cX9_in 15 = .ok (.ireturn, 1) := dk_172 (dk_at dksX9_in_0 15 rfl rfl)
abbrev cX9_tell : ByteArray := prog_17_method_2_code
def yX9_tell : MethodName := ⟨RX9, "tell", "(I)I"⟩
def dkwX9_tell_0 : List UInt8 := [27, 156, 0, 13, 42, 89, 180, 0, 150, 4, 96, 181, 0, 150, 27, 172]
abbrev dktX9_tell_0 : List UInt8 := dkwX9_tell_0 ++ []
theorem dksX9_tell_0 : cX9_tell.data.toList.drop 0 = dktX9_tell_0 := by decide +kernel
theorem dX9_tell_0 : decode cX9_tell 0 = .ok (.iload_n 1, 1) := dk_27 (dk_at dksX9_tell_0 0 rfl rfl)
theorem dX9_tell_1 : decode cX9_tell 1 = .ok (.ifCond .ge 13, 3) := dk_156 0 13 (dk_at dksX9_tell_0 1 rfl rfl)
theorem dX9_tell_4 : decode cX9_tell 4 = .ok (.aload_n 0, 1) := dk_42 (dk_at dksX9_tell_0 4 rfl rfl)
theorem dX9_tell_5 : decode cX9_tell 5 = .ok (.dup, 1) := dk_89 (dk_at dksX9_tell_0 5 rfl rfl)
theorem dX9_tell_6 : decode cX9_tell 6 = .ok (.getfield 150, 3) := dk_180 0 150 (dk_at dksX9_tell_0 6 rfl rfl)
theorem dX9_tell_9 : decode cX9_tell 9 = .ok (.iconst 1, 1) := dk_4 (dk_at dksX9_tell_0 9 rfl rfl)
theorem dX9_tell_10 : decode cX9_tell 10 = .ok (.iadd, 1) := dk_96 (dk_at dksX9_tell_0 10 rfl rfl)
theorem dX9_tell_11 : decode cX9_tell 11 = .ok (.putfield 150, 3) := dk_181 0 150 (dk_at dksX9_tell_0 11 rfl rfl)
theorem dX9_tell_14 : decode cX9_tell 14 = .ok (.iload_n 1, 1) := dk_27 (dk_at dksX9_tell_0 14 rfl rfl)
theorem dX9_tell_15 : decode cX9_tell 15 = .ok (.ireturn, 1) := dk_172 (dk_at dksX9_tell_0 15 rfl rfl)
abbrev cX9_derive : ByteArray := prog_17_method_11_code
def yX9_derive : MethodName := ⟨RX9, "derive", "(I)I"⟩
def dkwX9_derive_7 : List UInt8 := [182, 0, 178, 132, 3, 1, 167, 255, 227, 42, 89, 180, 0, 163, 4, 96, 181, 0, 163, 28, 172]
abbrev dktX9_derive_7 : List UInt8 := dkwX9_derive_7 ++ []
def dkwX9_derive_6 : List UInt8 := [42, 180, 0, 20, 27, 46, 162, 0, 25, 42, 16, 10, 27, 104, 29, 96, 16, 10, 28, 104, 29, 96]
abbrev dktX9_derive_6 : List UInt8 := dkwX9_derive_6 ++ dktX9_derive_7
def dkwX9_derive_5 : List UInt8 := [16, 100, 27, 104, 29, 96, 16, 100, 28, 104, 29, 96, 182, 0, 174, 132, 3, 1, 167, 255, 227, 3, 62, 29]
abbrev dktX9_derive_5 : List UInt8 := dkwX9_derive_5 ++ dktX9_derive_6
def dkwX9_derive_4 : List UInt8 := [180, 0, 20, 28, 42, 180, 0, 20, 27, 46, 79, 3, 62, 29, 42, 180, 0, 17, 27, 46, 162, 0, 25, 42]
abbrev dktX9_derive_4 : List UInt8 := dkwX9_derive_4 ++ dktX9_derive_5
def dkwX9_derive_3 : List UInt8 := [28, 3, 79, 42, 180, 0, 13, 28, 3, 84, 42, 180, 0, 17, 28, 42, 180, 0, 17, 27, 46, 79, 42]
abbrev dktX9_derive_3 : List UInt8 := dkwX9_derive_3 ++ dktX9_derive_4
def dkwX9_derive_2 : List UInt8 := [180, 0, 163, 16, 10, 160, 0, 10, 42, 16, 250, 182, 0, 166, 172, 42, 180, 0, 163, 61, 42, 180, 0, 9]
abbrev dktX9_derive_2 : List UInt8 := dkwX9_derive_2 ++ dktX9_derive_3
def dkwX9_derive_1 : List UInt8 := [16, 253, 182, 0, 166, 172, 42, 180, 0, 13, 27, 51, 154, 0, 10, 42, 16, 251, 182, 0, 166, 172, 42]
abbrev dktX9_derive_1 : List UInt8 := dkwX9_derive_1 ++ dktX9_derive_2
def dkwX9_derive_0 : List UInt8 := [42, 27, 182, 0, 170, 154, 0, 9, 42, 2, 182, 0, 166, 172, 42, 180, 0, 9, 27, 46, 153, 0, 10, 42]
abbrev dktX9_derive_0 : List UInt8 := dkwX9_derive_0 ++ dktX9_derive_1
theorem dksX9_derive_0 : cX9_derive.data.toList.drop 0 = dktX9_derive_0 := by decide +kernel
theorem dksX9_derive_1 : cX9_derive.data.toList.drop 24 = dktX9_derive_1 := dk_seg dksX9_derive_0 24 rfl rfl
theorem dksX9_derive_2 : cX9_derive.data.toList.drop 47 = dktX9_derive_2 := dk_seg dksX9_derive_1 23 rfl rfl
theorem dksX9_derive_3 : cX9_derive.data.toList.drop 71 = dktX9_derive_3 := dk_seg dksX9_derive_2 24 rfl rfl
theorem dksX9_derive_4 : cX9_derive.data.toList.drop 94 = dktX9_derive_4 := dk_seg dksX9_derive_3 23 rfl rfl
theorem dksX9_derive_5 : cX9_derive.data.toList.drop 118 = dktX9_derive_5 := dk_seg dksX9_derive_4 24 rfl rfl
theorem dksX9_derive_6 : cX9_derive.data.toList.drop 142 = dktX9_derive_6 := dk_seg dksX9_derive_5 24 rfl rfl
theorem dksX9_derive_7 : cX9_derive.data.toList.drop 164 = dktX9_derive_7 := dk_seg dksX9_derive_6 22 rfl rfl
theorem dX9_derive_0 : decode cX9_derive 0 = .ok (.aload_n 0, 1) := dk_42 (dk_at dksX9_derive_0 0 rfl rfl)
theorem dX9_derive_1 : decode cX9_derive 1 = .ok (.iload_n 1, 1) := dk_27 (dk_at dksX9_derive_0 1 rfl rfl)
theorem dX9_derive_2 : decode cX9_derive 2 = .ok (.invokevirtual 170, 3) := dk_182 0 170 (dk_at dksX9_derive_0 2 rfl rfl)
theorem dX9_derive_5 : decode cX9_derive 5 = .ok (.ifCond .ne 9, 3) := dk_154 0 9 (dk_at dksX9_derive_0 5 rfl rfl)
theorem dX9_derive_8 : decode cX9_derive 8 = .ok (.aload_n 0, 1) := dk_42 (dk_at dksX9_derive_0 8 rfl rfl)
theorem dX9_derive_9 : decode cX9_derive 9 = .ok (.iconst (-1), 1) := dk_2 (dk_at dksX9_derive_0 9 rfl rfl)
theorem dX9_derive_10 : decode cX9_derive 10 = .ok (.invokevirtual 166, 3) := dk_182 0 166 (dk_at dksX9_derive_0 10 rfl rfl)
theorem dX9_derive_13 : decode cX9_derive 13 = .ok (.ireturn, 1) := dk_172 (dk_at dksX9_derive_0 13 rfl rfl)
theorem dX9_derive_14 : decode cX9_derive 14 = .ok (.aload_n 0, 1) := dk_42 (dk_at dksX9_derive_0 14 rfl rfl)
theorem dX9_derive_15 : decode cX9_derive 15 = .ok (.getfield 9, 3) := dk_180 0 9 (dk_at dksX9_derive_0 15 rfl rfl)
theorem dX9_derive_18 : decode cX9_derive 18 = .ok (.iload_n 1, 1) := dk_27 (dk_at dksX9_derive_0 18 rfl rfl)
theorem dX9_derive_19 : decode cX9_derive 19 = .ok (.iaload, 1) := dk_46 (dk_at dksX9_derive_0 19 rfl rfl)
theorem dX9_derive_20 : decode cX9_derive 20 = .ok (.ifCond .eq 10, 3) := dk_153 0 10 (dk_at dksX9_derive_0 20 rfl rfl)
theorem dX9_derive_23 : decode cX9_derive 23 = .ok (.aload_n 0, 1) := dk_42 (dk_at dksX9_derive_0 23 rfl rfl)
theorem dX9_derive_24 : decode cX9_derive 24 = .ok (.bipush (-3), 2) := dk_16 253 (dk_at dksX9_derive_1 0 rfl rfl)
theorem dX9_derive_26 : decode cX9_derive 26 = .ok (.invokevirtual 166, 3) := dk_182 0 166 (dk_at dksX9_derive_1 2 rfl rfl)
theorem dX9_derive_29 : decode cX9_derive 29 = .ok (.ireturn, 1) := dk_172 (dk_at dksX9_derive_1 5 rfl rfl)
theorem dX9_derive_30 : decode cX9_derive 30 = .ok (.aload_n 0, 1) := dk_42 (dk_at dksX9_derive_1 6 rfl rfl)
theorem dX9_derive_31 : decode cX9_derive 31 = .ok (.getfield 13, 3) := dk_180 0 13 (dk_at dksX9_derive_1 7 rfl rfl)
theorem dX9_derive_34 : decode cX9_derive 34 = .ok (.iload_n 1, 1) := dk_27 (dk_at dksX9_derive_1 10 rfl rfl)
theorem dX9_derive_35 : decode cX9_derive 35 = .ok (.baload, 1) := dk_51 (dk_at dksX9_derive_1 11 rfl rfl)
theorem dX9_derive_36 : decode cX9_derive 36 = .ok (.ifCond .ne 10, 3) := dk_154 0 10 (dk_at dksX9_derive_1 12 rfl rfl)
theorem dX9_derive_39 : decode cX9_derive 39 = .ok (.aload_n 0, 1) := dk_42 (dk_at dksX9_derive_1 15 rfl rfl)
theorem dX9_derive_40 : decode cX9_derive 40 = .ok (.bipush (-5), 2) := dk_16 251 (dk_at dksX9_derive_1 16 rfl rfl)
theorem dX9_derive_42 : decode cX9_derive 42 = .ok (.invokevirtual 166, 3) := dk_182 0 166 (dk_at dksX9_derive_1 18 rfl rfl)
theorem dX9_derive_45 : decode cX9_derive 45 = .ok (.ireturn, 1) := dk_172 (dk_at dksX9_derive_1 21 rfl rfl)
theorem dX9_derive_46 : decode cX9_derive 46 = .ok (.aload_n 0, 1) := dk_42 (dk_at dksX9_derive_1 22 rfl rfl)
theorem dX9_derive_47 : decode cX9_derive 47 = .ok (.getfield 163, 3) := dk_180 0 163 (dk_at dksX9_derive_2 0 rfl rfl)
theorem dX9_derive_50 : decode cX9_derive 50 = .ok (.bipush 10, 2) := dk_16 10 (dk_at dksX9_derive_2 3 rfl rfl)
theorem dX9_derive_52 : decode cX9_derive 52 = .ok (.if_icmp .ne 10, 3) := dk_160 0 10 (dk_at dksX9_derive_2 5 rfl rfl)
theorem dX9_derive_55 : decode cX9_derive 55 = .ok (.aload_n 0, 1) := dk_42 (dk_at dksX9_derive_2 8 rfl rfl)
theorem dX9_derive_56 : decode cX9_derive 56 = .ok (.bipush (-6), 2) := dk_16 250 (dk_at dksX9_derive_2 9 rfl rfl)
theorem dX9_derive_58 : decode cX9_derive 58 = .ok (.invokevirtual 166, 3) := dk_182 0 166 (dk_at dksX9_derive_2 11 rfl rfl)
theorem dX9_derive_61 : decode cX9_derive 61 = .ok (.ireturn, 1) := dk_172 (dk_at dksX9_derive_2 14 rfl rfl)
theorem dX9_derive_62 : decode cX9_derive 62 = .ok (.aload_n 0, 1) := dk_42 (dk_at dksX9_derive_2 15 rfl rfl)
theorem dX9_derive_63 : decode cX9_derive 63 = .ok (.getfield 163, 3) := dk_180 0 163 (dk_at dksX9_derive_2 16 rfl rfl)
theorem dX9_derive_66 : decode cX9_derive 66 = .ok (.istore_n 2, 1) := dk_61 (dk_at dksX9_derive_2 19 rfl rfl)
theorem dX9_derive_67 : decode cX9_derive 67 = .ok (.aload_n 0, 1) := dk_42 (dk_at dksX9_derive_2 20 rfl rfl)
theorem dX9_derive_68 : decode cX9_derive 68 = .ok (.getfield 9, 3) := dk_180 0 9 (dk_at dksX9_derive_2 21 rfl rfl)
theorem dX9_derive_71 : decode cX9_derive 71 = .ok (.iload_n 2, 1) := dk_28 (dk_at dksX9_derive_3 0 rfl rfl)
theorem dX9_derive_72 : decode cX9_derive 72 = .ok (.iconst 0, 1) := dk_3 (dk_at dksX9_derive_3 1 rfl rfl)
theorem dX9_derive_73 : decode cX9_derive 73 = .ok (.iastore, 1) := dk_79 (dk_at dksX9_derive_3 2 rfl rfl)
theorem dX9_derive_74 : decode cX9_derive 74 = .ok (.aload_n 0, 1) := dk_42 (dk_at dksX9_derive_3 3 rfl rfl)
theorem dX9_derive_75 : decode cX9_derive 75 = .ok (.getfield 13, 3) := dk_180 0 13 (dk_at dksX9_derive_3 4 rfl rfl)
theorem dX9_derive_78 : decode cX9_derive 78 = .ok (.iload_n 2, 1) := dk_28 (dk_at dksX9_derive_3 7 rfl rfl)
theorem dX9_derive_79 : decode cX9_derive 79 = .ok (.iconst 0, 1) := dk_3 (dk_at dksX9_derive_3 8 rfl rfl)
theorem dX9_derive_80 : decode cX9_derive 80 = .ok (.bastore, 1) := dk_84 (dk_at dksX9_derive_3 9 rfl rfl)
theorem dX9_derive_81 : decode cX9_derive 81 = .ok (.aload_n 0, 1) := dk_42 (dk_at dksX9_derive_3 10 rfl rfl)
theorem dX9_derive_82 : decode cX9_derive 82 = .ok (.getfield 17, 3) := dk_180 0 17 (dk_at dksX9_derive_3 11 rfl rfl)
theorem dX9_derive_85 : decode cX9_derive 85 = .ok (.iload_n 2, 1) := dk_28 (dk_at dksX9_derive_3 14 rfl rfl)
theorem dX9_derive_86 : decode cX9_derive 86 = .ok (.aload_n 0, 1) := dk_42 (dk_at dksX9_derive_3 15 rfl rfl)
theorem dX9_derive_87 : decode cX9_derive 87 = .ok (.getfield 17, 3) := dk_180 0 17 (dk_at dksX9_derive_3 16 rfl rfl)
theorem dX9_derive_90 : decode cX9_derive 90 = .ok (.iload_n 1, 1) := dk_27 (dk_at dksX9_derive_3 19 rfl rfl)
theorem dX9_derive_91 : decode cX9_derive 91 = .ok (.iaload, 1) := dk_46 (dk_at dksX9_derive_3 20 rfl rfl)
theorem dX9_derive_92 : decode cX9_derive 92 = .ok (.iastore, 1) := dk_79 (dk_at dksX9_derive_3 21 rfl rfl)
theorem dX9_derive_93 : decode cX9_derive 93 = .ok (.aload_n 0, 1) := dk_42 (dk_at dksX9_derive_3 22 rfl rfl)
theorem dX9_derive_94 : decode cX9_derive 94 = .ok (.getfield 20, 3) := dk_180 0 20 (dk_at dksX9_derive_4 0 rfl rfl)
theorem dX9_derive_97 : decode cX9_derive 97 = .ok (.iload_n 2, 1) := dk_28 (dk_at dksX9_derive_4 3 rfl rfl)
theorem dX9_derive_98 : decode cX9_derive 98 = .ok (.aload_n 0, 1) := dk_42 (dk_at dksX9_derive_4 4 rfl rfl)
theorem dX9_derive_99 : decode cX9_derive 99 = .ok (.getfield 20, 3) := dk_180 0 20 (dk_at dksX9_derive_4 5 rfl rfl)
theorem dX9_derive_102 : decode cX9_derive 102 = .ok (.iload_n 1, 1) := dk_27 (dk_at dksX9_derive_4 8 rfl rfl)
theorem dX9_derive_103 : decode cX9_derive 103 = .ok (.iaload, 1) := dk_46 (dk_at dksX9_derive_4 9 rfl rfl)
theorem dX9_derive_104 : decode cX9_derive 104 = .ok (.iastore, 1) := dk_79 (dk_at dksX9_derive_4 10 rfl rfl)
theorem dX9_derive_105 : decode cX9_derive 105 = .ok (.iconst 0, 1) := dk_3 (dk_at dksX9_derive_4 11 rfl rfl)
theorem dX9_derive_106 : decode cX9_derive 106 = .ok (.istore_n 3, 1) := dk_62 (dk_at dksX9_derive_4 12 rfl rfl)
theorem dX9_derive_107 : decode cX9_derive 107 = .ok (.iload_n 3, 1) := dk_29 (dk_at dksX9_derive_4 13 rfl rfl)
theorem dX9_derive_108 : decode cX9_derive 108 = .ok (.aload_n 0, 1) := dk_42 (dk_at dksX9_derive_4 14 rfl rfl)
theorem dX9_derive_109 : decode cX9_derive 109 = .ok (.getfield 17, 3) := dk_180 0 17 (dk_at dksX9_derive_4 15 rfl rfl)
theorem dX9_derive_112 : decode cX9_derive 112 = .ok (.iload_n 1, 1) := dk_27 (dk_at dksX9_derive_4 18 rfl rfl)
theorem dX9_derive_113 : decode cX9_derive 113 = .ok (.iaload, 1) := dk_46 (dk_at dksX9_derive_4 19 rfl rfl)
theorem dX9_derive_114 : decode cX9_derive 114 = .ok (.if_icmp .ge 25, 3) := dk_162 0 25 (dk_at dksX9_derive_4 20 rfl rfl)
theorem dX9_derive_117 : decode cX9_derive 117 = .ok (.aload_n 0, 1) := dk_42 (dk_at dksX9_derive_4 23 rfl rfl)
theorem dX9_derive_118 : decode cX9_derive 118 = .ok (.bipush 100, 2) := dk_16 100 (dk_at dksX9_derive_5 0 rfl rfl)
theorem dX9_derive_120 : decode cX9_derive 120 = .ok (.iload_n 1, 1) := dk_27 (dk_at dksX9_derive_5 2 rfl rfl)
theorem dX9_derive_121 : decode cX9_derive 121 = .ok (.imul, 1) := dk_104 (dk_at dksX9_derive_5 3 rfl rfl)
theorem dX9_derive_122 : decode cX9_derive 122 = .ok (.iload_n 3, 1) := dk_29 (dk_at dksX9_derive_5 4 rfl rfl)
theorem dX9_derive_123 : decode cX9_derive 123 = .ok (.iadd, 1) := dk_96 (dk_at dksX9_derive_5 5 rfl rfl)
theorem dX9_derive_124 : decode cX9_derive 124 = .ok (.bipush 100, 2) := dk_16 100 (dk_at dksX9_derive_5 6 rfl rfl)
theorem dX9_derive_126 : decode cX9_derive 126 = .ok (.iload_n 2, 1) := dk_28 (dk_at dksX9_derive_5 8 rfl rfl)
theorem dX9_derive_127 : decode cX9_derive 127 = .ok (.imul, 1) := dk_104 (dk_at dksX9_derive_5 9 rfl rfl)
theorem dX9_derive_128 : decode cX9_derive 128 = .ok (.iload_n 3, 1) := dk_29 (dk_at dksX9_derive_5 10 rfl rfl)
theorem dX9_derive_129 : decode cX9_derive 129 = .ok (.iadd, 1) := dk_96 (dk_at dksX9_derive_5 11 rfl rfl)
theorem dX9_derive_130 : decode cX9_derive 130 = .ok (.invokevirtual 174, 3) := dk_182 0 174 (dk_at dksX9_derive_5 12 rfl rfl)
theorem dX9_derive_133 : decode cX9_derive 133 = .ok (.iinc 3 1, 3) := dk_132 3 1 (dk_at dksX9_derive_5 15 rfl rfl)
theorem dX9_derive_136 : decode cX9_derive 136 = .ok (.goto (-29), 3) := dk_167 255 227 (dk_at dksX9_derive_5 18 rfl rfl)
theorem dX9_derive_139 : decode cX9_derive 139 = .ok (.iconst 0, 1) := dk_3 (dk_at dksX9_derive_5 21 rfl rfl)
theorem dX9_derive_140 : decode cX9_derive 140 = .ok (.istore_n 3, 1) := dk_62 (dk_at dksX9_derive_5 22 rfl rfl)
theorem dX9_derive_141 : decode cX9_derive 141 = .ok (.iload_n 3, 1) := dk_29 (dk_at dksX9_derive_5 23 rfl rfl)
theorem dX9_derive_142 : decode cX9_derive 142 = .ok (.aload_n 0, 1) := dk_42 (dk_at dksX9_derive_6 0 rfl rfl)
theorem dX9_derive_143 : decode cX9_derive 143 = .ok (.getfield 20, 3) := dk_180 0 20 (dk_at dksX9_derive_6 1 rfl rfl)
theorem dX9_derive_146 : decode cX9_derive 146 = .ok (.iload_n 1, 1) := dk_27 (dk_at dksX9_derive_6 4 rfl rfl)
theorem dX9_derive_147 : decode cX9_derive 147 = .ok (.iaload, 1) := dk_46 (dk_at dksX9_derive_6 5 rfl rfl)
theorem dX9_derive_148 : decode cX9_derive 148 = .ok (.if_icmp .ge 25, 3) := dk_162 0 25 (dk_at dksX9_derive_6 6 rfl rfl)
theorem dX9_derive_151 : decode cX9_derive 151 = .ok (.aload_n 0, 1) := dk_42 (dk_at dksX9_derive_6 9 rfl rfl)
theorem dX9_derive_152 : decode cX9_derive 152 = .ok (.bipush 10, 2) := dk_16 10 (dk_at dksX9_derive_6 10 rfl rfl)
theorem dX9_derive_154 : decode cX9_derive 154 = .ok (.iload_n 1, 1) := dk_27 (dk_at dksX9_derive_6 12 rfl rfl)
theorem dX9_derive_155 : decode cX9_derive 155 = .ok (.imul, 1) := dk_104 (dk_at dksX9_derive_6 13 rfl rfl)
theorem dX9_derive_156 : decode cX9_derive 156 = .ok (.iload_n 3, 1) := dk_29 (dk_at dksX9_derive_6 14 rfl rfl)
theorem dX9_derive_157 : decode cX9_derive 157 = .ok (.iadd, 1) := dk_96 (dk_at dksX9_derive_6 15 rfl rfl)
theorem dX9_derive_158 : decode cX9_derive 158 = .ok (.bipush 10, 2) := dk_16 10 (dk_at dksX9_derive_6 16 rfl rfl)
theorem dX9_derive_160 : decode cX9_derive 160 = .ok (.iload_n 2, 1) := dk_28 (dk_at dksX9_derive_6 18 rfl rfl)
theorem dX9_derive_161 : decode cX9_derive 161 = .ok (.imul, 1) := dk_104 (dk_at dksX9_derive_6 19 rfl rfl)
theorem dX9_derive_162 : decode cX9_derive 162 = .ok (.iload_n 3, 1) := dk_29 (dk_at dksX9_derive_6 20 rfl rfl)
theorem dX9_derive_163 : decode cX9_derive 163 = .ok (.iadd, 1) := dk_96 (dk_at dksX9_derive_6 21 rfl rfl)
theorem dX9_derive_164 : decode cX9_derive 164 = .ok (.invokevirtual 178, 3) := dk_182 0 178 (dk_at dksX9_derive_7 0 rfl rfl)
theorem dX9_derive_167 : decode cX9_derive 167 = .ok (.iinc 3 1, 3) := dk_132 3 1 (dk_at dksX9_derive_7 3 rfl rfl)
theorem dX9_derive_170 : decode cX9_derive 170 = .ok (.goto (-29), 3) := dk_167 255 227 (dk_at dksX9_derive_7 6 rfl rfl)
theorem dX9_derive_173 : decode cX9_derive 173 = .ok (.aload_n 0, 1) := dk_42 (dk_at dksX9_derive_7 9 rfl rfl)
theorem dX9_derive_174 : decode cX9_derive 174 = .ok (.dup, 1) := dk_89 (dk_at dksX9_derive_7 10 rfl rfl)
theorem dX9_derive_175 : decode cX9_derive 175 = .ok (.getfield 163, 3) := dk_180 0 163 (dk_at dksX9_derive_7 11 rfl rfl)
theorem dX9_derive_178 : decode cX9_derive 178 = .ok (.iconst 1, 1) := dk_4 (dk_at dksX9_derive_7 14 rfl rfl)
theorem dX9_derive_179 : decode cX9_derive 179 = .ok (.iadd, 1) := dk_96 (dk_at dksX9_derive_7 15 rfl rfl)
theorem dX9_derive_180 : decode cX9_derive 180 = .ok (.putfield 163, 3) := dk_181 0 163 (dk_at dksX9_derive_7 16 rfl rfl)
theorem dX9_derive_183 : decode cX9_derive 183 = .ok (.iload_n 2, 1) := dk_28 (dk_at dksX9_derive_7 19 rfl rfl)
theorem dX9_derive_184 : decode cX9_derive 184 = .ok (.ireturn, 1) := dk_172 (dk_at dksX9_derive_7 20 rfl rfl)
abbrev cX9_isPage : ByteArray := prog_17_method_7_code
def yX9_isPage : MethodName := ⟨RX9, "isPage", "(I)Z"⟩
def dkwX9_isPage_0 : List UInt8 := [27, 3, 42, 180, 0, 163, 4, 100, 184, 0, 156, 172]
abbrev dktX9_isPage_0 : List UInt8 := dkwX9_isPage_0 ++ []
theorem dksX9_isPage_0 : cX9_isPage.data.toList.drop 0 = dktX9_isPage_0 := by decide +kernel
theorem dX9_isPage_0 : decode cX9_isPage 0 = .ok (.iload_n 1, 1) := dk_27 (dk_at dksX9_isPage_0 0 rfl rfl)
theorem dX9_isPage_1 : decode cX9_isPage 1 = .ok (.iconst 0, 1) := dk_3 (dk_at dksX9_isPage_0 1 rfl rfl)
theorem dX9_isPage_2 : decode cX9_isPage 2 = .ok (.aload_n 0, 1) := dk_42 (dk_at dksX9_isPage_0 2 rfl rfl)
theorem dX9_isPage_3 : decode cX9_isPage 3 = .ok (.getfield 163, 3) := dk_180 0 163 (dk_at dksX9_isPage_0 3 rfl rfl)
theorem dX9_isPage_6 : decode cX9_isPage 6 = .ok (.iconst 1, 1) := dk_4 (dk_at dksX9_isPage_0 6 rfl rfl)
theorem dX9_isPage_7 : decode cX9_isPage 7 = .ok (.isub, 1) := dk_100 (dk_at dksX9_isPage_0 7 rfl rfl)
theorem dX9_isPage_8 : decode cX9_isPage 8 = .ok (.invokestatic 156, 3) := dk_184 0 156 (dk_at dksX9_isPage_0 8 rfl rfl)
theorem dX9_isPage_11 : decode cX9_isPage 11 = .ok (.ireturn, 1) := dk_172 (dk_at dksX9_isPage_0 11 rfl rfl)
abbrev cX9_copyEntry : ByteArray := prog_17_method_9_code
def yX9_copyEntry : MethodName := ⟨RX9, "copyEntry", "(II)V"⟩
def dkwX9_copyEntry_2 : List UInt8 := [42, 180, 0, 35, 28, 42, 180, 0, 35, 27, 51, 84, 177]
abbrev dktX9_copyEntry_2 : List UInt8 := dkwX9_copyEntry_2 ++ []
def dkwX9_copyEntry_1 : List UInt8 := [42, 180, 0, 29, 28, 42, 180, 0, 29, 27, 46, 79, 42, 180, 0, 32, 28, 42, 180, 0, 32, 27, 46, 79]
abbrev dktX9_copyEntry_1 : List UInt8 := dkwX9_copyEntry_1 ++ dktX9_copyEntry_2
def dkwX9_copyEntry_0 : List UInt8 := [42, 180, 0, 23, 28, 42, 180, 0, 23, 27, 46, 79, 42, 180, 0, 26, 28, 42, 180, 0, 26, 27, 46, 79]
abbrev dktX9_copyEntry_0 : List UInt8 := dkwX9_copyEntry_0 ++ dktX9_copyEntry_1
theorem dksX9_copyEntry_0 : cX9_copyEntry.data.toList.drop 0 = dktX9_copyEntry_0 := by decide +kernel
theorem dksX9_copyEntry_1 : cX9_copyEntry.data.toList.drop 24 = dktX9_copyEntry_1 := dk_seg dksX9_copyEntry_0 24 rfl rfl
theorem dksX9_copyEntry_2 : cX9_copyEntry.data.toList.drop 48 = dktX9_copyEntry_2 := dk_seg dksX9_copyEntry_1 24 rfl rfl
theorem dX9_copyEntry_0 : decode cX9_copyEntry 0 = .ok (.aload_n 0, 1) := dk_42 (dk_at dksX9_copyEntry_0 0 rfl rfl)
theorem dX9_copyEntry_1 : decode cX9_copyEntry 1 = .ok (.getfield 23, 3) := dk_180 0 23 (dk_at dksX9_copyEntry_0 1 rfl rfl)
theorem dX9_copyEntry_4 : decode cX9_copyEntry 4 = .ok (.iload_n 2, 1) := dk_28 (dk_at dksX9_copyEntry_0 4 rfl rfl)
theorem dX9_copyEntry_5 : decode cX9_copyEntry 5 = .ok (.aload_n 0, 1) := dk_42 (dk_at dksX9_copyEntry_0 5 rfl rfl)
theorem dX9_copyEntry_6 : decode cX9_copyEntry 6 = .ok (.getfield 23, 3) := dk_180 0 23 (dk_at dksX9_copyEntry_0 6 rfl rfl)
theorem dX9_copyEntry_9 : decode cX9_copyEntry 9 = .ok (.iload_n 1, 1) := dk_27 (dk_at dksX9_copyEntry_0 9 rfl rfl)
theorem dX9_copyEntry_10 : decode cX9_copyEntry 10 = .ok (.iaload, 1) := dk_46 (dk_at dksX9_copyEntry_0 10 rfl rfl)
theorem dX9_copyEntry_11 : decode cX9_copyEntry 11 = .ok (.iastore, 1) := dk_79 (dk_at dksX9_copyEntry_0 11 rfl rfl)
theorem dX9_copyEntry_12 : decode cX9_copyEntry 12 = .ok (.aload_n 0, 1) := dk_42 (dk_at dksX9_copyEntry_0 12 rfl rfl)
theorem dX9_copyEntry_13 : decode cX9_copyEntry 13 = .ok (.getfield 26, 3) := dk_180 0 26 (dk_at dksX9_copyEntry_0 13 rfl rfl)
theorem dX9_copyEntry_16 : decode cX9_copyEntry 16 = .ok (.iload_n 2, 1) := dk_28 (dk_at dksX9_copyEntry_0 16 rfl rfl)
theorem dX9_copyEntry_17 : decode cX9_copyEntry 17 = .ok (.aload_n 0, 1) := dk_42 (dk_at dksX9_copyEntry_0 17 rfl rfl)
theorem dX9_copyEntry_18 : decode cX9_copyEntry 18 = .ok (.getfield 26, 3) := dk_180 0 26 (dk_at dksX9_copyEntry_0 18 rfl rfl)
theorem dX9_copyEntry_21 : decode cX9_copyEntry 21 = .ok (.iload_n 1, 1) := dk_27 (dk_at dksX9_copyEntry_0 21 rfl rfl)
theorem dX9_copyEntry_22 : decode cX9_copyEntry 22 = .ok (.iaload, 1) := dk_46 (dk_at dksX9_copyEntry_0 22 rfl rfl)
theorem dX9_copyEntry_23 : decode cX9_copyEntry 23 = .ok (.iastore, 1) := dk_79 (dk_at dksX9_copyEntry_0 23 rfl rfl)
theorem dX9_copyEntry_24 : decode cX9_copyEntry 24 = .ok (.aload_n 0, 1) := dk_42 (dk_at dksX9_copyEntry_1 0 rfl rfl)
theorem dX9_copyEntry_25 : decode cX9_copyEntry 25 = .ok (.getfield 29, 3) := dk_180 0 29 (dk_at dksX9_copyEntry_1 1 rfl rfl)
theorem dX9_copyEntry_28 : decode cX9_copyEntry 28 = .ok (.iload_n 2, 1) := dk_28 (dk_at dksX9_copyEntry_1 4 rfl rfl)
theorem dX9_copyEntry_29 : decode cX9_copyEntry 29 = .ok (.aload_n 0, 1) := dk_42 (dk_at dksX9_copyEntry_1 5 rfl rfl)
theorem dX9_copyEntry_30 : decode cX9_copyEntry 30 = .ok (.getfield 29, 3) := dk_180 0 29 (dk_at dksX9_copyEntry_1 6 rfl rfl)
theorem dX9_copyEntry_33 : decode cX9_copyEntry 33 = .ok (.iload_n 1, 1) := dk_27 (dk_at dksX9_copyEntry_1 9 rfl rfl)
theorem dX9_copyEntry_34 : decode cX9_copyEntry 34 = .ok (.iaload, 1) := dk_46 (dk_at dksX9_copyEntry_1 10 rfl rfl)
theorem dX9_copyEntry_35 : decode cX9_copyEntry 35 = .ok (.iastore, 1) := dk_79 (dk_at dksX9_copyEntry_1 11 rfl rfl)
theorem dX9_copyEntry_36 : decode cX9_copyEntry 36 = .ok (.aload_n 0, 1) := dk_42 (dk_at dksX9_copyEntry_1 12 rfl rfl)
theorem dX9_copyEntry_37 : decode cX9_copyEntry 37 = .ok (.getfield 32, 3) := dk_180 0 32 (dk_at dksX9_copyEntry_1 13 rfl rfl)
theorem dX9_copyEntry_40 : decode cX9_copyEntry 40 = .ok (.iload_n 2, 1) := dk_28 (dk_at dksX9_copyEntry_1 16 rfl rfl)
theorem dX9_copyEntry_41 : decode cX9_copyEntry 41 = .ok (.aload_n 0, 1) := dk_42 (dk_at dksX9_copyEntry_1 17 rfl rfl)
theorem dX9_copyEntry_42 : decode cX9_copyEntry 42 = .ok (.getfield 32, 3) := dk_180 0 32 (dk_at dksX9_copyEntry_1 18 rfl rfl)
theorem dX9_copyEntry_45 : decode cX9_copyEntry 45 = .ok (.iload_n 1, 1) := dk_27 (dk_at dksX9_copyEntry_1 21 rfl rfl)
theorem dX9_copyEntry_46 : decode cX9_copyEntry 46 = .ok (.iaload, 1) := dk_46 (dk_at dksX9_copyEntry_1 22 rfl rfl)
theorem dX9_copyEntry_47 : decode cX9_copyEntry 47 = .ok (.iastore, 1) := dk_79 (dk_at dksX9_copyEntry_1 23 rfl rfl)
theorem dX9_copyEntry_48 : decode cX9_copyEntry 48 = .ok (.aload_n 0, 1) := dk_42 (dk_at dksX9_copyEntry_2 0 rfl rfl)
theorem dX9_copyEntry_49 : decode cX9_copyEntry 49 = .ok (.getfield 35, 3) := dk_180 0 35 (dk_at dksX9_copyEntry_2 1 rfl rfl)
theorem dX9_copyEntry_52 : decode cX9_copyEntry 52 = .ok (.iload_n 2, 1) := dk_28 (dk_at dksX9_copyEntry_2 4 rfl rfl)
theorem dX9_copyEntry_53 : decode cX9_copyEntry 53 = .ok (.aload_n 0, 1) := dk_42 (dk_at dksX9_copyEntry_2 5 rfl rfl)
theorem dX9_copyEntry_54 : decode cX9_copyEntry 54 = .ok (.getfield 35, 3) := dk_180 0 35 (dk_at dksX9_copyEntry_2 6 rfl rfl)
theorem dX9_copyEntry_57 : decode cX9_copyEntry 57 = .ok (.iload_n 1, 1) := dk_27 (dk_at dksX9_copyEntry_2 9 rfl rfl)
theorem dX9_copyEntry_58 : decode cX9_copyEntry 58 = .ok (.baload, 1) := dk_51 (dk_at dksX9_copyEntry_2 10 rfl rfl)
theorem dX9_copyEntry_59 : decode cX9_copyEntry 59 = .ok (.bastore, 1) := dk_84 (dk_at dksX9_copyEntry_2 11 rfl rfl)
theorem dX9_copyEntry_60 : decode cX9_copyEntry 60 = .ok (.return_, 1) := dk_177 (dk_at dksX9_copyEntry_2 12 rfl rfl)
abbrev cX9_copyShift : ByteArray := prog_17_method_10_code
def yX9_copyShift : MethodName := ⟨RX9, "copyShift", "(II)V"⟩
def dkwX9_copyShift_2 : List UInt8 := [177]
abbrev dktX9_copyShift_2 : List UInt8 := dkwX9_copyShift_2 ++ []
def dkwX9_copyShift_1 : List UInt8 := [42, 180, 0, 44, 28, 42, 180, 0, 44, 27, 46, 79, 42, 180, 0, 47, 28, 42, 180, 0, 47, 27, 51, 84]
abbrev dktX9_copyShift_1 : List UInt8 := dkwX9_copyShift_1 ++ dktX9_copyShift_2
def dkwX9_copyShift_0 : List UInt8 := [42, 180, 0, 38, 28, 42, 180, 0, 38, 27, 46, 79, 42, 180, 0, 41, 28, 42, 180, 0, 41, 27, 46, 79]
abbrev dktX9_copyShift_0 : List UInt8 := dkwX9_copyShift_0 ++ dktX9_copyShift_1
theorem dksX9_copyShift_0 : cX9_copyShift.data.toList.drop 0 = dktX9_copyShift_0 := by decide +kernel
theorem dksX9_copyShift_1 : cX9_copyShift.data.toList.drop 24 = dktX9_copyShift_1 := dk_seg dksX9_copyShift_0 24 rfl rfl
theorem dksX9_copyShift_2 : cX9_copyShift.data.toList.drop 48 = dktX9_copyShift_2 := dk_seg dksX9_copyShift_1 24 rfl rfl
theorem dX9_copyShift_0 : decode cX9_copyShift 0 = .ok (.aload_n 0, 1) := dk_42 (dk_at dksX9_copyShift_0 0 rfl rfl)
theorem dX9_copyShift_1 : decode cX9_copyShift 1 = .ok (.getfield 38, 3) := dk_180 0 38 (dk_at dksX9_copyShift_0 1 rfl rfl)
theorem dX9_copyShift_4 : decode cX9_copyShift 4 = .ok (.iload_n 2, 1) := dk_28 (dk_at dksX9_copyShift_0 4 rfl rfl)
theorem dX9_copyShift_5 : decode cX9_copyShift 5 = .ok (.aload_n 0, 1) := dk_42 (dk_at dksX9_copyShift_0 5 rfl rfl)
theorem dX9_copyShift_6 : decode cX9_copyShift 6 = .ok (.getfield 38, 3) := dk_180 0 38 (dk_at dksX9_copyShift_0 6 rfl rfl)
theorem dX9_copyShift_9 : decode cX9_copyShift 9 = .ok (.iload_n 1, 1) := dk_27 (dk_at dksX9_copyShift_0 9 rfl rfl)
theorem dX9_copyShift_10 : decode cX9_copyShift 10 = .ok (.iaload, 1) := dk_46 (dk_at dksX9_copyShift_0 10 rfl rfl)
theorem dX9_copyShift_11 : decode cX9_copyShift 11 = .ok (.iastore, 1) := dk_79 (dk_at dksX9_copyShift_0 11 rfl rfl)
theorem dX9_copyShift_12 : decode cX9_copyShift 12 = .ok (.aload_n 0, 1) := dk_42 (dk_at dksX9_copyShift_0 12 rfl rfl)
theorem dX9_copyShift_13 : decode cX9_copyShift 13 = .ok (.getfield 41, 3) := dk_180 0 41 (dk_at dksX9_copyShift_0 13 rfl rfl)
theorem dX9_copyShift_16 : decode cX9_copyShift 16 = .ok (.iload_n 2, 1) := dk_28 (dk_at dksX9_copyShift_0 16 rfl rfl)
theorem dX9_copyShift_17 : decode cX9_copyShift 17 = .ok (.aload_n 0, 1) := dk_42 (dk_at dksX9_copyShift_0 17 rfl rfl)
theorem dX9_copyShift_18 : decode cX9_copyShift 18 = .ok (.getfield 41, 3) := dk_180 0 41 (dk_at dksX9_copyShift_0 18 rfl rfl)
theorem dX9_copyShift_21 : decode cX9_copyShift 21 = .ok (.iload_n 1, 1) := dk_27 (dk_at dksX9_copyShift_0 21 rfl rfl)
theorem dX9_copyShift_22 : decode cX9_copyShift 22 = .ok (.iaload, 1) := dk_46 (dk_at dksX9_copyShift_0 22 rfl rfl)
theorem dX9_copyShift_23 : decode cX9_copyShift 23 = .ok (.iastore, 1) := dk_79 (dk_at dksX9_copyShift_0 23 rfl rfl)
theorem dX9_copyShift_24 : decode cX9_copyShift 24 = .ok (.aload_n 0, 1) := dk_42 (dk_at dksX9_copyShift_1 0 rfl rfl)
theorem dX9_copyShift_25 : decode cX9_copyShift 25 = .ok (.getfield 44, 3) := dk_180 0 44 (dk_at dksX9_copyShift_1 1 rfl rfl)
theorem dX9_copyShift_28 : decode cX9_copyShift 28 = .ok (.iload_n 2, 1) := dk_28 (dk_at dksX9_copyShift_1 4 rfl rfl)
theorem dX9_copyShift_29 : decode cX9_copyShift 29 = .ok (.aload_n 0, 1) := dk_42 (dk_at dksX9_copyShift_1 5 rfl rfl)
theorem dX9_copyShift_30 : decode cX9_copyShift 30 = .ok (.getfield 44, 3) := dk_180 0 44 (dk_at dksX9_copyShift_1 6 rfl rfl)
theorem dX9_copyShift_33 : decode cX9_copyShift 33 = .ok (.iload_n 1, 1) := dk_27 (dk_at dksX9_copyShift_1 9 rfl rfl)
theorem dX9_copyShift_34 : decode cX9_copyShift 34 = .ok (.iaload, 1) := dk_46 (dk_at dksX9_copyShift_1 10 rfl rfl)
theorem dX9_copyShift_35 : decode cX9_copyShift 35 = .ok (.iastore, 1) := dk_79 (dk_at dksX9_copyShift_1 11 rfl rfl)
theorem dX9_copyShift_36 : decode cX9_copyShift 36 = .ok (.aload_n 0, 1) := dk_42 (dk_at dksX9_copyShift_1 12 rfl rfl)
theorem dX9_copyShift_37 : decode cX9_copyShift 37 = .ok (.getfield 47, 3) := dk_180 0 47 (dk_at dksX9_copyShift_1 13 rfl rfl)
theorem dX9_copyShift_40 : decode cX9_copyShift 40 = .ok (.iload_n 2, 1) := dk_28 (dk_at dksX9_copyShift_1 16 rfl rfl)
theorem dX9_copyShift_41 : decode cX9_copyShift 41 = .ok (.aload_n 0, 1) := dk_42 (dk_at dksX9_copyShift_1 17 rfl rfl)
theorem dX9_copyShift_42 : decode cX9_copyShift 42 = .ok (.getfield 47, 3) := dk_180 0 47 (dk_at dksX9_copyShift_1 18 rfl rfl)
theorem dX9_copyShift_45 : decode cX9_copyShift 45 = .ok (.iload_n 1, 1) := dk_27 (dk_at dksX9_copyShift_1 21 rfl rfl)
theorem dX9_copyShift_46 : decode cX9_copyShift 46 = .ok (.baload, 1) := dk_51 (dk_at dksX9_copyShift_1 22 rfl rfl)
theorem dX9_copyShift_47 : decode cX9_copyShift 47 = .ok (.bastore, 1) := dk_84 (dk_at dksX9_copyShift_1 23 rfl rfl)
theorem dX9_copyShift_48 : decode cX9_copyShift 48 = .ok (.return_, 1) := dk_177 (dk_at dksX9_copyShift_2 0 rfl rfl)
abbrev cX9_entry : ByteArray := prog_17_method_16_code
def yX9_entry : MethodName := ⟨RX9, "entry", "(IIIII)I"⟩
def dkwX9_entry_7 : List UInt8 := [3, 84, 21, 8, 155, 0, 5, 4, 172, 42, 180, 0, 17, 27, 92, 46, 4, 96, 79, 3, 172]
abbrev dktX9_entry_7 : List UInt8 := dkwX9_entry_7 ++ []
def dkwX9_entry_6 : List UInt8 := [42, 180, 0, 32, 21, 9, 21, 7, 79, 42, 180, 0, 35, 21, 9, 21, 5, 155, 0, 7, 4, 167, 0, 4]
abbrev dktX9_entry_6 : List UInt8 := dkwX9_entry_6 ++ dktX9_entry_7
def dkwX9_entry_5 : List UInt8 := [180, 0, 23, 21, 9, 28, 79, 42, 180, 0, 26, 21, 9, 21, 4, 79, 42, 180, 0, 29, 21, 9, 29, 79]
abbrev dktX9_entry_5 : List UInt8 := dkwX9_entry_5 ++ dktX9_entry_6
def dkwX9_entry_4 : List UInt8 := [21, 8, 155, 0, 8, 21, 8, 167, 0, 14, 16, 100, 27, 104, 42, 180, 0, 17, 27, 46, 96, 54, 9, 42]
abbrev dktX9_entry_4 : List UInt8 := dkwX9_entry_4 ++ dktX9_entry_5
def dkwX9_entry_3 : List UInt8 := [21, 8, 156, 0, 21, 42, 180, 0, 17, 27, 46, 16, 100, 160, 0, 10, 42, 16, 250, 182, 0, 166, 172]
abbrev dktX9_entry_3 : List UInt8 := dkwX9_entry_3 ++ dktX9_entry_4
def dkwX9_entry_2 : List UInt8 := [184, 0, 187, 154, 0, 9, 42, 2, 182, 0, 166, 172, 42, 27, 28, 29, 21, 4, 182, 0, 190, 54, 8]
abbrev dktX9_entry_2 : List UInt8 := dkwX9_entry_2 ++ dktX9_entry_3
def dkwX9_entry_1 : List UInt8 := [21, 5, 167, 0, 7, 2, 21, 5, 100, 54, 7, 28, 29, 21, 4, 184, 0, 184, 153, 0, 11, 21, 7]
abbrev dktX9_entry_1 : List UInt8 := dkwX9_entry_1 ++ dktX9_entry_2
def dkwX9_entry_0 : List UInt8 := [42, 27, 182, 0, 181, 54, 6, 21, 6, 153, 0, 10, 42, 21, 6, 182, 0, 166, 172, 21, 5, 155, 0, 8]
abbrev dktX9_entry_0 : List UInt8 := dkwX9_entry_0 ++ dktX9_entry_1
theorem dksX9_entry_0 : cX9_entry.data.toList.drop 0 = dktX9_entry_0 := by decide +kernel
theorem dksX9_entry_1 : cX9_entry.data.toList.drop 24 = dktX9_entry_1 := dk_seg dksX9_entry_0 24 rfl rfl
theorem dksX9_entry_2 : cX9_entry.data.toList.drop 47 = dktX9_entry_2 := dk_seg dksX9_entry_1 23 rfl rfl
theorem dksX9_entry_3 : cX9_entry.data.toList.drop 70 = dktX9_entry_3 := dk_seg dksX9_entry_2 23 rfl rfl
theorem dksX9_entry_4 : cX9_entry.data.toList.drop 93 = dktX9_entry_4 := dk_seg dksX9_entry_3 23 rfl rfl
theorem dksX9_entry_5 : cX9_entry.data.toList.drop 117 = dktX9_entry_5 := dk_seg dksX9_entry_4 24 rfl rfl
theorem dksX9_entry_6 : cX9_entry.data.toList.drop 141 = dktX9_entry_6 := dk_seg dksX9_entry_5 24 rfl rfl
theorem dksX9_entry_7 : cX9_entry.data.toList.drop 165 = dktX9_entry_7 := dk_seg dksX9_entry_6 24 rfl rfl
theorem dX9_entry_0 : decode cX9_entry 0 = .ok (.aload_n 0, 1) := dk_42 (dk_at dksX9_entry_0 0 rfl rfl)
theorem dX9_entry_1 : decode cX9_entry 1 = .ok (.iload_n 1, 1) := dk_27 (dk_at dksX9_entry_0 1 rfl rfl)
theorem dX9_entry_2 : decode cX9_entry 2 = .ok (.invokevirtual 181, 3) := dk_182 0 181 (dk_at dksX9_entry_0 2 rfl rfl)
theorem dX9_entry_5 : decode cX9_entry 5 = .ok (.istore 6, 2) := dk_54 6 (dk_at dksX9_entry_0 5 rfl rfl)
theorem dX9_entry_7 : decode cX9_entry 7 = .ok (.iload 6, 2) := dk_21 6 (dk_at dksX9_entry_0 7 rfl rfl)
theorem dX9_entry_9 : decode cX9_entry 9 = .ok (.ifCond .eq 10, 3) := dk_153 0 10 (dk_at dksX9_entry_0 9 rfl rfl)
theorem dX9_entry_12 : decode cX9_entry 12 = .ok (.aload_n 0, 1) := dk_42 (dk_at dksX9_entry_0 12 rfl rfl)
theorem dX9_entry_13 : decode cX9_entry 13 = .ok (.iload 6, 2) := dk_21 6 (dk_at dksX9_entry_0 13 rfl rfl)
theorem dX9_entry_15 : decode cX9_entry 15 = .ok (.invokevirtual 166, 3) := dk_182 0 166 (dk_at dksX9_entry_0 15 rfl rfl)
theorem dX9_entry_18 : decode cX9_entry 18 = .ok (.ireturn, 1) := dk_172 (dk_at dksX9_entry_0 18 rfl rfl)
theorem dX9_entry_19 : decode cX9_entry 19 = .ok (.iload 5, 2) := dk_21 5 (dk_at dksX9_entry_0 19 rfl rfl)
theorem dX9_entry_21 : decode cX9_entry 21 = .ok (.ifCond .lt 8, 3) := dk_155 0 8 (dk_at dksX9_entry_0 21 rfl rfl)
theorem dX9_entry_24 : decode cX9_entry 24 = .ok (.iload 5, 2) := dk_21 5 (dk_at dksX9_entry_1 0 rfl rfl)
theorem dX9_entry_26 : decode cX9_entry 26 = .ok (.goto 7, 3) := dk_167 0 7 (dk_at dksX9_entry_1 2 rfl rfl)
theorem dX9_entry_29 : decode cX9_entry 29 = .ok (.iconst (-1), 1) := dk_2 (dk_at dksX9_entry_1 5 rfl rfl)
theorem dX9_entry_30 : decode cX9_entry 30 = .ok (.iload 5, 2) := dk_21 5 (dk_at dksX9_entry_1 6 rfl rfl)
theorem dX9_entry_32 : decode cX9_entry 32 = .ok (.isub, 1) := dk_100 (dk_at dksX9_entry_1 8 rfl rfl)
theorem dX9_entry_33 : decode cX9_entry 33 = .ok (.istore 7, 2) := dk_54 7 (dk_at dksX9_entry_1 9 rfl rfl)
theorem dX9_entry_35 : decode cX9_entry 35 = .ok (.iload_n 2, 1) := dk_28 (dk_at dksX9_entry_1 11 rfl rfl)
theorem dX9_entry_36 : decode cX9_entry 36 = .ok (.iload_n 3, 1) := dk_29 (dk_at dksX9_entry_1 12 rfl rfl)
theorem dX9_entry_37 : decode cX9_entry 37 = .ok (.iload 4, 2) := dk_21 4 (dk_at dksX9_entry_1 13 rfl rfl)
theorem dX9_entry_39 : decode cX9_entry 39 = .ok (.invokestatic 184, 3) := dk_184 0 184 (dk_at dksX9_entry_1 15 rfl rfl)
theorem dX9_entry_42 : decode cX9_entry 42 = .ok (.ifCond .eq 11, 3) := dk_153 0 11 (dk_at dksX9_entry_1 18 rfl rfl)
theorem dX9_entry_45 : decode cX9_entry 45 = .ok (.iload 7, 2) := dk_21 7 (dk_at dksX9_entry_1 21 rfl rfl)
theorem dX9_entry_47 : decode cX9_entry 47 = .ok (.invokestatic 187, 3) := dk_184 0 187 (dk_at dksX9_entry_2 0 rfl rfl)
theorem dX9_entry_50 : decode cX9_entry 50 = .ok (.ifCond .ne 9, 3) := dk_154 0 9 (dk_at dksX9_entry_2 3 rfl rfl)
theorem dX9_entry_53 : decode cX9_entry 53 = .ok (.aload_n 0, 1) := dk_42 (dk_at dksX9_entry_2 6 rfl rfl)
theorem dX9_entry_54 : decode cX9_entry 54 = .ok (.iconst (-1), 1) := dk_2 (dk_at dksX9_entry_2 7 rfl rfl)
theorem dX9_entry_55 : decode cX9_entry 55 = .ok (.invokevirtual 166, 3) := dk_182 0 166 (dk_at dksX9_entry_2 8 rfl rfl)
theorem dX9_entry_58 : decode cX9_entry 58 = .ok (.ireturn, 1) := dk_172 (dk_at dksX9_entry_2 11 rfl rfl)
theorem dX9_entry_59 : decode cX9_entry 59 = .ok (.aload_n 0, 1) := dk_42 (dk_at dksX9_entry_2 12 rfl rfl)
theorem dX9_entry_60 : decode cX9_entry 60 = .ok (.iload_n 1, 1) := dk_27 (dk_at dksX9_entry_2 13 rfl rfl)
theorem dX9_entry_61 : decode cX9_entry 61 = .ok (.iload_n 2, 1) := dk_28 (dk_at dksX9_entry_2 14 rfl rfl)
theorem dX9_entry_62 : decode cX9_entry 62 = .ok (.iload_n 3, 1) := dk_29 (dk_at dksX9_entry_2 15 rfl rfl)
theorem dX9_entry_63 : decode cX9_entry 63 = .ok (.iload 4, 2) := dk_21 4 (dk_at dksX9_entry_2 16 rfl rfl)
theorem dX9_entry_65 : decode cX9_entry 65 = .ok (.invokevirtual 190, 3) := dk_182 0 190 (dk_at dksX9_entry_2 18 rfl rfl)
theorem dX9_entry_68 : decode cX9_entry 68 = .ok (.istore 8, 2) := dk_54 8 (dk_at dksX9_entry_2 21 rfl rfl)
theorem dX9_entry_70 : decode cX9_entry 70 = .ok (.iload 8, 2) := dk_21 8 (dk_at dksX9_entry_3 0 rfl rfl)
theorem dX9_entry_72 : decode cX9_entry 72 = .ok (.ifCond .ge 21, 3) := dk_156 0 21 (dk_at dksX9_entry_3 2 rfl rfl)
theorem dX9_entry_75 : decode cX9_entry 75 = .ok (.aload_n 0, 1) := dk_42 (dk_at dksX9_entry_3 5 rfl rfl)
theorem dX9_entry_76 : decode cX9_entry 76 = .ok (.getfield 17, 3) := dk_180 0 17 (dk_at dksX9_entry_3 6 rfl rfl)
theorem dX9_entry_79 : decode cX9_entry 79 = .ok (.iload_n 1, 1) := dk_27 (dk_at dksX9_entry_3 9 rfl rfl)
theorem dX9_entry_80 : decode cX9_entry 80 = .ok (.iaload, 1) := dk_46 (dk_at dksX9_entry_3 10 rfl rfl)
theorem dX9_entry_81 : decode cX9_entry 81 = .ok (.bipush 100, 2) := dk_16 100 (dk_at dksX9_entry_3 11 rfl rfl)
theorem dX9_entry_83 : decode cX9_entry 83 = .ok (.if_icmp .ne 10, 3) := dk_160 0 10 (dk_at dksX9_entry_3 13 rfl rfl)
theorem dX9_entry_86 : decode cX9_entry 86 = .ok (.aload_n 0, 1) := dk_42 (dk_at dksX9_entry_3 16 rfl rfl)
theorem dX9_entry_87 : decode cX9_entry 87 = .ok (.bipush (-6), 2) := dk_16 250 (dk_at dksX9_entry_3 17 rfl rfl)
theorem dX9_entry_89 : decode cX9_entry 89 = .ok (.invokevirtual 166, 3) := dk_182 0 166 (dk_at dksX9_entry_3 19 rfl rfl)
theorem dX9_entry_92 : decode cX9_entry 92 = .ok (.ireturn, 1) := dk_172 (dk_at dksX9_entry_3 22 rfl rfl)
theorem dX9_entry_93 : decode cX9_entry 93 = .ok (.iload 8, 2) := dk_21 8 (dk_at dksX9_entry_4 0 rfl rfl)
theorem dX9_entry_95 : decode cX9_entry 95 = .ok (.ifCond .lt 8, 3) := dk_155 0 8 (dk_at dksX9_entry_4 2 rfl rfl)
theorem dX9_entry_98 : decode cX9_entry 98 = .ok (.iload 8, 2) := dk_21 8 (dk_at dksX9_entry_4 5 rfl rfl)
theorem dX9_entry_100 : decode cX9_entry 100 = .ok (.goto 14, 3) := dk_167 0 14 (dk_at dksX9_entry_4 7 rfl rfl)
theorem dX9_entry_103 : decode cX9_entry 103 = .ok (.bipush 100, 2) := dk_16 100 (dk_at dksX9_entry_4 10 rfl rfl)
theorem dX9_entry_105 : decode cX9_entry 105 = .ok (.iload_n 1, 1) := dk_27 (dk_at dksX9_entry_4 12 rfl rfl)
theorem dX9_entry_106 : decode cX9_entry 106 = .ok (.imul, 1) := dk_104 (dk_at dksX9_entry_4 13 rfl rfl)
theorem dX9_entry_107 : decode cX9_entry 107 = .ok (.aload_n 0, 1) := dk_42 (dk_at dksX9_entry_4 14 rfl rfl)
theorem dX9_entry_108 : decode cX9_entry 108 = .ok (.getfield 17, 3) := dk_180 0 17 (dk_at dksX9_entry_4 15 rfl rfl)
theorem dX9_entry_111 : decode cX9_entry 111 = .ok (.iload_n 1, 1) := dk_27 (dk_at dksX9_entry_4 18 rfl rfl)
theorem dX9_entry_112 : decode cX9_entry 112 = .ok (.iaload, 1) := dk_46 (dk_at dksX9_entry_4 19 rfl rfl)
theorem dX9_entry_113 : decode cX9_entry 113 = .ok (.iadd, 1) := dk_96 (dk_at dksX9_entry_4 20 rfl rfl)
theorem dX9_entry_114 : decode cX9_entry 114 = .ok (.istore 9, 2) := dk_54 9 (dk_at dksX9_entry_4 21 rfl rfl)
theorem dX9_entry_116 : decode cX9_entry 116 = .ok (.aload_n 0, 1) := dk_42 (dk_at dksX9_entry_4 23 rfl rfl)
theorem dX9_entry_117 : decode cX9_entry 117 = .ok (.getfield 23, 3) := dk_180 0 23 (dk_at dksX9_entry_5 0 rfl rfl)
theorem dX9_entry_120 : decode cX9_entry 120 = .ok (.iload 9, 2) := dk_21 9 (dk_at dksX9_entry_5 3 rfl rfl)
theorem dX9_entry_122 : decode cX9_entry 122 = .ok (.iload_n 2, 1) := dk_28 (dk_at dksX9_entry_5 5 rfl rfl)
theorem dX9_entry_123 : decode cX9_entry 123 = .ok (.iastore, 1) := dk_79 (dk_at dksX9_entry_5 6 rfl rfl)
theorem dX9_entry_124 : decode cX9_entry 124 = .ok (.aload_n 0, 1) := dk_42 (dk_at dksX9_entry_5 7 rfl rfl)
theorem dX9_entry_125 : decode cX9_entry 125 = .ok (.getfield 26, 3) := dk_180 0 26 (dk_at dksX9_entry_5 8 rfl rfl)
theorem dX9_entry_128 : decode cX9_entry 128 = .ok (.iload 9, 2) := dk_21 9 (dk_at dksX9_entry_5 11 rfl rfl)
theorem dX9_entry_130 : decode cX9_entry 130 = .ok (.iload 4, 2) := dk_21 4 (dk_at dksX9_entry_5 13 rfl rfl)
theorem dX9_entry_132 : decode cX9_entry 132 = .ok (.iastore, 1) := dk_79 (dk_at dksX9_entry_5 15 rfl rfl)
theorem dX9_entry_133 : decode cX9_entry 133 = .ok (.aload_n 0, 1) := dk_42 (dk_at dksX9_entry_5 16 rfl rfl)
theorem dX9_entry_134 : decode cX9_entry 134 = .ok (.getfield 29, 3) := dk_180 0 29 (dk_at dksX9_entry_5 17 rfl rfl)
theorem dX9_entry_137 : decode cX9_entry 137 = .ok (.iload 9, 2) := dk_21 9 (dk_at dksX9_entry_5 20 rfl rfl)
theorem dX9_entry_139 : decode cX9_entry 139 = .ok (.iload_n 3, 1) := dk_29 (dk_at dksX9_entry_5 22 rfl rfl)
theorem dX9_entry_140 : decode cX9_entry 140 = .ok (.iastore, 1) := dk_79 (dk_at dksX9_entry_5 23 rfl rfl)
theorem dX9_entry_141 : decode cX9_entry 141 = .ok (.aload_n 0, 1) := dk_42 (dk_at dksX9_entry_6 0 rfl rfl)
theorem dX9_entry_142 : decode cX9_entry 142 = .ok (.getfield 32, 3) := dk_180 0 32 (dk_at dksX9_entry_6 1 rfl rfl)
theorem dX9_entry_145 : decode cX9_entry 145 = .ok (.iload 9, 2) := dk_21 9 (dk_at dksX9_entry_6 4 rfl rfl)
theorem dX9_entry_147 : decode cX9_entry 147 = .ok (.iload 7, 2) := dk_21 7 (dk_at dksX9_entry_6 6 rfl rfl)
theorem dX9_entry_149 : decode cX9_entry 149 = .ok (.iastore, 1) := dk_79 (dk_at dksX9_entry_6 8 rfl rfl)
theorem dX9_entry_150 : decode cX9_entry 150 = .ok (.aload_n 0, 1) := dk_42 (dk_at dksX9_entry_6 9 rfl rfl)
theorem dX9_entry_151 : decode cX9_entry 151 = .ok (.getfield 35, 3) := dk_180 0 35 (dk_at dksX9_entry_6 10 rfl rfl)
theorem dX9_entry_154 : decode cX9_entry 154 = .ok (.iload 9, 2) := dk_21 9 (dk_at dksX9_entry_6 13 rfl rfl)
theorem dX9_entry_156 : decode cX9_entry 156 = .ok (.iload 5, 2) := dk_21 5 (dk_at dksX9_entry_6 15 rfl rfl)
theorem dX9_entry_158 : decode cX9_entry 158 = .ok (.ifCond .lt 7, 3) := dk_155 0 7 (dk_at dksX9_entry_6 17 rfl rfl)
theorem dX9_entry_161 : decode cX9_entry 161 = .ok (.iconst 1, 1) := dk_4 (dk_at dksX9_entry_6 20 rfl rfl)
theorem dX9_entry_162 : decode cX9_entry 162 = .ok (.goto 4, 3) := dk_167 0 4 (dk_at dksX9_entry_6 21 rfl rfl)
theorem dX9_entry_165 : decode cX9_entry 165 = .ok (.iconst 0, 1) := dk_3 (dk_at dksX9_entry_7 0 rfl rfl)
theorem dX9_entry_166 : decode cX9_entry 166 = .ok (.bastore, 1) := dk_84 (dk_at dksX9_entry_7 1 rfl rfl)
theorem dX9_entry_167 : decode cX9_entry 167 = .ok (.iload 8, 2) := dk_21 8 (dk_at dksX9_entry_7 2 rfl rfl)
theorem dX9_entry_169 : decode cX9_entry 169 = .ok (.ifCond .lt 5, 3) := dk_155 0 5 (dk_at dksX9_entry_7 4 rfl rfl)
theorem dX9_entry_172 : decode cX9_entry 172 = .ok (.iconst 1, 1) := dk_4 (dk_at dksX9_entry_7 7 rfl rfl)
theorem dX9_entry_173 : decode cX9_entry 173 = .ok (.ireturn, 1) := dk_172 (dk_at dksX9_entry_7 8 rfl rfl)
theorem dX9_entry_174 : decode cX9_entry 174 = .ok (.aload_n 0, 1) := dk_42 (dk_at dksX9_entry_7 9 rfl rfl)
theorem dX9_entry_175 : decode cX9_entry 175 = .ok (.getfield 17, 3) := dk_180 0 17 (dk_at dksX9_entry_7 10 rfl rfl)
theorem dX9_entry_178 : decode cX9_entry 178 = .ok (.iload_n 1, 1) := dk_27 (dk_at dksX9_entry_7 13 rfl rfl)
theorem dX9_entry_179 : decode cX9_entry 179 = .ok (.dup2, 1) := dk_92 (dk_at dksX9_entry_7 14 rfl rfl)
theorem dX9_entry_180 : decode cX9_entry 180 = .ok (.iaload, 1) := dk_46 (dk_at dksX9_entry_7 15 rfl rfl)
theorem dX9_entry_181 : decode cX9_entry 181 = .ok (.iconst 1, 1) := dk_4 (dk_at dksX9_entry_7 16 rfl rfl)
theorem dX9_entry_182 : decode cX9_entry 182 = .ok (.iadd, 1) := dk_96 (dk_at dksX9_entry_7 17 rfl rfl)
theorem dX9_entry_183 : decode cX9_entry 183 = .ok (.iastore, 1) := dk_79 (dk_at dksX9_entry_7 18 rfl rfl)
theorem dX9_entry_184 : decode cX9_entry 184 = .ok (.iconst 0, 1) := dk_3 (dk_at dksX9_entry_7 19 rfl rfl)
theorem dX9_entry_185 : decode cX9_entry 185 = .ok (.ireturn, 1) := dk_172 (dk_at dksX9_entry_7 20 rfl rfl)
abbrev cX9_fixed : ByteArray := prog_17_method_12_code
def yX9_fixed : MethodName := ⟨RX9, "fixed", "(I)I"⟩
def dkwX9_fixed_1 : List UInt8 := [180, 0, 13, 27, 51, 153, 0, 8, 16, 252, 167, 0, 4, 3, 172]
abbrev dktX9_fixed_1 : List UInt8 := dkwX9_fixed_1 ++ []
def dkwX9_fixed_0 : List UInt8 := [42, 27, 182, 0, 170, 154, 0, 5, 2, 172, 42, 180, 0, 9, 27, 46, 153, 0, 6, 16, 253, 172, 42]
abbrev dktX9_fixed_0 : List UInt8 := dkwX9_fixed_0 ++ dktX9_fixed_1
theorem dksX9_fixed_0 : cX9_fixed.data.toList.drop 0 = dktX9_fixed_0 := by decide +kernel
theorem dksX9_fixed_1 : cX9_fixed.data.toList.drop 23 = dktX9_fixed_1 := dk_seg dksX9_fixed_0 23 rfl rfl
theorem dX9_fixed_0 : decode cX9_fixed 0 = .ok (.aload_n 0, 1) := dk_42 (dk_at dksX9_fixed_0 0 rfl rfl)
theorem dX9_fixed_1 : decode cX9_fixed 1 = .ok (.iload_n 1, 1) := dk_27 (dk_at dksX9_fixed_0 1 rfl rfl)
theorem dX9_fixed_2 : decode cX9_fixed 2 = .ok (.invokevirtual 170, 3) := dk_182 0 170 (dk_at dksX9_fixed_0 2 rfl rfl)
theorem dX9_fixed_5 : decode cX9_fixed 5 = .ok (.ifCond .ne 5, 3) := dk_154 0 5 (dk_at dksX9_fixed_0 5 rfl rfl)
theorem dX9_fixed_8 : decode cX9_fixed 8 = .ok (.iconst (-1), 1) := dk_2 (dk_at dksX9_fixed_0 8 rfl rfl)
theorem dX9_fixed_9 : decode cX9_fixed 9 = .ok (.ireturn, 1) := dk_172 (dk_at dksX9_fixed_0 9 rfl rfl)
theorem dX9_fixed_10 : decode cX9_fixed 10 = .ok (.aload_n 0, 1) := dk_42 (dk_at dksX9_fixed_0 10 rfl rfl)
theorem dX9_fixed_11 : decode cX9_fixed 11 = .ok (.getfield 9, 3) := dk_180 0 9 (dk_at dksX9_fixed_0 11 rfl rfl)
theorem dX9_fixed_14 : decode cX9_fixed 14 = .ok (.iload_n 1, 1) := dk_27 (dk_at dksX9_fixed_0 14 rfl rfl)
theorem dX9_fixed_15 : decode cX9_fixed 15 = .ok (.iaload, 1) := dk_46 (dk_at dksX9_fixed_0 15 rfl rfl)
theorem dX9_fixed_16 : decode cX9_fixed 16 = .ok (.ifCond .eq 6, 3) := dk_153 0 6 (dk_at dksX9_fixed_0 16 rfl rfl)
theorem dX9_fixed_19 : decode cX9_fixed 19 = .ok (.bipush (-3), 2) := dk_16 253 (dk_at dksX9_fixed_0 19 rfl rfl)
theorem dX9_fixed_21 : decode cX9_fixed 21 = .ok (.ireturn, 1) := dk_172 (dk_at dksX9_fixed_0 21 rfl rfl)
theorem dX9_fixed_22 : decode cX9_fixed 22 = .ok (.aload_n 0, 1) := dk_42 (dk_at dksX9_fixed_0 22 rfl rfl)
theorem dX9_fixed_23 : decode cX9_fixed 23 = .ok (.getfield 13, 3) := dk_180 0 13 (dk_at dksX9_fixed_1 0 rfl rfl)
theorem dX9_fixed_26 : decode cX9_fixed 26 = .ok (.iload_n 1, 1) := dk_27 (dk_at dksX9_fixed_1 3 rfl rfl)
theorem dX9_fixed_27 : decode cX9_fixed 27 = .ok (.baload, 1) := dk_51 (dk_at dksX9_fixed_1 4 rfl rfl)
theorem dX9_fixed_28 : decode cX9_fixed 28 = .ok (.ifCond .eq 8, 3) := dk_153 0 8 (dk_at dksX9_fixed_1 5 rfl rfl)
theorem dX9_fixed_31 : decode cX9_fixed 31 = .ok (.bipush (-4), 2) := dk_16 252 (dk_at dksX9_fixed_1 8 rfl rfl)
theorem dX9_fixed_33 : decode cX9_fixed 33 = .ok (.goto 4, 3) := dk_167 0 4 (dk_at dksX9_fixed_1 10 rfl rfl)
theorem dX9_fixed_36 : decode cX9_fixed 36 = .ok (.iconst 0, 1) := dk_3 (dk_at dksX9_fixed_1 13 rfl rfl)
theorem dX9_fixed_37 : decode cX9_fixed 37 = .ok (.ireturn, 1) := dk_172 (dk_at dksX9_fixed_1 14 rfl rfl)
abbrev cX9_isText : ByteArray := prog_17_method_13_code
def yX9_isText : MethodName := ⟨RX9, "isText", "(III)Z"⟩
def dkwX9_isText_1 : List UInt8 := [16, 8, 28, 104, 120, 162, 0, 7, 4, 167, 0, 4, 3, 172]
abbrev dktX9_isText_1 : List UInt8 := dkwX9_isText_1 ++ []
def dkwX9_isText_0 : List UInt8 := [26, 3, 6, 184, 0, 156, 153, 0, 30, 28, 4, 6, 184, 0, 156, 153, 0, 21, 27, 155, 0, 17, 27, 4]
abbrev dktX9_isText_0 : List UInt8 := dkwX9_isText_0 ++ dktX9_isText_1
theorem dksX9_isText_0 : cX9_isText.data.toList.drop 0 = dktX9_isText_0 := by decide +kernel
theorem dksX9_isText_1 : cX9_isText.data.toList.drop 24 = dktX9_isText_1 := dk_seg dksX9_isText_0 24 rfl rfl
theorem dX9_isText_0 : decode cX9_isText 0 = .ok (.iload_n 0, 1) := dk_26 (dk_at dksX9_isText_0 0 rfl rfl)
theorem dX9_isText_1 : decode cX9_isText 1 = .ok (.iconst 0, 1) := dk_3 (dk_at dksX9_isText_0 1 rfl rfl)
theorem dX9_isText_2 : decode cX9_isText 2 = .ok (.iconst 3, 1) := dk_6 (dk_at dksX9_isText_0 2 rfl rfl)
theorem dX9_isText_3 : decode cX9_isText 3 = .ok (.invokestatic 156, 3) := dk_184 0 156 (dk_at dksX9_isText_0 3 rfl rfl)
theorem dX9_isText_6 : decode cX9_isText 6 = .ok (.ifCond .eq 30, 3) := dk_153 0 30 (dk_at dksX9_isText_0 6 rfl rfl)
theorem dX9_isText_9 : decode cX9_isText 9 = .ok (.iload_n 2, 1) := dk_28 (dk_at dksX9_isText_0 9 rfl rfl)
theorem dX9_isText_10 : decode cX9_isText 10 = .ok (.iconst 1, 1) := dk_4 (dk_at dksX9_isText_0 10 rfl rfl)
theorem dX9_isText_11 : decode cX9_isText 11 = .ok (.iconst 3, 1) := dk_6 (dk_at dksX9_isText_0 11 rfl rfl)
theorem dX9_isText_12 : decode cX9_isText 12 = .ok (.invokestatic 156, 3) := dk_184 0 156 (dk_at dksX9_isText_0 12 rfl rfl)
theorem dX9_isText_15 : decode cX9_isText 15 = .ok (.ifCond .eq 21, 3) := dk_153 0 21 (dk_at dksX9_isText_0 15 rfl rfl)
theorem dX9_isText_18 : decode cX9_isText 18 = .ok (.iload_n 1, 1) := dk_27 (dk_at dksX9_isText_0 18 rfl rfl)
theorem dX9_isText_19 : decode cX9_isText 19 = .ok (.ifCond .lt 17, 3) := dk_155 0 17 (dk_at dksX9_isText_0 19 rfl rfl)
theorem dX9_isText_22 : decode cX9_isText 22 = .ok (.iload_n 1, 1) := dk_27 (dk_at dksX9_isText_0 22 rfl rfl)
theorem dX9_isText_23 : decode cX9_isText 23 = .ok (.iconst 1, 1) := dk_4 (dk_at dksX9_isText_0 23 rfl rfl)
theorem dX9_isText_24 : decode cX9_isText 24 = .ok (.bipush 8, 2) := dk_16 8 (dk_at dksX9_isText_1 0 rfl rfl)
theorem dX9_isText_26 : decode cX9_isText 26 = .ok (.iload_n 2, 1) := dk_28 (dk_at dksX9_isText_1 2 rfl rfl)
theorem dX9_isText_27 : decode cX9_isText 27 = .ok (.imul, 1) := dk_104 (dk_at dksX9_isText_1 3 rfl rfl)
theorem dX9_isText_28 : decode cX9_isText 28 = .ok (.ishl, 1) := dk_120 (dk_at dksX9_isText_1 4 rfl rfl)
theorem dX9_isText_29 : decode cX9_isText 29 = .ok (.if_icmp .ge 7, 3) := dk_162 0 7 (dk_at dksX9_isText_1 5 rfl rfl)
theorem dX9_isText_32 : decode cX9_isText 32 = .ok (.iconst 1, 1) := dk_4 (dk_at dksX9_isText_1 8 rfl rfl)
theorem dX9_isText_33 : decode cX9_isText 33 = .ok (.goto 4, 3) := dk_167 0 4 (dk_at dksX9_isText_1 9 rfl rfl)
theorem dX9_isText_36 : decode cX9_isText 36 = .ok (.iconst 0, 1) := dk_3 (dk_at dksX9_isText_1 12 rfl rfl)
theorem dX9_isText_37 : decode cX9_isText 37 = .ok (.ireturn, 1) := dk_172 (dk_at dksX9_isText_1 13 rfl rfl)
abbrev cX9_isPoint : ByteArray := prog_17_method_6_code
def yX9_isPoint : MethodName := ⟨RX9, "isPoint", "(I)Z"⟩
def dkwX9_isPoint_1 : List UInt8 := [167, 0, 4, 3, 172]
abbrev dktX9_isPoint_1 : List UInt8 := dkwX9_isPoint_1 ++ []
def dkwX9_isPoint_0 : List UInt8 := [26, 3, 18, 162, 184, 0, 156, 153, 0, 18, 26, 18, 154, 18, 161, 184, 0, 156, 154, 0, 7, 4]
abbrev dktX9_isPoint_0 : List UInt8 := dkwX9_isPoint_0 ++ dktX9_isPoint_1
theorem dksX9_isPoint_0 : cX9_isPoint.data.toList.drop 0 = dktX9_isPoint_0 := by decide +kernel
theorem dksX9_isPoint_1 : cX9_isPoint.data.toList.drop 22 = dktX9_isPoint_1 := dk_seg dksX9_isPoint_0 22 rfl rfl
theorem dX9_isPoint_0 : decode cX9_isPoint 0 = .ok (.iload_n 0, 1) := dk_26 (dk_at dksX9_isPoint_0 0 rfl rfl)
theorem dX9_isPoint_1 : decode cX9_isPoint 1 = .ok (.iconst 0, 1) := dk_3 (dk_at dksX9_isPoint_0 1 rfl rfl)
theorem dX9_isPoint_2 : decode cX9_isPoint 2 = .ok (.ldc 162, 2) := dk_18 162 (dk_at dksX9_isPoint_0 2 rfl rfl)
theorem dX9_isPoint_4 : decode cX9_isPoint 4 = .ok (.invokestatic 156, 3) := dk_184 0 156 (dk_at dksX9_isPoint_0 4 rfl rfl)
theorem dX9_isPoint_7 : decode cX9_isPoint 7 = .ok (.ifCond .eq 18, 3) := dk_153 0 18 (dk_at dksX9_isPoint_0 7 rfl rfl)
theorem dX9_isPoint_10 : decode cX9_isPoint 10 = .ok (.iload_n 0, 1) := dk_26 (dk_at dksX9_isPoint_0 10 rfl rfl)
theorem dX9_isPoint_11 : decode cX9_isPoint 11 = .ok (.ldc 154, 2) := dk_18 154 (dk_at dksX9_isPoint_0 11 rfl rfl)
theorem dX9_isPoint_13 : decode cX9_isPoint 13 = .ok (.ldc 161, 2) := dk_18 161 (dk_at dksX9_isPoint_0 13 rfl rfl)
theorem dX9_isPoint_15 : decode cX9_isPoint 15 = .ok (.invokestatic 156, 3) := dk_184 0 156 (dk_at dksX9_isPoint_0 15 rfl rfl)
theorem dX9_isPoint_18 : decode cX9_isPoint 18 = .ok (.ifCond .ne 7, 3) := dk_154 0 7 (dk_at dksX9_isPoint_0 18 rfl rfl)
theorem dX9_isPoint_21 : decode cX9_isPoint 21 = .ok (.iconst 1, 1) := dk_4 (dk_at dksX9_isPoint_0 21 rfl rfl)
theorem dX9_isPoint_22 : decode cX9_isPoint 22 = .ok (.goto 4, 3) := dk_167 0 4 (dk_at dksX9_isPoint_1 0 rfl rfl)
theorem dX9_isPoint_25 : decode cX9_isPoint 25 = .ok (.iconst 0, 1) := dk_3 (dk_at dksX9_isPoint_1 3 rfl rfl)
theorem dX9_isPoint_26 : decode cX9_isPoint 26 = .ok (.ireturn, 1) := dk_172 (dk_at dksX9_isPoint_1 4 rfl rfl)
abbrev cX9_entryOf : ByteArray := prog_17_method_14_code
def yX9_entryOf : MethodName := ⟨RX9, "entryOf", "(IIII)I"⟩
def dkwX9_entryOf_2 : List UInt8 := [180, 0, 29, 21, 5, 46, 29, 160, 0, 6, 21, 5, 172, 132, 5, 1, 167, 255, 200, 2, 172]
abbrev dktX9_entryOf_2 : List UInt8 := dkwX9_entryOf_2 ++ []
def dkwX9_entryOf_1 : List UInt8 := [180, 0, 23, 21, 5, 46, 28, 160, 0, 29, 42, 180, 0, 26, 21, 5, 46, 21, 4, 160, 0, 17, 42]
abbrev dktX9_entryOf_1 : List UInt8 := dkwX9_entryOf_1 ++ dktX9_entryOf_2
def dkwX9_entryOf_0 : List UInt8 := [16, 100, 27, 104, 54, 5, 21, 5, 16, 100, 27, 104, 42, 180, 0, 17, 27, 46, 96, 162, 0, 46, 42]
abbrev dktX9_entryOf_0 : List UInt8 := dkwX9_entryOf_0 ++ dktX9_entryOf_1
theorem dksX9_entryOf_0 : cX9_entryOf.data.toList.drop 0 = dktX9_entryOf_0 := by decide +kernel
theorem dksX9_entryOf_1 : cX9_entryOf.data.toList.drop 23 = dktX9_entryOf_1 := dk_seg dksX9_entryOf_0 23 rfl rfl
theorem dksX9_entryOf_2 : cX9_entryOf.data.toList.drop 46 = dktX9_entryOf_2 := dk_seg dksX9_entryOf_1 23 rfl rfl
theorem dX9_entryOf_0 : decode cX9_entryOf 0 = .ok (.bipush 100, 2) := dk_16 100 (dk_at dksX9_entryOf_0 0 rfl rfl)
theorem dX9_entryOf_2 : decode cX9_entryOf 2 = .ok (.iload_n 1, 1) := dk_27 (dk_at dksX9_entryOf_0 2 rfl rfl)
theorem dX9_entryOf_3 : decode cX9_entryOf 3 = .ok (.imul, 1) := dk_104 (dk_at dksX9_entryOf_0 3 rfl rfl)
theorem dX9_entryOf_4 : decode cX9_entryOf 4 = .ok (.istore 5, 2) := dk_54 5 (dk_at dksX9_entryOf_0 4 rfl rfl)
theorem dX9_entryOf_6 : decode cX9_entryOf 6 = .ok (.iload 5, 2) := dk_21 5 (dk_at dksX9_entryOf_0 6 rfl rfl)
theorem dX9_entryOf_8 : decode cX9_entryOf 8 = .ok (.bipush 100, 2) := dk_16 100 (dk_at dksX9_entryOf_0 8 rfl rfl)
theorem dX9_entryOf_10 : decode cX9_entryOf 10 = .ok (.iload_n 1, 1) := dk_27 (dk_at dksX9_entryOf_0 10 rfl rfl)
theorem dX9_entryOf_11 : decode cX9_entryOf 11 = .ok (.imul, 1) := dk_104 (dk_at dksX9_entryOf_0 11 rfl rfl)
theorem dX9_entryOf_12 : decode cX9_entryOf 12 = .ok (.aload_n 0, 1) := dk_42 (dk_at dksX9_entryOf_0 12 rfl rfl)
theorem dX9_entryOf_13 : decode cX9_entryOf 13 = .ok (.getfield 17, 3) := dk_180 0 17 (dk_at dksX9_entryOf_0 13 rfl rfl)
theorem dX9_entryOf_16 : decode cX9_entryOf 16 = .ok (.iload_n 1, 1) := dk_27 (dk_at dksX9_entryOf_0 16 rfl rfl)
theorem dX9_entryOf_17 : decode cX9_entryOf 17 = .ok (.iaload, 1) := dk_46 (dk_at dksX9_entryOf_0 17 rfl rfl)
theorem dX9_entryOf_18 : decode cX9_entryOf 18 = .ok (.iadd, 1) := dk_96 (dk_at dksX9_entryOf_0 18 rfl rfl)
theorem dX9_entryOf_19 : decode cX9_entryOf 19 = .ok (.if_icmp .ge 46, 3) := dk_162 0 46 (dk_at dksX9_entryOf_0 19 rfl rfl)
theorem dX9_entryOf_22 : decode cX9_entryOf 22 = .ok (.aload_n 0, 1) := dk_42 (dk_at dksX9_entryOf_0 22 rfl rfl)
theorem dX9_entryOf_23 : decode cX9_entryOf 23 = .ok (.getfield 23, 3) := dk_180 0 23 (dk_at dksX9_entryOf_1 0 rfl rfl)
theorem dX9_entryOf_26 : decode cX9_entryOf 26 = .ok (.iload 5, 2) := dk_21 5 (dk_at dksX9_entryOf_1 3 rfl rfl)
theorem dX9_entryOf_28 : decode cX9_entryOf 28 = .ok (.iaload, 1) := dk_46 (dk_at dksX9_entryOf_1 5 rfl rfl)
theorem dX9_entryOf_29 : decode cX9_entryOf 29 = .ok (.iload_n 2, 1) := dk_28 (dk_at dksX9_entryOf_1 6 rfl rfl)
theorem dX9_entryOf_30 : decode cX9_entryOf 30 = .ok (.if_icmp .ne 29, 3) := dk_160 0 29 (dk_at dksX9_entryOf_1 7 rfl rfl)
theorem dX9_entryOf_33 : decode cX9_entryOf 33 = .ok (.aload_n 0, 1) := dk_42 (dk_at dksX9_entryOf_1 10 rfl rfl)
theorem dX9_entryOf_34 : decode cX9_entryOf 34 = .ok (.getfield 26, 3) := dk_180 0 26 (dk_at dksX9_entryOf_1 11 rfl rfl)
theorem dX9_entryOf_37 : decode cX9_entryOf 37 = .ok (.iload 5, 2) := dk_21 5 (dk_at dksX9_entryOf_1 14 rfl rfl)
theorem dX9_entryOf_39 : decode cX9_entryOf 39 = .ok (.iaload, 1) := dk_46 (dk_at dksX9_entryOf_1 16 rfl rfl)
theorem dX9_entryOf_40 : decode cX9_entryOf 40 = .ok (.iload 4, 2) := dk_21 4 (dk_at dksX9_entryOf_1 17 rfl rfl)
theorem dX9_entryOf_42 : decode cX9_entryOf 42 = .ok (.if_icmp .ne 17, 3) := dk_160 0 17 (dk_at dksX9_entryOf_1 19 rfl rfl)
theorem dX9_entryOf_45 : decode cX9_entryOf 45 = .ok (.aload_n 0, 1) := dk_42 (dk_at dksX9_entryOf_1 22 rfl rfl)
theorem dX9_entryOf_46 : decode cX9_entryOf 46 = .ok (.getfield 29, 3) := dk_180 0 29 (dk_at dksX9_entryOf_2 0 rfl rfl)
theorem dX9_entryOf_49 : decode cX9_entryOf 49 = .ok (.iload 5, 2) := dk_21 5 (dk_at dksX9_entryOf_2 3 rfl rfl)
theorem dX9_entryOf_51 : decode cX9_entryOf 51 = .ok (.iaload, 1) := dk_46 (dk_at dksX9_entryOf_2 5 rfl rfl)
theorem dX9_entryOf_52 : decode cX9_entryOf 52 = .ok (.iload_n 3, 1) := dk_29 (dk_at dksX9_entryOf_2 6 rfl rfl)
theorem dX9_entryOf_53 : decode cX9_entryOf 53 = .ok (.if_icmp .ne 6, 3) := dk_160 0 6 (dk_at dksX9_entryOf_2 7 rfl rfl)
theorem dX9_entryOf_56 : decode cX9_entryOf 56 = .ok (.iload 5, 2) := dk_21 5 (dk_at dksX9_entryOf_2 10 rfl rfl)
theorem dX9_entryOf_58 : decode cX9_entryOf 58 = .ok (.ireturn, 1) := dk_172 (dk_at dksX9_entryOf_2 12 rfl rfl)
theorem dX9_entryOf_59 : decode cX9_entryOf 59 = .ok (.iinc 5 1, 3) := dk_132 5 1 (dk_at dksX9_entryOf_2 13 rfl rfl)
theorem dX9_entryOf_62 : decode cX9_entryOf 62 = .ok (.goto (-56), 3) := dk_167 255 200 (dk_at dksX9_entryOf_2 16 rfl rfl)
theorem dX9_entryOf_65 : decode cX9_entryOf 65 = .ok (.iconst (-1), 1) := dk_2 (dk_at dksX9_entryOf_2 19 rfl rfl)
theorem dX9_entryOf_66 : decode cX9_entryOf 66 = .ok (.ireturn, 1) := dk_172 (dk_at dksX9_entryOf_2 20 rfl rfl)
abbrev cX9_shift : ByteArray := prog_17_method_17_code
def yX9_shift : MethodName := ⟨RX9, "shift", "(IIIIZ)I"⟩
def dkwX9_shift_6 : List UInt8 := [21, 5, 84, 42, 180, 0, 20, 27, 92, 46, 4, 96, 79, 3, 172]
abbrev dktX9_shift_6 : List UInt8 := dkwX9_shift_6 ++ []
def dkwX9_shift_5 : List UInt8 := [79, 42, 180, 0, 41, 21, 7, 29, 79, 42, 180, 0, 44, 21, 7, 21, 4, 79, 42, 180, 0, 47, 21, 7]
abbrev dktX9_shift_5 : List UInt8 := dkwX9_shift_5 ++ dktX9_shift_6
def dkwX9_shift_4 : List UInt8 := [182, 0, 166, 172, 16, 10, 27, 104, 42, 180, 0, 20, 27, 46, 96, 54, 7, 42, 180, 0, 38, 21, 7, 28]
abbrev dktX9_shift_4 : List UInt8 := dkwX9_shift_4 ++ dktX9_shift_5
def dkwX9_shift_3 : List UInt8 := [155, 0, 10, 42, 16, 249, 182, 0, 166, 172, 42, 180, 0, 20, 27, 46, 16, 10, 160, 0, 10, 42, 16, 250]
abbrev dktX9_shift_3 : List UInt8 := dkwX9_shift_3 ++ dktX9_shift_4
def dkwX9_shift_2 : List UInt8 := [17, 0, 255, 184, 0, 156, 154, 0, 9, 42, 2, 182, 0, 166, 172, 42, 27, 28, 29, 182, 0, 194]
abbrev dktX9_shift_2 : List UInt8 := dkwX9_shift_2 ++ dktX9_shift_3
def dkwX9_shift_1 : List UInt8 := [184, 0, 156, 153, 0, 30, 21, 4, 3, 6, 184, 0, 156, 153, 0, 20, 28, 21, 4, 159, 0, 14, 29, 3]
abbrev dktX9_shift_1 : List UInt8 := dkwX9_shift_1 ++ dktX9_shift_2
def dkwX9_shift_0 : List UInt8 := [42, 27, 182, 0, 181, 54, 6, 21, 6, 153, 0, 10, 42, 21, 6, 182, 0, 166, 172, 28, 3, 6]
abbrev dktX9_shift_0 : List UInt8 := dkwX9_shift_0 ++ dktX9_shift_1
theorem dksX9_shift_0 : cX9_shift.data.toList.drop 0 = dktX9_shift_0 := by decide +kernel
theorem dksX9_shift_1 : cX9_shift.data.toList.drop 22 = dktX9_shift_1 := dk_seg dksX9_shift_0 22 rfl rfl
theorem dksX9_shift_2 : cX9_shift.data.toList.drop 46 = dktX9_shift_2 := dk_seg dksX9_shift_1 24 rfl rfl
theorem dksX9_shift_3 : cX9_shift.data.toList.drop 68 = dktX9_shift_3 := dk_seg dksX9_shift_2 22 rfl rfl
theorem dksX9_shift_4 : cX9_shift.data.toList.drop 92 = dktX9_shift_4 := dk_seg dksX9_shift_3 24 rfl rfl
theorem dksX9_shift_5 : cX9_shift.data.toList.drop 116 = dktX9_shift_5 := dk_seg dksX9_shift_4 24 rfl rfl
theorem dksX9_shift_6 : cX9_shift.data.toList.drop 140 = dktX9_shift_6 := dk_seg dksX9_shift_5 24 rfl rfl
theorem dX9_shift_0 : decode cX9_shift 0 = .ok (.aload_n 0, 1) := dk_42 (dk_at dksX9_shift_0 0 rfl rfl)
theorem dX9_shift_1 : decode cX9_shift 1 = .ok (.iload_n 1, 1) := dk_27 (dk_at dksX9_shift_0 1 rfl rfl)
theorem dX9_shift_2 : decode cX9_shift 2 = .ok (.invokevirtual 181, 3) := dk_182 0 181 (dk_at dksX9_shift_0 2 rfl rfl)
theorem dX9_shift_5 : decode cX9_shift 5 = .ok (.istore 6, 2) := dk_54 6 (dk_at dksX9_shift_0 5 rfl rfl)
theorem dX9_shift_7 : decode cX9_shift 7 = .ok (.iload 6, 2) := dk_21 6 (dk_at dksX9_shift_0 7 rfl rfl)
theorem dX9_shift_9 : decode cX9_shift 9 = .ok (.ifCond .eq 10, 3) := dk_153 0 10 (dk_at dksX9_shift_0 9 rfl rfl)
theorem dX9_shift_12 : decode cX9_shift 12 = .ok (.aload_n 0, 1) := dk_42 (dk_at dksX9_shift_0 12 rfl rfl)
theorem dX9_shift_13 : decode cX9_shift 13 = .ok (.iload 6, 2) := dk_21 6 (dk_at dksX9_shift_0 13 rfl rfl)
theorem dX9_shift_15 : decode cX9_shift 15 = .ok (.invokevirtual 166, 3) := dk_182 0 166 (dk_at dksX9_shift_0 15 rfl rfl)
theorem dX9_shift_18 : decode cX9_shift 18 = .ok (.ireturn, 1) := dk_172 (dk_at dksX9_shift_0 18 rfl rfl)
theorem dX9_shift_19 : decode cX9_shift 19 = .ok (.iload_n 2, 1) := dk_28 (dk_at dksX9_shift_0 19 rfl rfl)
theorem dX9_shift_20 : decode cX9_shift 20 = .ok (.iconst 0, 1) := dk_3 (dk_at dksX9_shift_0 20 rfl rfl)
theorem dX9_shift_21 : decode cX9_shift 21 = .ok (.iconst 3, 1) := dk_6 (dk_at dksX9_shift_0 21 rfl rfl)
theorem dX9_shift_22 : decode cX9_shift 22 = .ok (.invokestatic 156, 3) := dk_184 0 156 (dk_at dksX9_shift_1 0 rfl rfl)
theorem dX9_shift_25 : decode cX9_shift 25 = .ok (.ifCond .eq 30, 3) := dk_153 0 30 (dk_at dksX9_shift_1 3 rfl rfl)
theorem dX9_shift_28 : decode cX9_shift 28 = .ok (.iload 4, 2) := dk_21 4 (dk_at dksX9_shift_1 6 rfl rfl)
theorem dX9_shift_30 : decode cX9_shift 30 = .ok (.iconst 0, 1) := dk_3 (dk_at dksX9_shift_1 8 rfl rfl)
theorem dX9_shift_31 : decode cX9_shift 31 = .ok (.iconst 3, 1) := dk_6 (dk_at dksX9_shift_1 9 rfl rfl)
theorem dX9_shift_32 : decode cX9_shift 32 = .ok (.invokestatic 156, 3) := dk_184 0 156 (dk_at dksX9_shift_1 10 rfl rfl)
theorem dX9_shift_35 : decode cX9_shift 35 = .ok (.ifCond .eq 20, 3) := dk_153 0 20 (dk_at dksX9_shift_1 13 rfl rfl)
theorem dX9_shift_38 : decode cX9_shift 38 = .ok (.iload_n 2, 1) := dk_28 (dk_at dksX9_shift_1 16 rfl rfl)
theorem dX9_shift_39 : decode cX9_shift 39 = .ok (.iload 4, 2) := dk_21 4 (dk_at dksX9_shift_1 17 rfl rfl)
theorem dX9_shift_41 : decode cX9_shift 41 = .ok (.if_icmp .eq 14, 3) := dk_159 0 14 (dk_at dksX9_shift_1 19 rfl rfl)
theorem dX9_shift_44 : decode cX9_shift 44 = .ok (.iload_n 3, 1) := dk_29 (dk_at dksX9_shift_1 22 rfl rfl)
theorem dX9_shift_45 : decode cX9_shift 45 = .ok (.iconst 0, 1) := dk_3 (dk_at dksX9_shift_1 23 rfl rfl)
theorem dX9_shift_46 : decode cX9_shift 46 = .ok (.sipush 255, 3) := dk_17 0 255 (dk_at dksX9_shift_2 0 rfl rfl)
theorem dX9_shift_49 : decode cX9_shift 49 = .ok (.invokestatic 156, 3) := dk_184 0 156 (dk_at dksX9_shift_2 3 rfl rfl)
theorem dX9_shift_52 : decode cX9_shift 52 = .ok (.ifCond .ne 9, 3) := dk_154 0 9 (dk_at dksX9_shift_2 6 rfl rfl)
theorem dX9_shift_55 : decode cX9_shift 55 = .ok (.aload_n 0, 1) := dk_42 (dk_at dksX9_shift_2 9 rfl rfl)
theorem dX9_shift_56 : decode cX9_shift 56 = .ok (.iconst (-1), 1) := dk_2 (dk_at dksX9_shift_2 10 rfl rfl)
theorem dX9_shift_57 : decode cX9_shift 57 = .ok (.invokevirtual 166, 3) := dk_182 0 166 (dk_at dksX9_shift_2 11 rfl rfl)
theorem dX9_shift_60 : decode cX9_shift 60 = .ok (.ireturn, 1) := dk_172 (dk_at dksX9_shift_2 14 rfl rfl)
theorem dX9_shift_61 : decode cX9_shift 61 = .ok (.aload_n 0, 1) := dk_42 (dk_at dksX9_shift_2 15 rfl rfl)
theorem dX9_shift_62 : decode cX9_shift 62 = .ok (.iload_n 1, 1) := dk_27 (dk_at dksX9_shift_2 16 rfl rfl)
theorem dX9_shift_63 : decode cX9_shift 63 = .ok (.iload_n 2, 1) := dk_28 (dk_at dksX9_shift_2 17 rfl rfl)
theorem dX9_shift_64 : decode cX9_shift 64 = .ok (.iload_n 3, 1) := dk_29 (dk_at dksX9_shift_2 18 rfl rfl)
theorem dX9_shift_65 : decode cX9_shift 65 = .ok (.invokevirtual 194, 3) := dk_182 0 194 (dk_at dksX9_shift_2 19 rfl rfl)
theorem dX9_shift_68 : decode cX9_shift 68 = .ok (.ifCond .lt 10, 3) := dk_155 0 10 (dk_at dksX9_shift_3 0 rfl rfl)
theorem dX9_shift_71 : decode cX9_shift 71 = .ok (.aload_n 0, 1) := dk_42 (dk_at dksX9_shift_3 3 rfl rfl)
theorem dX9_shift_72 : decode cX9_shift 72 = .ok (.bipush (-7), 2) := dk_16 249 (dk_at dksX9_shift_3 4 rfl rfl)
theorem dX9_shift_74 : decode cX9_shift 74 = .ok (.invokevirtual 166, 3) := dk_182 0 166 (dk_at dksX9_shift_3 6 rfl rfl)
theorem dX9_shift_77 : decode cX9_shift 77 = .ok (.ireturn, 1) := dk_172 (dk_at dksX9_shift_3 9 rfl rfl)
theorem dX9_shift_78 : decode cX9_shift 78 = .ok (.aload_n 0, 1) := dk_42 (dk_at dksX9_shift_3 10 rfl rfl)
theorem dX9_shift_79 : decode cX9_shift 79 = .ok (.getfield 20, 3) := dk_180 0 20 (dk_at dksX9_shift_3 11 rfl rfl)
theorem dX9_shift_82 : decode cX9_shift 82 = .ok (.iload_n 1, 1) := dk_27 (dk_at dksX9_shift_3 14 rfl rfl)
theorem dX9_shift_83 : decode cX9_shift 83 = .ok (.iaload, 1) := dk_46 (dk_at dksX9_shift_3 15 rfl rfl)
theorem dX9_shift_84 : decode cX9_shift 84 = .ok (.bipush 10, 2) := dk_16 10 (dk_at dksX9_shift_3 16 rfl rfl)
theorem dX9_shift_86 : decode cX9_shift 86 = .ok (.if_icmp .ne 10, 3) := dk_160 0 10 (dk_at dksX9_shift_3 18 rfl rfl)
theorem dX9_shift_89 : decode cX9_shift 89 = .ok (.aload_n 0, 1) := dk_42 (dk_at dksX9_shift_3 21 rfl rfl)
theorem dX9_shift_90 : decode cX9_shift 90 = .ok (.bipush (-6), 2) := dk_16 250 (dk_at dksX9_shift_3 22 rfl rfl)
theorem dX9_shift_92 : decode cX9_shift 92 = .ok (.invokevirtual 166, 3) := dk_182 0 166 (dk_at dksX9_shift_4 0 rfl rfl)
theorem dX9_shift_95 : decode cX9_shift 95 = .ok (.ireturn, 1) := dk_172 (dk_at dksX9_shift_4 3 rfl rfl)
theorem dX9_shift_96 : decode cX9_shift 96 = .ok (.bipush 10, 2) := dk_16 10 (dk_at dksX9_shift_4 4 rfl rfl)
theorem dX9_shift_98 : decode cX9_shift 98 = .ok (.iload_n 1, 1) := dk_27 (dk_at dksX9_shift_4 6 rfl rfl)
theorem dX9_shift_99 : decode cX9_shift 99 = .ok (.imul, 1) := dk_104 (dk_at dksX9_shift_4 7 rfl rfl)
theorem dX9_shift_100 : decode cX9_shift 100 = .ok (.aload_n 0, 1) := dk_42 (dk_at dksX9_shift_4 8 rfl rfl)
theorem dX9_shift_101 : decode cX9_shift 101 = .ok (.getfield 20, 3) := dk_180 0 20 (dk_at dksX9_shift_4 9 rfl rfl)
theorem dX9_shift_104 : decode cX9_shift 104 = .ok (.iload_n 1, 1) := dk_27 (dk_at dksX9_shift_4 12 rfl rfl)
theorem dX9_shift_105 : decode cX9_shift 105 = .ok (.iaload, 1) := dk_46 (dk_at dksX9_shift_4 13 rfl rfl)
theorem dX9_shift_106 : decode cX9_shift 106 = .ok (.iadd, 1) := dk_96 (dk_at dksX9_shift_4 14 rfl rfl)
theorem dX9_shift_107 : decode cX9_shift 107 = .ok (.istore 7, 2) := dk_54 7 (dk_at dksX9_shift_4 15 rfl rfl)
theorem dX9_shift_109 : decode cX9_shift 109 = .ok (.aload_n 0, 1) := dk_42 (dk_at dksX9_shift_4 17 rfl rfl)
theorem dX9_shift_110 : decode cX9_shift 110 = .ok (.getfield 38, 3) := dk_180 0 38 (dk_at dksX9_shift_4 18 rfl rfl)
theorem dX9_shift_113 : decode cX9_shift 113 = .ok (.iload 7, 2) := dk_21 7 (dk_at dksX9_shift_4 21 rfl rfl)
theorem dX9_shift_115 : decode cX9_shift 115 = .ok (.iload_n 2, 1) := dk_28 (dk_at dksX9_shift_4 23 rfl rfl)
theorem dX9_shift_116 : decode cX9_shift 116 = .ok (.iastore, 1) := dk_79 (dk_at dksX9_shift_5 0 rfl rfl)
theorem dX9_shift_117 : decode cX9_shift 117 = .ok (.aload_n 0, 1) := dk_42 (dk_at dksX9_shift_5 1 rfl rfl)
theorem dX9_shift_118 : decode cX9_shift 118 = .ok (.getfield 41, 3) := dk_180 0 41 (dk_at dksX9_shift_5 2 rfl rfl)
theorem dX9_shift_121 : decode cX9_shift 121 = .ok (.iload 7, 2) := dk_21 7 (dk_at dksX9_shift_5 5 rfl rfl)
theorem dX9_shift_123 : decode cX9_shift 123 = .ok (.iload_n 3, 1) := dk_29 (dk_at dksX9_shift_5 7 rfl rfl)
theorem dX9_shift_124 : decode cX9_shift 124 = .ok (.iastore, 1) := dk_79 (dk_at dksX9_shift_5 8 rfl rfl)
theorem dX9_shift_125 : decode cX9_shift 125 = .ok (.aload_n 0, 1) := dk_42 (dk_at dksX9_shift_5 9 rfl rfl)
theorem dX9_shift_126 : decode cX9_shift 126 = .ok (.getfield 44, 3) := dk_180 0 44 (dk_at dksX9_shift_5 10 rfl rfl)
theorem dX9_shift_129 : decode cX9_shift 129 = .ok (.iload 7, 2) := dk_21 7 (dk_at dksX9_shift_5 13 rfl rfl)
theorem dX9_shift_131 : decode cX9_shift 131 = .ok (.iload 4, 2) := dk_21 4 (dk_at dksX9_shift_5 15 rfl rfl)
theorem dX9_shift_133 : decode cX9_shift 133 = .ok (.iastore, 1) := dk_79 (dk_at dksX9_shift_5 17 rfl rfl)
theorem dX9_shift_134 : decode cX9_shift 134 = .ok (.aload_n 0, 1) := dk_42 (dk_at dksX9_shift_5 18 rfl rfl)
theorem dX9_shift_135 : decode cX9_shift 135 = .ok (.getfield 47, 3) := dk_180 0 47 (dk_at dksX9_shift_5 19 rfl rfl)
theorem dX9_shift_138 : decode cX9_shift 138 = .ok (.iload 7, 2) := dk_21 7 (dk_at dksX9_shift_5 22 rfl rfl)
theorem dX9_shift_140 : decode cX9_shift 140 = .ok (.iload 5, 2) := dk_21 5 (dk_at dksX9_shift_6 0 rfl rfl)
theorem dX9_shift_142 : decode cX9_shift 142 = .ok (.bastore, 1) := dk_84 (dk_at dksX9_shift_6 2 rfl rfl)
theorem dX9_shift_143 : decode cX9_shift 143 = .ok (.aload_n 0, 1) := dk_42 (dk_at dksX9_shift_6 3 rfl rfl)
theorem dX9_shift_144 : decode cX9_shift 144 = .ok (.getfield 20, 3) := dk_180 0 20 (dk_at dksX9_shift_6 4 rfl rfl)
theorem dX9_shift_147 : decode cX9_shift 147 = .ok (.iload_n 1, 1) := dk_27 (dk_at dksX9_shift_6 7 rfl rfl)
theorem dX9_shift_148 : decode cX9_shift 148 = .ok (.dup2, 1) := dk_92 (dk_at dksX9_shift_6 8 rfl rfl)
theorem dX9_shift_149 : decode cX9_shift 149 = .ok (.iaload, 1) := dk_46 (dk_at dksX9_shift_6 9 rfl rfl)
theorem dX9_shift_150 : decode cX9_shift 150 = .ok (.iconst 1, 1) := dk_4 (dk_at dksX9_shift_6 10 rfl rfl)
theorem dX9_shift_151 : decode cX9_shift 151 = .ok (.iadd, 1) := dk_96 (dk_at dksX9_shift_6 11 rfl rfl)
theorem dX9_shift_152 : decode cX9_shift 152 = .ok (.iastore, 1) := dk_79 (dk_at dksX9_shift_6 12 rfl rfl)
theorem dX9_shift_153 : decode cX9_shift 153 = .ok (.iconst 0, 1) := dk_3 (dk_at dksX9_shift_6 13 rfl rfl)
theorem dX9_shift_154 : decode cX9_shift 154 = .ok (.ireturn, 1) := dk_172 (dk_at dksX9_shift_6 14 rfl rfl)
abbrev cX9_shiftOf : ByteArray := prog_17_method_15_code
def yX9_shiftOf : MethodName := ⟨RX9, "shiftOf", "(III)I"⟩
def dkwX9_shiftOf_2 : List UInt8 := [132, 4, 1, 167, 255, 212, 2, 172]
abbrev dktX9_shiftOf_2 : List UInt8 := dkwX9_shiftOf_2 ++ []
def dkwX9_shiftOf_1 : List UInt8 := [180, 0, 38, 21, 4, 46, 28, 160, 0, 17, 42, 180, 0, 41, 21, 4, 46, 29, 160, 0, 6, 21, 4, 172]
abbrev dktX9_shiftOf_1 : List UInt8 := dkwX9_shiftOf_1 ++ dktX9_shiftOf_2
def dkwX9_shiftOf_0 : List UInt8 := [16, 10, 27, 104, 54, 4, 21, 4, 16, 10, 27, 104, 42, 180, 0, 20, 27, 46, 96, 162, 0, 34, 42]
abbrev dktX9_shiftOf_0 : List UInt8 := dkwX9_shiftOf_0 ++ dktX9_shiftOf_1
theorem dksX9_shiftOf_0 : cX9_shiftOf.data.toList.drop 0 = dktX9_shiftOf_0 := by decide +kernel
theorem dksX9_shiftOf_1 : cX9_shiftOf.data.toList.drop 23 = dktX9_shiftOf_1 := dk_seg dksX9_shiftOf_0 23 rfl rfl
theorem dksX9_shiftOf_2 : cX9_shiftOf.data.toList.drop 47 = dktX9_shiftOf_2 := dk_seg dksX9_shiftOf_1 24 rfl rfl
theorem dX9_shiftOf_0 : decode cX9_shiftOf 0 = .ok (.bipush 10, 2) := dk_16 10 (dk_at dksX9_shiftOf_0 0 rfl rfl)
theorem dX9_shiftOf_2 : decode cX9_shiftOf 2 = .ok (.iload_n 1, 1) := dk_27 (dk_at dksX9_shiftOf_0 2 rfl rfl)
theorem dX9_shiftOf_3 : decode cX9_shiftOf 3 = .ok (.imul, 1) := dk_104 (dk_at dksX9_shiftOf_0 3 rfl rfl)
theorem dX9_shiftOf_4 : decode cX9_shiftOf 4 = .ok (.istore 4, 2) := dk_54 4 (dk_at dksX9_shiftOf_0 4 rfl rfl)
theorem dX9_shiftOf_6 : decode cX9_shiftOf 6 = .ok (.iload 4, 2) := dk_21 4 (dk_at dksX9_shiftOf_0 6 rfl rfl)
theorem dX9_shiftOf_8 : decode cX9_shiftOf 8 = .ok (.bipush 10, 2) := dk_16 10 (dk_at dksX9_shiftOf_0 8 rfl rfl)
theorem dX9_shiftOf_10 : decode cX9_shiftOf 10 = .ok (.iload_n 1, 1) := dk_27 (dk_at dksX9_shiftOf_0 10 rfl rfl)
theorem dX9_shiftOf_11 : decode cX9_shiftOf 11 = .ok (.imul, 1) := dk_104 (dk_at dksX9_shiftOf_0 11 rfl rfl)
theorem dX9_shiftOf_12 : decode cX9_shiftOf 12 = .ok (.aload_n 0, 1) := dk_42 (dk_at dksX9_shiftOf_0 12 rfl rfl)
theorem dX9_shiftOf_13 : decode cX9_shiftOf 13 = .ok (.getfield 20, 3) := dk_180 0 20 (dk_at dksX9_shiftOf_0 13 rfl rfl)
theorem dX9_shiftOf_16 : decode cX9_shiftOf 16 = .ok (.iload_n 1, 1) := dk_27 (dk_at dksX9_shiftOf_0 16 rfl rfl)
theorem dX9_shiftOf_17 : decode cX9_shiftOf 17 = .ok (.iaload, 1) := dk_46 (dk_at dksX9_shiftOf_0 17 rfl rfl)
theorem dX9_shiftOf_18 : decode cX9_shiftOf 18 = .ok (.iadd, 1) := dk_96 (dk_at dksX9_shiftOf_0 18 rfl rfl)
theorem dX9_shiftOf_19 : decode cX9_shiftOf 19 = .ok (.if_icmp .ge 34, 3) := dk_162 0 34 (dk_at dksX9_shiftOf_0 19 rfl rfl)
theorem dX9_shiftOf_22 : decode cX9_shiftOf 22 = .ok (.aload_n 0, 1) := dk_42 (dk_at dksX9_shiftOf_0 22 rfl rfl)
theorem dX9_shiftOf_23 : decode cX9_shiftOf 23 = .ok (.getfield 38, 3) := dk_180 0 38 (dk_at dksX9_shiftOf_1 0 rfl rfl)
theorem dX9_shiftOf_26 : decode cX9_shiftOf 26 = .ok (.iload 4, 2) := dk_21 4 (dk_at dksX9_shiftOf_1 3 rfl rfl)
theorem dX9_shiftOf_28 : decode cX9_shiftOf 28 = .ok (.iaload, 1) := dk_46 (dk_at dksX9_shiftOf_1 5 rfl rfl)
theorem dX9_shiftOf_29 : decode cX9_shiftOf 29 = .ok (.iload_n 2, 1) := dk_28 (dk_at dksX9_shiftOf_1 6 rfl rfl)
theorem dX9_shiftOf_30 : decode cX9_shiftOf 30 = .ok (.if_icmp .ne 17, 3) := dk_160 0 17 (dk_at dksX9_shiftOf_1 7 rfl rfl)
theorem dX9_shiftOf_33 : decode cX9_shiftOf 33 = .ok (.aload_n 0, 1) := dk_42 (dk_at dksX9_shiftOf_1 10 rfl rfl)
theorem dX9_shiftOf_34 : decode cX9_shiftOf 34 = .ok (.getfield 41, 3) := dk_180 0 41 (dk_at dksX9_shiftOf_1 11 rfl rfl)
theorem dX9_shiftOf_37 : decode cX9_shiftOf 37 = .ok (.iload 4, 2) := dk_21 4 (dk_at dksX9_shiftOf_1 14 rfl rfl)
theorem dX9_shiftOf_39 : decode cX9_shiftOf 39 = .ok (.iaload, 1) := dk_46 (dk_at dksX9_shiftOf_1 16 rfl rfl)
theorem dX9_shiftOf_40 : decode cX9_shiftOf 40 = .ok (.iload_n 3, 1) := dk_29 (dk_at dksX9_shiftOf_1 17 rfl rfl)
theorem dX9_shiftOf_41 : decode cX9_shiftOf 41 = .ok (.if_icmp .ne 6, 3) := dk_160 0 6 (dk_at dksX9_shiftOf_1 18 rfl rfl)
theorem dX9_shiftOf_44 : decode cX9_shiftOf 44 = .ok (.iload 4, 2) := dk_21 4 (dk_at dksX9_shiftOf_1 21 rfl rfl)
theorem dX9_shiftOf_46 : decode cX9_shiftOf 46 = .ok (.ireturn, 1) := dk_172 (dk_at dksX9_shiftOf_1 23 rfl rfl)
theorem dX9_shiftOf_47 : decode cX9_shiftOf 47 = .ok (.iinc 4 1, 3) := dk_132 4 1 (dk_at dksX9_shiftOf_2 0 rfl rfl)
theorem dX9_shiftOf_50 : decode cX9_shiftOf 50 = .ok (.goto (-44), 3) := dk_167 255 212 (dk_at dksX9_shiftOf_2 3 rfl rfl)
theorem dX9_shiftOf_53 : decode cX9_shiftOf 53 = .ok (.iconst (-1), 1) := dk_2 (dk_at dksX9_shiftOf_2 6 rfl rfl)
theorem dX9_shiftOf_54 : decode cX9_shiftOf 54 = .ok (.ireturn, 1) := dk_172 (dk_at dksX9_shiftOf_2 7 rfl rfl)
abbrev cX9_drop : ByteArray := prog_17_method_18_code
def yX9_drop : MethodName := ⟨RX9, "drop", "(IIII)I"⟩
def dkwX9_drop_7 : List UInt8 := [132, 6, 1, 167, 255, 227, 4, 172]
abbrev dktX9_drop_7 : List UInt8 := dkwX9_drop_7 ++ []
def dkwX9_drop_6 : List UInt8 := [16, 10, 27, 104, 42, 180, 0, 20, 27, 46, 96, 162, 0, 19, 42, 21, 6, 4, 96, 21, 6, 182, 0, 178]
abbrev dktX9_drop_6 : List UInt8 := dkwX9_drop_6 ++ dktX9_drop_7
def dkwX9_drop_5 : List UInt8 := [21, 6, 156, 0, 10, 42, 16, 254, 182, 0, 166, 172, 42, 180, 0, 20, 27, 92, 46, 4, 100, 79, 21, 6]
abbrev dktX9_drop_5 : List UInt8 := dkwX9_drop_5 ++ dktX9_drop_6
def dkwX9_drop_4 : List UInt8 := [167, 255, 227, 3, 172, 21, 4, 4, 160, 0, 13, 42, 27, 28, 29, 182, 0, 194, 167, 0, 4, 2, 54, 6]
abbrev dktX9_drop_4 : List UInt8 := dkwX9_drop_4 ++ dktX9_drop_5
def dkwX9_drop_3 : List UInt8 := [180, 0, 17, 27, 46, 96, 162, 0, 19, 42, 21, 6, 4, 96, 21, 6, 182, 0, 174, 132, 6, 1]
abbrev dktX9_drop_3 : List UInt8 := dkwX9_drop_3 ++ dktX9_drop_4
def dkwX9_drop_2 : List UInt8 := [21, 6, 155, 0, 47, 42, 180, 0, 17, 27, 92, 46, 4, 100, 79, 21, 6, 16, 100, 27, 104, 42]
abbrev dktX9_drop_2 : List UInt8 := dkwX9_drop_2 ++ dktX9_drop_3
def dkwX9_drop_1 : List UInt8 := [184, 0, 184, 154, 0, 9, 42, 2, 182, 0, 166, 172, 42, 27, 28, 29, 21, 4, 182, 0, 190, 54, 6]
abbrev dktX9_drop_1 : List UInt8 := dkwX9_drop_1 ++ dktX9_drop_2
def dkwX9_drop_0 : List UInt8 := [42, 27, 182, 0, 181, 54, 5, 21, 5, 153, 0, 10, 42, 21, 5, 182, 0, 166, 172, 28, 29, 21, 4]
abbrev dktX9_drop_0 : List UInt8 := dkwX9_drop_0 ++ dktX9_drop_1
theorem dksX9_drop_0 : cX9_drop.data.toList.drop 0 = dktX9_drop_0 := by decide +kernel
theorem dksX9_drop_1 : cX9_drop.data.toList.drop 23 = dktX9_drop_1 := dk_seg dksX9_drop_0 23 rfl rfl
theorem dksX9_drop_2 : cX9_drop.data.toList.drop 46 = dktX9_drop_2 := dk_seg dksX9_drop_1 23 rfl rfl
theorem dksX9_drop_3 : cX9_drop.data.toList.drop 68 = dktX9_drop_3 := dk_seg dksX9_drop_2 22 rfl rfl
theorem dksX9_drop_4 : cX9_drop.data.toList.drop 90 = dktX9_drop_4 := dk_seg dksX9_drop_3 22 rfl rfl
theorem dksX9_drop_5 : cX9_drop.data.toList.drop 114 = dktX9_drop_5 := dk_seg dksX9_drop_4 24 rfl rfl
theorem dksX9_drop_6 : cX9_drop.data.toList.drop 138 = dktX9_drop_6 := dk_seg dksX9_drop_5 24 rfl rfl
theorem dksX9_drop_7 : cX9_drop.data.toList.drop 162 = dktX9_drop_7 := dk_seg dksX9_drop_6 24 rfl rfl
theorem dX9_drop_0 : decode cX9_drop 0 = .ok (.aload_n 0, 1) := dk_42 (dk_at dksX9_drop_0 0 rfl rfl)
theorem dX9_drop_1 : decode cX9_drop 1 = .ok (.iload_n 1, 1) := dk_27 (dk_at dksX9_drop_0 1 rfl rfl)
theorem dX9_drop_2 : decode cX9_drop 2 = .ok (.invokevirtual 181, 3) := dk_182 0 181 (dk_at dksX9_drop_0 2 rfl rfl)
theorem dX9_drop_5 : decode cX9_drop 5 = .ok (.istore 5, 2) := dk_54 5 (dk_at dksX9_drop_0 5 rfl rfl)
theorem dX9_drop_7 : decode cX9_drop 7 = .ok (.iload 5, 2) := dk_21 5 (dk_at dksX9_drop_0 7 rfl rfl)
theorem dX9_drop_9 : decode cX9_drop 9 = .ok (.ifCond .eq 10, 3) := dk_153 0 10 (dk_at dksX9_drop_0 9 rfl rfl)
theorem dX9_drop_12 : decode cX9_drop 12 = .ok (.aload_n 0, 1) := dk_42 (dk_at dksX9_drop_0 12 rfl rfl)
theorem dX9_drop_13 : decode cX9_drop 13 = .ok (.iload 5, 2) := dk_21 5 (dk_at dksX9_drop_0 13 rfl rfl)
theorem dX9_drop_15 : decode cX9_drop 15 = .ok (.invokevirtual 166, 3) := dk_182 0 166 (dk_at dksX9_drop_0 15 rfl rfl)
theorem dX9_drop_18 : decode cX9_drop 18 = .ok (.ireturn, 1) := dk_172 (dk_at dksX9_drop_0 18 rfl rfl)
theorem dX9_drop_19 : decode cX9_drop 19 = .ok (.iload_n 2, 1) := dk_28 (dk_at dksX9_drop_0 19 rfl rfl)
theorem dX9_drop_20 : decode cX9_drop 20 = .ok (.iload_n 3, 1) := dk_29 (dk_at dksX9_drop_0 20 rfl rfl)
theorem dX9_drop_21 : decode cX9_drop 21 = .ok (.iload 4, 2) := dk_21 4 (dk_at dksX9_drop_0 21 rfl rfl)
theorem dX9_drop_23 : decode cX9_drop 23 = .ok (.invokestatic 184, 3) := dk_184 0 184 (dk_at dksX9_drop_1 0 rfl rfl)
theorem dX9_drop_26 : decode cX9_drop 26 = .ok (.ifCond .ne 9, 3) := dk_154 0 9 (dk_at dksX9_drop_1 3 rfl rfl)
theorem dX9_drop_29 : decode cX9_drop 29 = .ok (.aload_n 0, 1) := dk_42 (dk_at dksX9_drop_1 6 rfl rfl)
theorem dX9_drop_30 : decode cX9_drop 30 = .ok (.iconst (-1), 1) := dk_2 (dk_at dksX9_drop_1 7 rfl rfl)
theorem dX9_drop_31 : decode cX9_drop 31 = .ok (.invokevirtual 166, 3) := dk_182 0 166 (dk_at dksX9_drop_1 8 rfl rfl)
theorem dX9_drop_34 : decode cX9_drop 34 = .ok (.ireturn, 1) := dk_172 (dk_at dksX9_drop_1 11 rfl rfl)
theorem dX9_drop_35 : decode cX9_drop 35 = .ok (.aload_n 0, 1) := dk_42 (dk_at dksX9_drop_1 12 rfl rfl)
theorem dX9_drop_36 : decode cX9_drop 36 = .ok (.iload_n 1, 1) := dk_27 (dk_at dksX9_drop_1 13 rfl rfl)
theorem dX9_drop_37 : decode cX9_drop 37 = .ok (.iload_n 2, 1) := dk_28 (dk_at dksX9_drop_1 14 rfl rfl)
theorem dX9_drop_38 : decode cX9_drop 38 = .ok (.iload_n 3, 1) := dk_29 (dk_at dksX9_drop_1 15 rfl rfl)
theorem dX9_drop_39 : decode cX9_drop 39 = .ok (.iload 4, 2) := dk_21 4 (dk_at dksX9_drop_1 16 rfl rfl)
theorem dX9_drop_41 : decode cX9_drop 41 = .ok (.invokevirtual 190, 3) := dk_182 0 190 (dk_at dksX9_drop_1 18 rfl rfl)
theorem dX9_drop_44 : decode cX9_drop 44 = .ok (.istore 6, 2) := dk_54 6 (dk_at dksX9_drop_1 21 rfl rfl)
theorem dX9_drop_46 : decode cX9_drop 46 = .ok (.iload 6, 2) := dk_21 6 (dk_at dksX9_drop_2 0 rfl rfl)
theorem dX9_drop_48 : decode cX9_drop 48 = .ok (.ifCond .lt 47, 3) := dk_155 0 47 (dk_at dksX9_drop_2 2 rfl rfl)
theorem dX9_drop_51 : decode cX9_drop 51 = .ok (.aload_n 0, 1) := dk_42 (dk_at dksX9_drop_2 5 rfl rfl)
theorem dX9_drop_52 : decode cX9_drop 52 = .ok (.getfield 17, 3) := dk_180 0 17 (dk_at dksX9_drop_2 6 rfl rfl)
theorem dX9_drop_55 : decode cX9_drop 55 = .ok (.iload_n 1, 1) := dk_27 (dk_at dksX9_drop_2 9 rfl rfl)
theorem dX9_drop_56 : decode cX9_drop 56 = .ok (.dup2, 1) := dk_92 (dk_at dksX9_drop_2 10 rfl rfl)
theorem dX9_drop_57 : decode cX9_drop 57 = .ok (.iaload, 1) := dk_46 (dk_at dksX9_drop_2 11 rfl rfl)
theorem dX9_drop_58 : decode cX9_drop 58 = .ok (.iconst 1, 1) := dk_4 (dk_at dksX9_drop_2 12 rfl rfl)
theorem dX9_drop_59 : decode cX9_drop 59 = .ok (.isub, 1) := dk_100 (dk_at dksX9_drop_2 13 rfl rfl)
theorem dX9_drop_60 : decode cX9_drop 60 = .ok (.iastore, 1) := dk_79 (dk_at dksX9_drop_2 14 rfl rfl)
theorem dX9_drop_61 : decode cX9_drop 61 = .ok (.iload 6, 2) := dk_21 6 (dk_at dksX9_drop_2 15 rfl rfl)
theorem dX9_drop_63 : decode cX9_drop 63 = .ok (.bipush 100, 2) := dk_16 100 (dk_at dksX9_drop_2 17 rfl rfl)
theorem dX9_drop_65 : decode cX9_drop 65 = .ok (.iload_n 1, 1) := dk_27 (dk_at dksX9_drop_2 19 rfl rfl)
theorem dX9_drop_66 : decode cX9_drop 66 = .ok (.imul, 1) := dk_104 (dk_at dksX9_drop_2 20 rfl rfl)
theorem dX9_drop_67 : decode cX9_drop 67 = .ok (.aload_n 0, 1) := dk_42 (dk_at dksX9_drop_2 21 rfl rfl)
theorem dX9_drop_68 : decode cX9_drop 68 = .ok (.getfield 17, 3) := dk_180 0 17 (dk_at dksX9_drop_3 0 rfl rfl)
theorem dX9_drop_71 : decode cX9_drop 71 = .ok (.iload_n 1, 1) := dk_27 (dk_at dksX9_drop_3 3 rfl rfl)
theorem dX9_drop_72 : decode cX9_drop 72 = .ok (.iaload, 1) := dk_46 (dk_at dksX9_drop_3 4 rfl rfl)
theorem dX9_drop_73 : decode cX9_drop 73 = .ok (.iadd, 1) := dk_96 (dk_at dksX9_drop_3 5 rfl rfl)
theorem dX9_drop_74 : decode cX9_drop 74 = .ok (.if_icmp .ge 19, 3) := dk_162 0 19 (dk_at dksX9_drop_3 6 rfl rfl)
theorem dX9_drop_77 : decode cX9_drop 77 = .ok (.aload_n 0, 1) := dk_42 (dk_at dksX9_drop_3 9 rfl rfl)
theorem dX9_drop_78 : decode cX9_drop 78 = .ok (.iload 6, 2) := dk_21 6 (dk_at dksX9_drop_3 10 rfl rfl)
theorem dX9_drop_80 : decode cX9_drop 80 = .ok (.iconst 1, 1) := dk_4 (dk_at dksX9_drop_3 12 rfl rfl)
theorem dX9_drop_81 : decode cX9_drop 81 = .ok (.iadd, 1) := dk_96 (dk_at dksX9_drop_3 13 rfl rfl)
theorem dX9_drop_82 : decode cX9_drop 82 = .ok (.iload 6, 2) := dk_21 6 (dk_at dksX9_drop_3 14 rfl rfl)
theorem dX9_drop_84 : decode cX9_drop 84 = .ok (.invokevirtual 174, 3) := dk_182 0 174 (dk_at dksX9_drop_3 16 rfl rfl)
theorem dX9_drop_87 : decode cX9_drop 87 = .ok (.iinc 6 1, 3) := dk_132 6 1 (dk_at dksX9_drop_3 19 rfl rfl)
theorem dX9_drop_90 : decode cX9_drop 90 = .ok (.goto (-29), 3) := dk_167 255 227 (dk_at dksX9_drop_4 0 rfl rfl)
theorem dX9_drop_93 : decode cX9_drop 93 = .ok (.iconst 0, 1) := dk_3 (dk_at dksX9_drop_4 3 rfl rfl)
theorem dX9_drop_94 : decode cX9_drop 94 = .ok (.ireturn, 1) := dk_172 (dk_at dksX9_drop_4 4 rfl rfl)
theorem dX9_drop_95 : decode cX9_drop 95 = .ok (.iload 4, 2) := dk_21 4 (dk_at dksX9_drop_4 5 rfl rfl)
theorem dX9_drop_97 : decode cX9_drop 97 = .ok (.iconst 1, 1) := dk_4 (dk_at dksX9_drop_4 7 rfl rfl)
theorem dX9_drop_98 : decode cX9_drop 98 = .ok (.if_icmp .ne 13, 3) := dk_160 0 13 (dk_at dksX9_drop_4 8 rfl rfl)
theorem dX9_drop_101 : decode cX9_drop 101 = .ok (.aload_n 0, 1) := dk_42 (dk_at dksX9_drop_4 11 rfl rfl)
theorem dX9_drop_102 : decode cX9_drop 102 = .ok (.iload_n 1, 1) := dk_27 (dk_at dksX9_drop_4 12 rfl rfl)
theorem dX9_drop_103 : decode cX9_drop 103 = .ok (.iload_n 2, 1) := dk_28 (dk_at dksX9_drop_4 13 rfl rfl)
theorem dX9_drop_104 : decode cX9_drop 104 = .ok (.iload_n 3, 1) := dk_29 (dk_at dksX9_drop_4 14 rfl rfl)
theorem dX9_drop_105 : decode cX9_drop 105 = .ok (.invokevirtual 194, 3) := dk_182 0 194 (dk_at dksX9_drop_4 15 rfl rfl)
theorem dX9_drop_108 : decode cX9_drop 108 = .ok (.goto 4, 3) := dk_167 0 4 (dk_at dksX9_drop_4 18 rfl rfl)
theorem dX9_drop_111 : decode cX9_drop 111 = .ok (.iconst (-1), 1) := dk_2 (dk_at dksX9_drop_4 21 rfl rfl)
theorem dX9_drop_112 : decode cX9_drop 112 = .ok (.istore 6, 2) := dk_54 6 (dk_at dksX9_drop_4 22 rfl rfl)
theorem dX9_drop_114 : decode cX9_drop 114 = .ok (.iload 6, 2) := dk_21 6 (dk_at dksX9_drop_5 0 rfl rfl)
theorem dX9_drop_116 : decode cX9_drop 116 = .ok (.ifCond .ge 10, 3) := dk_156 0 10 (dk_at dksX9_drop_5 2 rfl rfl)
theorem dX9_drop_119 : decode cX9_drop 119 = .ok (.aload_n 0, 1) := dk_42 (dk_at dksX9_drop_5 5 rfl rfl)
theorem dX9_drop_120 : decode cX9_drop 120 = .ok (.bipush (-2), 2) := dk_16 254 (dk_at dksX9_drop_5 6 rfl rfl)
theorem dX9_drop_122 : decode cX9_drop 122 = .ok (.invokevirtual 166, 3) := dk_182 0 166 (dk_at dksX9_drop_5 8 rfl rfl)
theorem dX9_drop_125 : decode cX9_drop 125 = .ok (.ireturn, 1) := dk_172 (dk_at dksX9_drop_5 11 rfl rfl)
theorem dX9_drop_126 : decode cX9_drop 126 = .ok (.aload_n 0, 1) := dk_42 (dk_at dksX9_drop_5 12 rfl rfl)
theorem dX9_drop_127 : decode cX9_drop 127 = .ok (.getfield 20, 3) := dk_180 0 20 (dk_at dksX9_drop_5 13 rfl rfl)
theorem dX9_drop_130 : decode cX9_drop 130 = .ok (.iload_n 1, 1) := dk_27 (dk_at dksX9_drop_5 16 rfl rfl)
theorem dX9_drop_131 : decode cX9_drop 131 = .ok (.dup2, 1) := dk_92 (dk_at dksX9_drop_5 17 rfl rfl)
theorem dX9_drop_132 : decode cX9_drop 132 = .ok (.iaload, 1) := dk_46 (dk_at dksX9_drop_5 18 rfl rfl)
theorem dX9_drop_133 : decode cX9_drop 133 = .ok (.iconst 1, 1) := dk_4 (dk_at dksX9_drop_5 19 rfl rfl)
theorem dX9_drop_134 : decode cX9_drop 134 = .ok (.isub, 1) := dk_100 (dk_at dksX9_drop_5 20 rfl rfl)
theorem dX9_drop_135 : decode cX9_drop 135 = .ok (.iastore, 1) := dk_79 (dk_at dksX9_drop_5 21 rfl rfl)
theorem dX9_drop_136 : decode cX9_drop 136 = .ok (.iload 6, 2) := dk_21 6 (dk_at dksX9_drop_5 22 rfl rfl)
theorem dX9_drop_138 : decode cX9_drop 138 = .ok (.bipush 10, 2) := dk_16 10 (dk_at dksX9_drop_6 0 rfl rfl)
theorem dX9_drop_140 : decode cX9_drop 140 = .ok (.iload_n 1, 1) := dk_27 (dk_at dksX9_drop_6 2 rfl rfl)
theorem dX9_drop_141 : decode cX9_drop 141 = .ok (.imul, 1) := dk_104 (dk_at dksX9_drop_6 3 rfl rfl)
theorem dX9_drop_142 : decode cX9_drop 142 = .ok (.aload_n 0, 1) := dk_42 (dk_at dksX9_drop_6 4 rfl rfl)
theorem dX9_drop_143 : decode cX9_drop 143 = .ok (.getfield 20, 3) := dk_180 0 20 (dk_at dksX9_drop_6 5 rfl rfl)
theorem dX9_drop_146 : decode cX9_drop 146 = .ok (.iload_n 1, 1) := dk_27 (dk_at dksX9_drop_6 8 rfl rfl)
theorem dX9_drop_147 : decode cX9_drop 147 = .ok (.iaload, 1) := dk_46 (dk_at dksX9_drop_6 9 rfl rfl)
theorem dX9_drop_148 : decode cX9_drop 148 = .ok (.iadd, 1) := dk_96 (dk_at dksX9_drop_6 10 rfl rfl)
theorem dX9_drop_149 : decode cX9_drop 149 = .ok (.if_icmp .ge 19, 3) := dk_162 0 19 (dk_at dksX9_drop_6 11 rfl rfl)
theorem dX9_drop_152 : decode cX9_drop 152 = .ok (.aload_n 0, 1) := dk_42 (dk_at dksX9_drop_6 14 rfl rfl)
theorem dX9_drop_153 : decode cX9_drop 153 = .ok (.iload 6, 2) := dk_21 6 (dk_at dksX9_drop_6 15 rfl rfl)
theorem dX9_drop_155 : decode cX9_drop 155 = .ok (.iconst 1, 1) := dk_4 (dk_at dksX9_drop_6 17 rfl rfl)
theorem dX9_drop_156 : decode cX9_drop 156 = .ok (.iadd, 1) := dk_96 (dk_at dksX9_drop_6 18 rfl rfl)
theorem dX9_drop_157 : decode cX9_drop 157 = .ok (.iload 6, 2) := dk_21 6 (dk_at dksX9_drop_6 19 rfl rfl)
theorem dX9_drop_159 : decode cX9_drop 159 = .ok (.invokevirtual 178, 3) := dk_182 0 178 (dk_at dksX9_drop_6 21 rfl rfl)
theorem dX9_drop_162 : decode cX9_drop 162 = .ok (.iinc 6 1, 3) := dk_132 6 1 (dk_at dksX9_drop_7 0 rfl rfl)
theorem dX9_drop_165 : decode cX9_drop 165 = .ok (.goto (-29), 3) := dk_167 255 227 (dk_at dksX9_drop_7 3 rfl rfl)
theorem dX9_drop_168 : decode cX9_drop 168 = .ok (.iconst 1, 1) := dk_4 (dk_at dksX9_drop_7 6 rfl rfl)
theorem dX9_drop_169 : decode cX9_drop 169 = .ok (.ireturn, 1) := dk_172 (dk_at dksX9_drop_7 7 rfl rfl)
abbrev cX9_close : ByteArray := prog_17_method_28_code
def yX9_close : MethodName := ⟨RX9, "close", "(I)I"⟩
def dkwX9_close_2 : List UInt8 := [180, 0, 78, 29, 46, 79, 132, 3, 1, 167, 255, 236, 42, 16, 248, 182, 0, 166, 172]
abbrev dktX9_close_2 : List UInt8 := dkwX9_close_2 ++ []
def dkwX9_close_1 : List UInt8 := [42, 180, 0, 13, 27, 4, 84, 3, 172, 3, 62, 29, 6, 162, 0, 21, 42, 180, 0, 63, 29, 42]
abbrev dktX9_close_1 : List UInt8 := dkwX9_close_1 ++ dktX9_close_2
def dkwX9_close_0 : List UInt8 := [42, 27, 182, 0, 181, 61, 28, 153, 0, 9, 42, 28, 182, 0, 166, 172, 42, 27, 182, 0, 225, 153, 0, 12]
abbrev dktX9_close_0 : List UInt8 := dkwX9_close_0 ++ dktX9_close_1
theorem dksX9_close_0 : cX9_close.data.toList.drop 0 = dktX9_close_0 := by decide +kernel
theorem dksX9_close_1 : cX9_close.data.toList.drop 24 = dktX9_close_1 := dk_seg dksX9_close_0 24 rfl rfl
theorem dksX9_close_2 : cX9_close.data.toList.drop 46 = dktX9_close_2 := dk_seg dksX9_close_1 22 rfl rfl
theorem dX9_close_0 : decode cX9_close 0 = .ok (.aload_n 0, 1) := dk_42 (dk_at dksX9_close_0 0 rfl rfl)
theorem dX9_close_1 : decode cX9_close 1 = .ok (.iload_n 1, 1) := dk_27 (dk_at dksX9_close_0 1 rfl rfl)
theorem dX9_close_2 : decode cX9_close 2 = .ok (.invokevirtual 181, 3) := dk_182 0 181 (dk_at dksX9_close_0 2 rfl rfl)
theorem dX9_close_5 : decode cX9_close 5 = .ok (.istore_n 2, 1) := dk_61 (dk_at dksX9_close_0 5 rfl rfl)
theorem dX9_close_6 : decode cX9_close 6 = .ok (.iload_n 2, 1) := dk_28 (dk_at dksX9_close_0 6 rfl rfl)
theorem dX9_close_7 : decode cX9_close 7 = .ok (.ifCond .eq 9, 3) := dk_153 0 9 (dk_at dksX9_close_0 7 rfl rfl)
theorem dX9_close_10 : decode cX9_close 10 = .ok (.aload_n 0, 1) := dk_42 (dk_at dksX9_close_0 10 rfl rfl)
theorem dX9_close_11 : decode cX9_close 11 = .ok (.iload_n 2, 1) := dk_28 (dk_at dksX9_close_0 11 rfl rfl)
theorem dX9_close_12 : decode cX9_close 12 = .ok (.invokevirtual 166, 3) := dk_182 0 166 (dk_at dksX9_close_0 12 rfl rfl)
theorem dX9_close_15 : decode cX9_close 15 = .ok (.ireturn, 1) := dk_172 (dk_at dksX9_close_0 15 rfl rfl)
theorem dX9_close_16 : decode cX9_close 16 = .ok (.aload_n 0, 1) := dk_42 (dk_at dksX9_close_0 16 rfl rfl)
theorem dX9_close_17 : decode cX9_close 17 = .ok (.iload_n 1, 1) := dk_27 (dk_at dksX9_close_0 17 rfl rfl)
theorem dX9_close_18 : decode cX9_close 18 = .ok (.invokevirtual 225, 3) := dk_182 0 225 (dk_at dksX9_close_0 18 rfl rfl)
theorem dX9_close_21 : decode cX9_close 21 = .ok (.ifCond .eq 12, 3) := dk_153 0 12 (dk_at dksX9_close_0 21 rfl rfl)
theorem dX9_close_24 : decode cX9_close 24 = .ok (.aload_n 0, 1) := dk_42 (dk_at dksX9_close_1 0 rfl rfl)
theorem dX9_close_25 : decode cX9_close 25 = .ok (.getfield 13, 3) := dk_180 0 13 (dk_at dksX9_close_1 1 rfl rfl)
theorem dX9_close_28 : decode cX9_close 28 = .ok (.iload_n 1, 1) := dk_27 (dk_at dksX9_close_1 4 rfl rfl)
theorem dX9_close_29 : decode cX9_close 29 = .ok (.iconst 1, 1) := dk_4 (dk_at dksX9_close_1 5 rfl rfl)
theorem dX9_close_30 : decode cX9_close 30 = .ok (.bastore, 1) := dk_84 (dk_at dksX9_close_1 6 rfl rfl)
theorem dX9_close_31 : decode cX9_close 31 = .ok (.iconst 0, 1) := dk_3 (dk_at dksX9_close_1 7 rfl rfl)
theorem dX9_close_32 : decode cX9_close 32 = .ok (.ireturn, 1) := dk_172 (dk_at dksX9_close_1 8 rfl rfl)
theorem dX9_close_33 : decode cX9_close 33 = .ok (.iconst 0, 1) := dk_3 (dk_at dksX9_close_1 9 rfl rfl)
theorem dX9_close_34 : decode cX9_close 34 = .ok (.istore_n 3, 1) := dk_62 (dk_at dksX9_close_1 10 rfl rfl)
theorem dX9_close_35 : decode cX9_close 35 = .ok (.iload_n 3, 1) := dk_29 (dk_at dksX9_close_1 11 rfl rfl)
theorem dX9_close_36 : decode cX9_close 36 = .ok (.iconst 3, 1) := dk_6 (dk_at dksX9_close_1 12 rfl rfl)
theorem dX9_close_37 : decode cX9_close 37 = .ok (.if_icmp .ge 21, 3) := dk_162 0 21 (dk_at dksX9_close_1 13 rfl rfl)
theorem dX9_close_40 : decode cX9_close 40 = .ok (.aload_n 0, 1) := dk_42 (dk_at dksX9_close_1 16 rfl rfl)
theorem dX9_close_41 : decode cX9_close 41 = .ok (.getfield 63, 3) := dk_180 0 63 (dk_at dksX9_close_1 17 rfl rfl)
theorem dX9_close_44 : decode cX9_close 44 = .ok (.iload_n 3, 1) := dk_29 (dk_at dksX9_close_1 20 rfl rfl)
theorem dX9_close_45 : decode cX9_close 45 = .ok (.aload_n 0, 1) := dk_42 (dk_at dksX9_close_1 21 rfl rfl)
theorem dX9_close_46 : decode cX9_close 46 = .ok (.getfield 78, 3) := dk_180 0 78 (dk_at dksX9_close_2 0 rfl rfl)
theorem dX9_close_49 : decode cX9_close 49 = .ok (.iload_n 3, 1) := dk_29 (dk_at dksX9_close_2 3 rfl rfl)
theorem dX9_close_50 : decode cX9_close 50 = .ok (.iaload, 1) := dk_46 (dk_at dksX9_close_2 4 rfl rfl)
theorem dX9_close_51 : decode cX9_close 51 = .ok (.iastore, 1) := dk_79 (dk_at dksX9_close_2 5 rfl rfl)
theorem dX9_close_52 : decode cX9_close 52 = .ok (.iinc 3 1, 3) := dk_132 3 1 (dk_at dksX9_close_2 6 rfl rfl)
theorem dX9_close_55 : decode cX9_close 55 = .ok (.goto (-20), 3) := dk_167 255 236 (dk_at dksX9_close_2 9 rfl rfl)
theorem dX9_close_58 : decode cX9_close 58 = .ok (.aload_n 0, 1) := dk_42 (dk_at dksX9_close_2 12 rfl rfl)
theorem dX9_close_59 : decode cX9_close 59 = .ok (.bipush (-8), 2) := dk_16 248 (dk_at dksX9_close_2 13 rfl rfl)
theorem dX9_close_61 : decode cX9_close 61 = .ok (.invokevirtual 166, 3) := dk_182 0 166 (dk_at dksX9_close_2 15 rfl rfl)
theorem dX9_close_64 : decode cX9_close 64 = .ok (.ireturn, 1) := dk_172 (dk_at dksX9_close_2 18 rfl rfl)
abbrev cX9_isGood : ByteArray := prog_17_method_27_code
def yX9_isGood : MethodName := ⟨RX9, "isGood", "(I)Z"⟩
def dkwX9_isGood_18 : List UInt8 := [21, 4, 3, 182, 0, 214, 172, 132, 4, 1, 167, 255, 106, 4, 172]
abbrev dktX9_isGood_18 : List UInt8 := dkwX9_isGood_18 ++ []
def dkwX9_isGood_17 : List UInt8 := [160, 0, 7, 4, 167, 0, 4, 3, 54, 6, 132, 7, 1, 167, 255, 183, 21, 6, 154, 0, 12, 42, 7]
abbrev dktX9_isGood_17 : List UInt8 := dkwX9_isGood_17 ++ dktX9_isGood_18
def dkwX9_isGood_16 : List UInt8 := [180, 0, 38, 21, 7, 46, 51, 153, 0, 24, 42, 180, 0, 44, 21, 7, 46, 42, 180, 0, 23, 21, 5, 46]
abbrev dktX9_isGood_16 : List UInt8 := dkwX9_isGood_16 ++ dktX9_isGood_17
def dkwX9_isGood_15 : List UInt8 := [96, 162, 0, 63, 21, 6, 154, 0, 45, 42, 180, 0, 47, 21, 7, 51, 154, 0, 39, 42, 180, 0, 75, 42]
abbrev dktX9_isGood_15 : List UInt8 := dkwX9_isGood_15 ++ dktX9_isGood_16
def dkwX9_isGood_14 : List UInt8 := [167, 0, 102, 3, 54, 6, 16, 10, 27, 104, 54, 7, 21, 7, 16, 10, 27, 104, 42, 180, 0, 20, 27, 46]
abbrev dktX9_isGood_14 : List UInt8 := dkwX9_isGood_14 ++ dktX9_isGood_15
def dkwX9_isGood_13 : List UInt8 := [180, 0, 35, 21, 5, 51, 153, 0, 120, 42, 180, 0, 75, 42, 180, 0, 23, 21, 5, 46, 51, 153, 0, 6]
abbrev dktX9_isGood_13 : List UInt8 := dkwX9_isGood_13 ++ dktX9_isGood_14
def dkwX9_isGood_12 : List UInt8 := [54, 4, 21, 4, 42, 180, 0, 17, 27, 46, 162, 0, 145, 16, 100, 27, 104, 21, 4, 96, 54, 5, 42]
abbrev dktX9_isGood_12 : List UInt8 := dkwX9_isGood_12 ++ dktX9_isGood_13
def dkwX9_isGood_11 : List UInt8 := [21, 4, 182, 0, 221, 154, 0, 12, 42, 6, 21, 4, 3, 182, 0, 214, 172, 132, 4, 1, 167, 255, 218, 3]
abbrev dktX9_isGood_11 : List UInt8 := dkwX9_isGood_11 ++ dktX9_isGood_12
def dkwX9_isGood_10 : List UInt8 := [182, 0, 217, 3, 54, 4, 21, 4, 7, 162, 0, 38, 42, 180, 0, 75, 21, 4, 51, 153, 0, 22, 42, 27]
abbrev dktX9_isGood_10 : List UInt8 := dkwX9_isGood_10 ++ dktX9_isGood_11
def dkwX9_isGood_9 : List UInt8 := [21, 5, 62, 132, 4, 1, 167, 255, 144, 29, 155, 0, 11, 42, 5, 29, 3, 182, 0, 214, 172, 42, 27]
abbrev dktX9_isGood_9 : List UInt8 := dkwX9_isGood_9 ++ dktX9_isGood_10
def dkwX9_isGood_8 : List UInt8 := [54, 6, 132, 7, 1, 167, 255, 200, 21, 6, 4, 159, 0, 16, 29, 155, 0, 9, 21, 5, 29, 162, 0, 6]
abbrev dktX9_isGood_8 : List UInt8 := dkwX9_isGood_8 ++ dktX9_isGood_9
def dkwX9_isGood_7 : List UInt8 := [160, 0, 22, 42, 180, 0, 35, 16, 100, 27, 104, 21, 7, 96, 51, 153, 0, 7, 4, 167, 0, 4, 3, 96]
abbrev dktX9_isGood_7 : List UInt8 := dkwX9_isGood_7 ++ dktX9_isGood_8
def dkwX9_isGood_6 : List UInt8 := [180, 0, 17, 27, 46, 162, 0, 51, 21, 6, 42, 180, 0, 32, 16, 100, 27, 104, 21, 7, 96, 46, 21, 5]
abbrev dktX9_isGood_6 : List UInt8 := dkwX9_isGood_6 ++ dktX9_isGood_7
def dkwX9_isGood_5 : List UInt8 := [180, 0, 32, 16, 100, 27, 104, 21, 4, 96, 46, 54, 5, 3, 54, 6, 3, 54, 7, 21, 7, 42]
abbrev dktX9_isGood_5 : List UInt8 := dkwX9_isGood_5 ++ dktX9_isGood_6
def dkwX9_isGood_4 : List UInt8 := [132, 3, 1, 167, 255, 174, 2, 62, 3, 54, 4, 21, 4, 42, 180, 0, 17, 27, 46, 162, 0, 107, 42]
abbrev dktX9_isGood_4 : List UInt8 := dkwX9_isGood_4 ++ dktX9_isGood_5
def dkwX9_isGood_3 : List UInt8 := [42, 27, 29, 182, 0, 211, 42, 27, 21, 4, 182, 0, 211, 182, 0, 214, 172, 132, 4, 1, 167, 255, 190]
abbrev dktX9_isGood_3 : List UInt8 := dkwX9_isGood_3 ++ dktX9_isGood_4
def dkwX9_isGood_2 : List UInt8 := [42, 27, 29, 21, 4, 182, 0, 208, 154, 0, 14, 42, 27, 21, 4, 29, 182, 0, 208, 153, 0, 22, 42, 4]
abbrev dktX9_isGood_2 : List UInt8 := dkwX9_isGood_2 ++ dktX9_isGood_3
def dkwX9_isGood_1 : List UInt8 := [54, 4, 21, 4, 28, 162, 0, 66, 42, 27, 29, 182, 0, 205, 42, 27, 21, 4, 182, 0, 205, 160, 0, 44]
abbrev dktX9_isGood_1 : List UInt8 := dkwX9_isGood_1 ++ dktX9_isGood_2
def dkwX9_isGood_0 : List UInt8 := [42, 180, 0, 17, 27, 46, 42, 180, 0, 20, 27, 46, 96, 61, 3, 62, 29, 28, 162, 0, 83, 29, 4, 96]
abbrev dktX9_isGood_0 : List UInt8 := dkwX9_isGood_0 ++ dktX9_isGood_1
theorem dksX9_isGood_0 : cX9_isGood.data.toList.drop 0 = dktX9_isGood_0 := by decide +kernel
theorem dksX9_isGood_1 : cX9_isGood.data.toList.drop 24 = dktX9_isGood_1 := dk_seg dksX9_isGood_0 24 rfl rfl
theorem dksX9_isGood_2 : cX9_isGood.data.toList.drop 48 = dktX9_isGood_2 := dk_seg dksX9_isGood_1 24 rfl rfl
theorem dksX9_isGood_3 : cX9_isGood.data.toList.drop 72 = dktX9_isGood_3 := dk_seg dksX9_isGood_2 24 rfl rfl
theorem dksX9_isGood_4 : cX9_isGood.data.toList.drop 95 = dktX9_isGood_4 := dk_seg dksX9_isGood_3 23 rfl rfl
theorem dksX9_isGood_5 : cX9_isGood.data.toList.drop 118 = dktX9_isGood_5 := dk_seg dksX9_isGood_4 23 rfl rfl
theorem dksX9_isGood_6 : cX9_isGood.data.toList.drop 140 = dktX9_isGood_6 := dk_seg dksX9_isGood_5 22 rfl rfl
theorem dksX9_isGood_7 : cX9_isGood.data.toList.drop 164 = dktX9_isGood_7 := dk_seg dksX9_isGood_6 24 rfl rfl
theorem dksX9_isGood_8 : cX9_isGood.data.toList.drop 188 = dktX9_isGood_8 := dk_seg dksX9_isGood_7 24 rfl rfl
theorem dksX9_isGood_9 : cX9_isGood.data.toList.drop 212 = dktX9_isGood_9 := dk_seg dksX9_isGood_8 24 rfl rfl
theorem dksX9_isGood_10 : cX9_isGood.data.toList.drop 235 = dktX9_isGood_10 := dk_seg dksX9_isGood_9 23 rfl rfl
theorem dksX9_isGood_11 : cX9_isGood.data.toList.drop 259 = dktX9_isGood_11 := dk_seg dksX9_isGood_10 24 rfl rfl
theorem dksX9_isGood_12 : cX9_isGood.data.toList.drop 283 = dktX9_isGood_12 := dk_seg dksX9_isGood_11 24 rfl rfl
theorem dksX9_isGood_13 : cX9_isGood.data.toList.drop 306 = dktX9_isGood_13 := dk_seg dksX9_isGood_12 23 rfl rfl
theorem dksX9_isGood_14 : cX9_isGood.data.toList.drop 330 = dktX9_isGood_14 := dk_seg dksX9_isGood_13 24 rfl rfl
theorem dksX9_isGood_15 : cX9_isGood.data.toList.drop 354 = dktX9_isGood_15 := dk_seg dksX9_isGood_14 24 rfl rfl
theorem dksX9_isGood_16 : cX9_isGood.data.toList.drop 378 = dktX9_isGood_16 := dk_seg dksX9_isGood_15 24 rfl rfl
theorem dksX9_isGood_17 : cX9_isGood.data.toList.drop 402 = dktX9_isGood_17 := dk_seg dksX9_isGood_16 24 rfl rfl
theorem dksX9_isGood_18 : cX9_isGood.data.toList.drop 425 = dktX9_isGood_18 := dk_seg dksX9_isGood_17 23 rfl rfl
theorem dX9_isGood_0 : decode cX9_isGood 0 = .ok (.aload_n 0, 1) := dk_42 (dk_at dksX9_isGood_0 0 rfl rfl)
theorem dX9_isGood_1 : decode cX9_isGood 1 = .ok (.getfield 17, 3) := dk_180 0 17 (dk_at dksX9_isGood_0 1 rfl rfl)
theorem dX9_isGood_4 : decode cX9_isGood 4 = .ok (.iload_n 1, 1) := dk_27 (dk_at dksX9_isGood_0 4 rfl rfl)
theorem dX9_isGood_5 : decode cX9_isGood 5 = .ok (.iaload, 1) := dk_46 (dk_at dksX9_isGood_0 5 rfl rfl)
theorem dX9_isGood_6 : decode cX9_isGood 6 = .ok (.aload_n 0, 1) := dk_42 (dk_at dksX9_isGood_0 6 rfl rfl)
theorem dX9_isGood_7 : decode cX9_isGood 7 = .ok (.getfield 20, 3) := dk_180 0 20 (dk_at dksX9_isGood_0 7 rfl rfl)
theorem dX9_isGood_10 : decode cX9_isGood 10 = .ok (.iload_n 1, 1) := dk_27 (dk_at dksX9_isGood_0 10 rfl rfl)
theorem dX9_isGood_11 : decode cX9_isGood 11 = .ok (.iaload, 1) := dk_46 (dk_at dksX9_isGood_0 11 rfl rfl)
theorem dX9_isGood_12 : decode cX9_isGood 12 = .ok (.iadd, 1) := dk_96 (dk_at dksX9_isGood_0 12 rfl rfl)
theorem dX9_isGood_13 : decode cX9_isGood 13 = .ok (.istore_n 2, 1) := dk_61 (dk_at dksX9_isGood_0 13 rfl rfl)
theorem dX9_isGood_14 : decode cX9_isGood 14 = .ok (.iconst 0, 1) := dk_3 (dk_at dksX9_isGood_0 14 rfl rfl)
theorem dX9_isGood_15 : decode cX9_isGood 15 = .ok (.istore_n 3, 1) := dk_62 (dk_at dksX9_isGood_0 15 rfl rfl)
theorem dX9_isGood_16 : decode cX9_isGood 16 = .ok (.iload_n 3, 1) := dk_29 (dk_at dksX9_isGood_0 16 rfl rfl)
theorem dX9_isGood_17 : decode cX9_isGood 17 = .ok (.iload_n 2, 1) := dk_28 (dk_at dksX9_isGood_0 17 rfl rfl)
theorem dX9_isGood_18 : decode cX9_isGood 18 = .ok (.if_icmp .ge 83, 3) := dk_162 0 83 (dk_at dksX9_isGood_0 18 rfl rfl)
theorem dX9_isGood_21 : decode cX9_isGood 21 = .ok (.iload_n 3, 1) := dk_29 (dk_at dksX9_isGood_0 21 rfl rfl)
theorem dX9_isGood_22 : decode cX9_isGood 22 = .ok (.iconst 1, 1) := dk_4 (dk_at dksX9_isGood_0 22 rfl rfl)
theorem dX9_isGood_23 : decode cX9_isGood 23 = .ok (.iadd, 1) := dk_96 (dk_at dksX9_isGood_0 23 rfl rfl)
theorem dX9_isGood_24 : decode cX9_isGood 24 = .ok (.istore 4, 2) := dk_54 4 (dk_at dksX9_isGood_1 0 rfl rfl)
theorem dX9_isGood_26 : decode cX9_isGood 26 = .ok (.iload 4, 2) := dk_21 4 (dk_at dksX9_isGood_1 2 rfl rfl)
theorem dX9_isGood_28 : decode cX9_isGood 28 = .ok (.iload_n 2, 1) := dk_28 (dk_at dksX9_isGood_1 4 rfl rfl)
theorem dX9_isGood_29 : decode cX9_isGood 29 = .ok (.if_icmp .ge 66, 3) := dk_162 0 66 (dk_at dksX9_isGood_1 5 rfl rfl)
theorem dX9_isGood_32 : decode cX9_isGood 32 = .ok (.aload_n 0, 1) := dk_42 (dk_at dksX9_isGood_1 8 rfl rfl)
theorem dX9_isGood_33 : decode cX9_isGood 33 = .ok (.iload_n 1, 1) := dk_27 (dk_at dksX9_isGood_1 9 rfl rfl)
theorem dX9_isGood_34 : decode cX9_isGood 34 = .ok (.iload_n 3, 1) := dk_29 (dk_at dksX9_isGood_1 10 rfl rfl)
theorem dX9_isGood_35 : decode cX9_isGood 35 = .ok (.invokevirtual 205, 3) := dk_182 0 205 (dk_at dksX9_isGood_1 11 rfl rfl)
theorem dX9_isGood_38 : decode cX9_isGood 38 = .ok (.aload_n 0, 1) := dk_42 (dk_at dksX9_isGood_1 14 rfl rfl)
theorem dX9_isGood_39 : decode cX9_isGood 39 = .ok (.iload_n 1, 1) := dk_27 (dk_at dksX9_isGood_1 15 rfl rfl)
theorem dX9_isGood_40 : decode cX9_isGood 40 = .ok (.iload 4, 2) := dk_21 4 (dk_at dksX9_isGood_1 16 rfl rfl)
theorem dX9_isGood_42 : decode cX9_isGood 42 = .ok (.invokevirtual 205, 3) := dk_182 0 205 (dk_at dksX9_isGood_1 18 rfl rfl)
theorem dX9_isGood_45 : decode cX9_isGood 45 = .ok (.if_icmp .ne 44, 3) := dk_160 0 44 (dk_at dksX9_isGood_1 21 rfl rfl)
theorem dX9_isGood_48 : decode cX9_isGood 48 = .ok (.aload_n 0, 1) := dk_42 (dk_at dksX9_isGood_2 0 rfl rfl)
theorem dX9_isGood_49 : decode cX9_isGood 49 = .ok (.iload_n 1, 1) := dk_27 (dk_at dksX9_isGood_2 1 rfl rfl)
theorem dX9_isGood_50 : decode cX9_isGood 50 = .ok (.iload_n 3, 1) := dk_29 (dk_at dksX9_isGood_2 2 rfl rfl)
theorem dX9_isGood_51 : decode cX9_isGood 51 = .ok (.iload 4, 2) := dk_21 4 (dk_at dksX9_isGood_2 3 rfl rfl)
theorem dX9_isGood_53 : decode cX9_isGood 53 = .ok (.invokevirtual 208, 3) := dk_182 0 208 (dk_at dksX9_isGood_2 5 rfl rfl)
theorem dX9_isGood_56 : decode cX9_isGood 56 = .ok (.ifCond .ne 14, 3) := dk_154 0 14 (dk_at dksX9_isGood_2 8 rfl rfl)
theorem dX9_isGood_59 : decode cX9_isGood 59 = .ok (.aload_n 0, 1) := dk_42 (dk_at dksX9_isGood_2 11 rfl rfl)
theorem dX9_isGood_60 : decode cX9_isGood 60 = .ok (.iload_n 1, 1) := dk_27 (dk_at dksX9_isGood_2 12 rfl rfl)
theorem dX9_isGood_61 : decode cX9_isGood 61 = .ok (.iload 4, 2) := dk_21 4 (dk_at dksX9_isGood_2 13 rfl rfl)
theorem dX9_isGood_63 : decode cX9_isGood 63 = .ok (.iload_n 3, 1) := dk_29 (dk_at dksX9_isGood_2 15 rfl rfl)
theorem dX9_isGood_64 : decode cX9_isGood 64 = .ok (.invokevirtual 208, 3) := dk_182 0 208 (dk_at dksX9_isGood_2 16 rfl rfl)
theorem dX9_isGood_67 : decode cX9_isGood 67 = .ok (.ifCond .eq 22, 3) := dk_153 0 22 (dk_at dksX9_isGood_2 19 rfl rfl)
theorem dX9_isGood_70 : decode cX9_isGood 70 = .ok (.aload_n 0, 1) := dk_42 (dk_at dksX9_isGood_2 22 rfl rfl)
theorem dX9_isGood_71 : decode cX9_isGood 71 = .ok (.iconst 1, 1) := dk_4 (dk_at dksX9_isGood_2 23 rfl rfl)
theorem dX9_isGood_72 : decode cX9_isGood 72 = .ok (.aload_n 0, 1) := dk_42 (dk_at dksX9_isGood_3 0 rfl rfl)
theorem dX9_isGood_73 : decode cX9_isGood 73 = .ok (.iload_n 1, 1) := dk_27 (dk_at dksX9_isGood_3 1 rfl rfl)
theorem dX9_isGood_74 : decode cX9_isGood 74 = .ok (.iload_n 3, 1) := dk_29 (dk_at dksX9_isGood_3 2 rfl rfl)
theorem dX9_isGood_75 : decode cX9_isGood 75 = .ok (.invokevirtual 211, 3) := dk_182 0 211 (dk_at dksX9_isGood_3 3 rfl rfl)
theorem dX9_isGood_78 : decode cX9_isGood 78 = .ok (.aload_n 0, 1) := dk_42 (dk_at dksX9_isGood_3 6 rfl rfl)
theorem dX9_isGood_79 : decode cX9_isGood 79 = .ok (.iload_n 1, 1) := dk_27 (dk_at dksX9_isGood_3 7 rfl rfl)
theorem dX9_isGood_80 : decode cX9_isGood 80 = .ok (.iload 4, 2) := dk_21 4 (dk_at dksX9_isGood_3 8 rfl rfl)
theorem dX9_isGood_82 : decode cX9_isGood 82 = .ok (.invokevirtual 211, 3) := dk_182 0 211 (dk_at dksX9_isGood_3 10 rfl rfl)
theorem dX9_isGood_85 : decode cX9_isGood 85 = .ok (.invokevirtual 214, 3) := dk_182 0 214 (dk_at dksX9_isGood_3 13 rfl rfl)
theorem dX9_isGood_88 : decode cX9_isGood 88 = .ok (.ireturn, 1) := dk_172 (dk_at dksX9_isGood_3 16 rfl rfl)
theorem dX9_isGood_89 : decode cX9_isGood 89 = .ok (.iinc 4 1, 3) := dk_132 4 1 (dk_at dksX9_isGood_3 17 rfl rfl)
theorem dX9_isGood_92 : decode cX9_isGood 92 = .ok (.goto (-66), 3) := dk_167 255 190 (dk_at dksX9_isGood_3 20 rfl rfl)
theorem dX9_isGood_95 : decode cX9_isGood 95 = .ok (.iinc 3 1, 3) := dk_132 3 1 (dk_at dksX9_isGood_4 0 rfl rfl)
theorem dX9_isGood_98 : decode cX9_isGood 98 = .ok (.goto (-82), 3) := dk_167 255 174 (dk_at dksX9_isGood_4 3 rfl rfl)
theorem dX9_isGood_101 : decode cX9_isGood 101 = .ok (.iconst (-1), 1) := dk_2 (dk_at dksX9_isGood_4 6 rfl rfl)
theorem dX9_isGood_102 : decode cX9_isGood 102 = .ok (.istore_n 3, 1) := dk_62 (dk_at dksX9_isGood_4 7 rfl rfl)
theorem dX9_isGood_103 : decode cX9_isGood 103 = .ok (.iconst 0, 1) := dk_3 (dk_at dksX9_isGood_4 8 rfl rfl)
theorem dX9_isGood_104 : decode cX9_isGood 104 = .ok (.istore 4, 2) := dk_54 4 (dk_at dksX9_isGood_4 9 rfl rfl)
theorem dX9_isGood_106 : decode cX9_isGood 106 = .ok (.iload 4, 2) := dk_21 4 (dk_at dksX9_isGood_4 11 rfl rfl)
theorem dX9_isGood_108 : decode cX9_isGood 108 = .ok (.aload_n 0, 1) := dk_42 (dk_at dksX9_isGood_4 13 rfl rfl)
theorem dX9_isGood_109 : decode cX9_isGood 109 = .ok (.getfield 17, 3) := dk_180 0 17 (dk_at dksX9_isGood_4 14 rfl rfl)
theorem dX9_isGood_112 : decode cX9_isGood 112 = .ok (.iload_n 1, 1) := dk_27 (dk_at dksX9_isGood_4 17 rfl rfl)
theorem dX9_isGood_113 : decode cX9_isGood 113 = .ok (.iaload, 1) := dk_46 (dk_at dksX9_isGood_4 18 rfl rfl)
theorem dX9_isGood_114 : decode cX9_isGood 114 = .ok (.if_icmp .ge 107, 3) := dk_162 0 107 (dk_at dksX9_isGood_4 19 rfl rfl)
theorem dX9_isGood_117 : decode cX9_isGood 117 = .ok (.aload_n 0, 1) := dk_42 (dk_at dksX9_isGood_4 22 rfl rfl)
theorem dX9_isGood_118 : decode cX9_isGood 118 = .ok (.getfield 32, 3) := dk_180 0 32 (dk_at dksX9_isGood_5 0 rfl rfl)
theorem dX9_isGood_121 : decode cX9_isGood 121 = .ok (.bipush 100, 2) := dk_16 100 (dk_at dksX9_isGood_5 3 rfl rfl)
theorem dX9_isGood_123 : decode cX9_isGood 123 = .ok (.iload_n 1, 1) := dk_27 (dk_at dksX9_isGood_5 5 rfl rfl)
theorem dX9_isGood_124 : decode cX9_isGood 124 = .ok (.imul, 1) := dk_104 (dk_at dksX9_isGood_5 6 rfl rfl)
theorem dX9_isGood_125 : decode cX9_isGood 125 = .ok (.iload 4, 2) := dk_21 4 (dk_at dksX9_isGood_5 7 rfl rfl)
theorem dX9_isGood_127 : decode cX9_isGood 127 = .ok (.iadd, 1) := dk_96 (dk_at dksX9_isGood_5 9 rfl rfl)
theorem dX9_isGood_128 : decode cX9_isGood 128 = .ok (.iaload, 1) := dk_46 (dk_at dksX9_isGood_5 10 rfl rfl)
theorem dX9_isGood_129 : decode cX9_isGood 129 = .ok (.istore 5, 2) := dk_54 5 (dk_at dksX9_isGood_5 11 rfl rfl)
theorem dX9_isGood_131 : decode cX9_isGood 131 = .ok (.iconst 0, 1) := dk_3 (dk_at dksX9_isGood_5 13 rfl rfl)
theorem dX9_isGood_132 : decode cX9_isGood 132 = .ok (.istore 6, 2) := dk_54 6 (dk_at dksX9_isGood_5 14 rfl rfl)
theorem dX9_isGood_134 : decode cX9_isGood 134 = .ok (.iconst 0, 1) := dk_3 (dk_at dksX9_isGood_5 16 rfl rfl)
theorem dX9_isGood_135 : decode cX9_isGood 135 = .ok (.istore 7, 2) := dk_54 7 (dk_at dksX9_isGood_5 17 rfl rfl)
theorem dX9_isGood_137 : decode cX9_isGood 137 = .ok (.iload 7, 2) := dk_21 7 (dk_at dksX9_isGood_5 19 rfl rfl)
theorem dX9_isGood_139 : decode cX9_isGood 139 = .ok (.aload_n 0, 1) := dk_42 (dk_at dksX9_isGood_5 21 rfl rfl)
theorem dX9_isGood_140 : decode cX9_isGood 140 = .ok (.getfield 17, 3) := dk_180 0 17 (dk_at dksX9_isGood_6 0 rfl rfl)
theorem dX9_isGood_143 : decode cX9_isGood 143 = .ok (.iload_n 1, 1) := dk_27 (dk_at dksX9_isGood_6 3 rfl rfl)
theorem dX9_isGood_144 : decode cX9_isGood 144 = .ok (.iaload, 1) := dk_46 (dk_at dksX9_isGood_6 4 rfl rfl)
theorem dX9_isGood_145 : decode cX9_isGood 145 = .ok (.if_icmp .ge 51, 3) := dk_162 0 51 (dk_at dksX9_isGood_6 5 rfl rfl)
theorem dX9_isGood_148 : decode cX9_isGood 148 = .ok (.iload 6, 2) := dk_21 6 (dk_at dksX9_isGood_6 8 rfl rfl)
theorem dX9_isGood_150 : decode cX9_isGood 150 = .ok (.aload_n 0, 1) := dk_42 (dk_at dksX9_isGood_6 10 rfl rfl)
theorem dX9_isGood_151 : decode cX9_isGood 151 = .ok (.getfield 32, 3) := dk_180 0 32 (dk_at dksX9_isGood_6 11 rfl rfl)
theorem dX9_isGood_154 : decode cX9_isGood 154 = .ok (.bipush 100, 2) := dk_16 100 (dk_at dksX9_isGood_6 14 rfl rfl)
theorem dX9_isGood_156 : decode cX9_isGood 156 = .ok (.iload_n 1, 1) := dk_27 (dk_at dksX9_isGood_6 16 rfl rfl)
theorem dX9_isGood_157 : decode cX9_isGood 157 = .ok (.imul, 1) := dk_104 (dk_at dksX9_isGood_6 17 rfl rfl)
theorem dX9_isGood_158 : decode cX9_isGood 158 = .ok (.iload 7, 2) := dk_21 7 (dk_at dksX9_isGood_6 18 rfl rfl)
theorem dX9_isGood_160 : decode cX9_isGood 160 = .ok (.iadd, 1) := dk_96 (dk_at dksX9_isGood_6 20 rfl rfl)
theorem dX9_isGood_161 : decode cX9_isGood 161 = .ok (.iaload, 1) := dk_46 (dk_at dksX9_isGood_6 21 rfl rfl)
theorem dX9_isGood_162 : decode cX9_isGood 162 = .ok (.iload 5, 2) := dk_21 5 (dk_at dksX9_isGood_6 22 rfl rfl)
theorem dX9_isGood_164 : decode cX9_isGood 164 = .ok (.if_icmp .ne 22, 3) := dk_160 0 22 (dk_at dksX9_isGood_7 0 rfl rfl)
theorem dX9_isGood_167 : decode cX9_isGood 167 = .ok (.aload_n 0, 1) := dk_42 (dk_at dksX9_isGood_7 3 rfl rfl)
theorem dX9_isGood_168 : decode cX9_isGood 168 = .ok (.getfield 35, 3) := dk_180 0 35 (dk_at dksX9_isGood_7 4 rfl rfl)
theorem dX9_isGood_171 : decode cX9_isGood 171 = .ok (.bipush 100, 2) := dk_16 100 (dk_at dksX9_isGood_7 7 rfl rfl)
theorem dX9_isGood_173 : decode cX9_isGood 173 = .ok (.iload_n 1, 1) := dk_27 (dk_at dksX9_isGood_7 9 rfl rfl)
theorem dX9_isGood_174 : decode cX9_isGood 174 = .ok (.imul, 1) := dk_104 (dk_at dksX9_isGood_7 10 rfl rfl)
theorem dX9_isGood_175 : decode cX9_isGood 175 = .ok (.iload 7, 2) := dk_21 7 (dk_at dksX9_isGood_7 11 rfl rfl)
theorem dX9_isGood_177 : decode cX9_isGood 177 = .ok (.iadd, 1) := dk_96 (dk_at dksX9_isGood_7 13 rfl rfl)
theorem dX9_isGood_178 : decode cX9_isGood 178 = .ok (.baload, 1) := dk_51 (dk_at dksX9_isGood_7 14 rfl rfl)
theorem dX9_isGood_179 : decode cX9_isGood 179 = .ok (.ifCond .eq 7, 3) := dk_153 0 7 (dk_at dksX9_isGood_7 15 rfl rfl)
theorem dX9_isGood_182 : decode cX9_isGood 182 = .ok (.iconst 1, 1) := dk_4 (dk_at dksX9_isGood_7 18 rfl rfl)
theorem dX9_isGood_183 : decode cX9_isGood 183 = .ok (.goto 4, 3) := dk_167 0 4 (dk_at dksX9_isGood_7 19 rfl rfl)
theorem dX9_isGood_186 : decode cX9_isGood 186 = .ok (.iconst 0, 1) := dk_3 (dk_at dksX9_isGood_7 22 rfl rfl)
theorem dX9_isGood_187 : decode cX9_isGood 187 = .ok (.iadd, 1) := dk_96 (dk_at dksX9_isGood_7 23 rfl rfl)
theorem dX9_isGood_188 : decode cX9_isGood 188 = .ok (.istore 6, 2) := dk_54 6 (dk_at dksX9_isGood_8 0 rfl rfl)
theorem dX9_isGood_190 : decode cX9_isGood 190 = .ok (.iinc 7 1, 3) := dk_132 7 1 (dk_at dksX9_isGood_8 2 rfl rfl)
theorem dX9_isGood_193 : decode cX9_isGood 193 = .ok (.goto (-56), 3) := dk_167 255 200 (dk_at dksX9_isGood_8 5 rfl rfl)
theorem dX9_isGood_196 : decode cX9_isGood 196 = .ok (.iload 6, 2) := dk_21 6 (dk_at dksX9_isGood_8 8 rfl rfl)
theorem dX9_isGood_198 : decode cX9_isGood 198 = .ok (.iconst 1, 1) := dk_4 (dk_at dksX9_isGood_8 10 rfl rfl)
theorem dX9_isGood_199 : decode cX9_isGood 199 = .ok (.if_icmp .eq 16, 3) := dk_159 0 16 (dk_at dksX9_isGood_8 11 rfl rfl)
theorem dX9_isGood_202 : decode cX9_isGood 202 = .ok (.iload_n 3, 1) := dk_29 (dk_at dksX9_isGood_8 14 rfl rfl)
theorem dX9_isGood_203 : decode cX9_isGood 203 = .ok (.ifCond .lt 9, 3) := dk_155 0 9 (dk_at dksX9_isGood_8 15 rfl rfl)
theorem dX9_isGood_206 : decode cX9_isGood 206 = .ok (.iload 5, 2) := dk_21 5 (dk_at dksX9_isGood_8 18 rfl rfl)
theorem dX9_isGood_208 : decode cX9_isGood 208 = .ok (.iload_n 3, 1) := dk_29 (dk_at dksX9_isGood_8 20 rfl rfl)
theorem dX9_isGood_209 : decode cX9_isGood 209 = .ok (.if_icmp .ge 6, 3) := dk_162 0 6 (dk_at dksX9_isGood_8 21 rfl rfl)
theorem dX9_isGood_212 : decode cX9_isGood 212 = .ok (.iload 5, 2) := dk_21 5 (dk_at dksX9_isGood_9 0 rfl rfl)
theorem dX9_isGood_214 : decode cX9_isGood 214 = .ok (.istore_n 3, 1) := dk_62 (dk_at dksX9_isGood_9 2 rfl rfl)
theorem dX9_isGood_215 : decode cX9_isGood 215 = .ok (.iinc 4 1, 3) := dk_132 4 1 (dk_at dksX9_isGood_9 3 rfl rfl)
theorem dX9_isGood_218 : decode cX9_isGood 218 = .ok (.goto (-112), 3) := dk_167 255 144 (dk_at dksX9_isGood_9 6 rfl rfl)
theorem dX9_isGood_221 : decode cX9_isGood 221 = .ok (.iload_n 3, 1) := dk_29 (dk_at dksX9_isGood_9 9 rfl rfl)
theorem dX9_isGood_222 : decode cX9_isGood 222 = .ok (.ifCond .lt 11, 3) := dk_155 0 11 (dk_at dksX9_isGood_9 10 rfl rfl)
theorem dX9_isGood_225 : decode cX9_isGood 225 = .ok (.aload_n 0, 1) := dk_42 (dk_at dksX9_isGood_9 13 rfl rfl)
theorem dX9_isGood_226 : decode cX9_isGood 226 = .ok (.iconst 2, 1) := dk_5 (dk_at dksX9_isGood_9 14 rfl rfl)
theorem dX9_isGood_227 : decode cX9_isGood 227 = .ok (.iload_n 3, 1) := dk_29 (dk_at dksX9_isGood_9 15 rfl rfl)
theorem dX9_isGood_228 : decode cX9_isGood 228 = .ok (.iconst 0, 1) := dk_3 (dk_at dksX9_isGood_9 16 rfl rfl)
theorem dX9_isGood_229 : decode cX9_isGood 229 = .ok (.invokevirtual 214, 3) := dk_182 0 214 (dk_at dksX9_isGood_9 17 rfl rfl)
theorem dX9_isGood_232 : decode cX9_isGood 232 = .ok (.ireturn, 1) := dk_172 (dk_at dksX9_isGood_9 20 rfl rfl)
theorem dX9_isGood_233 : decode cX9_isGood 233 = .ok (.aload_n 0, 1) := dk_42 (dk_at dksX9_isGood_9 21 rfl rfl)
theorem dX9_isGood_234 : decode cX9_isGood 234 = .ok (.iload_n 1, 1) := dk_27 (dk_at dksX9_isGood_9 22 rfl rfl)
theorem dX9_isGood_235 : decode cX9_isGood 235 = .ok (.invokevirtual 217, 3) := dk_182 0 217 (dk_at dksX9_isGood_10 0 rfl rfl)
theorem dX9_isGood_238 : decode cX9_isGood 238 = .ok (.iconst 0, 1) := dk_3 (dk_at dksX9_isGood_10 3 rfl rfl)
theorem dX9_isGood_239 : decode cX9_isGood 239 = .ok (.istore 4, 2) := dk_54 4 (dk_at dksX9_isGood_10 4 rfl rfl)
theorem dX9_isGood_241 : decode cX9_isGood 241 = .ok (.iload 4, 2) := dk_21 4 (dk_at dksX9_isGood_10 6 rfl rfl)
theorem dX9_isGood_243 : decode cX9_isGood 243 = .ok (.iconst 4, 1) := dk_7 (dk_at dksX9_isGood_10 8 rfl rfl)
theorem dX9_isGood_244 : decode cX9_isGood 244 = .ok (.if_icmp .ge 38, 3) := dk_162 0 38 (dk_at dksX9_isGood_10 9 rfl rfl)
theorem dX9_isGood_247 : decode cX9_isGood 247 = .ok (.aload_n 0, 1) := dk_42 (dk_at dksX9_isGood_10 12 rfl rfl)
theorem dX9_isGood_248 : decode cX9_isGood 248 = .ok (.getfield 75, 3) := dk_180 0 75 (dk_at dksX9_isGood_10 13 rfl rfl)
theorem dX9_isGood_251 : decode cX9_isGood 251 = .ok (.iload 4, 2) := dk_21 4 (dk_at dksX9_isGood_10 16 rfl rfl)
theorem dX9_isGood_253 : decode cX9_isGood 253 = .ok (.baload, 1) := dk_51 (dk_at dksX9_isGood_10 18 rfl rfl)
theorem dX9_isGood_254 : decode cX9_isGood 254 = .ok (.ifCond .eq 22, 3) := dk_153 0 22 (dk_at dksX9_isGood_10 19 rfl rfl)
theorem dX9_isGood_257 : decode cX9_isGood 257 = .ok (.aload_n 0, 1) := dk_42 (dk_at dksX9_isGood_10 22 rfl rfl)
theorem dX9_isGood_258 : decode cX9_isGood 258 = .ok (.iload_n 1, 1) := dk_27 (dk_at dksX9_isGood_10 23 rfl rfl)
theorem dX9_isGood_259 : decode cX9_isGood 259 = .ok (.iload 4, 2) := dk_21 4 (dk_at dksX9_isGood_11 0 rfl rfl)
theorem dX9_isGood_261 : decode cX9_isGood 261 = .ok (.invokevirtual 221, 3) := dk_182 0 221 (dk_at dksX9_isGood_11 2 rfl rfl)
theorem dX9_isGood_264 : decode cX9_isGood 264 = .ok (.ifCond .ne 12, 3) := dk_154 0 12 (dk_at dksX9_isGood_11 5 rfl rfl)
theorem dX9_isGood_267 : decode cX9_isGood 267 = .ok (.aload_n 0, 1) := dk_42 (dk_at dksX9_isGood_11 8 rfl rfl)
theorem dX9_isGood_268 : decode cX9_isGood 268 = .ok (.iconst 3, 1) := dk_6 (dk_at dksX9_isGood_11 9 rfl rfl)
theorem dX9_isGood_269 : decode cX9_isGood 269 = .ok (.iload 4, 2) := dk_21 4 (dk_at dksX9_isGood_11 10 rfl rfl)
theorem dX9_isGood_271 : decode cX9_isGood 271 = .ok (.iconst 0, 1) := dk_3 (dk_at dksX9_isGood_11 12 rfl rfl)
theorem dX9_isGood_272 : decode cX9_isGood 272 = .ok (.invokevirtual 214, 3) := dk_182 0 214 (dk_at dksX9_isGood_11 13 rfl rfl)
theorem dX9_isGood_275 : decode cX9_isGood 275 = .ok (.ireturn, 1) := dk_172 (dk_at dksX9_isGood_11 16 rfl rfl)
theorem dX9_isGood_276 : decode cX9_isGood 276 = .ok (.iinc 4 1, 3) := dk_132 4 1 (dk_at dksX9_isGood_11 17 rfl rfl)
theorem dX9_isGood_279 : decode cX9_isGood 279 = .ok (.goto (-38), 3) := dk_167 255 218 (dk_at dksX9_isGood_11 20 rfl rfl)
theorem dX9_isGood_282 : decode cX9_isGood 282 = .ok (.iconst 0, 1) := dk_3 (dk_at dksX9_isGood_11 23 rfl rfl)
theorem dX9_isGood_283 : decode cX9_isGood 283 = .ok (.istore 4, 2) := dk_54 4 (dk_at dksX9_isGood_12 0 rfl rfl)
theorem dX9_isGood_285 : decode cX9_isGood 285 = .ok (.iload 4, 2) := dk_21 4 (dk_at dksX9_isGood_12 2 rfl rfl)
theorem dX9_isGood_287 : decode cX9_isGood 287 = .ok (.aload_n 0, 1) := dk_42 (dk_at dksX9_isGood_12 4 rfl rfl)
theorem dX9_isGood_288 : decode cX9_isGood 288 = .ok (.getfield 17, 3) := dk_180 0 17 (dk_at dksX9_isGood_12 5 rfl rfl)
theorem dX9_isGood_291 : decode cX9_isGood 291 = .ok (.iload_n 1, 1) := dk_27 (dk_at dksX9_isGood_12 8 rfl rfl)
theorem dX9_isGood_292 : decode cX9_isGood 292 = .ok (.iaload, 1) := dk_46 (dk_at dksX9_isGood_12 9 rfl rfl)
theorem dX9_isGood_293 : decode cX9_isGood 293 = .ok (.if_icmp .ge 145, 3) := dk_162 0 145 (dk_at dksX9_isGood_12 10 rfl rfl)
theorem dX9_isGood_296 : decode cX9_isGood 296 = .ok (.bipush 100, 2) := dk_16 100 (dk_at dksX9_isGood_12 13 rfl rfl)
theorem dX9_isGood_298 : decode cX9_isGood 298 = .ok (.iload_n 1, 1) := dk_27 (dk_at dksX9_isGood_12 15 rfl rfl)
theorem dX9_isGood_299 : decode cX9_isGood 299 = .ok (.imul, 1) := dk_104 (dk_at dksX9_isGood_12 16 rfl rfl)
theorem dX9_isGood_300 : decode cX9_isGood 300 = .ok (.iload 4, 2) := dk_21 4 (dk_at dksX9_isGood_12 17 rfl rfl)
theorem dX9_isGood_302 : decode cX9_isGood 302 = .ok (.iadd, 1) := dk_96 (dk_at dksX9_isGood_12 19 rfl rfl)
theorem dX9_isGood_303 : decode cX9_isGood 303 = .ok (.istore 5, 2) := dk_54 5 (dk_at dksX9_isGood_12 20 rfl rfl)
theorem dX9_isGood_305 : decode cX9_isGood 305 = .ok (.aload_n 0, 1) := dk_42 (dk_at dksX9_isGood_12 22 rfl rfl)
theorem dX9_isGood_306 : decode cX9_isGood 306 = .ok (.getfield 35, 3) := dk_180 0 35 (dk_at dksX9_isGood_13 0 rfl rfl)
theorem dX9_isGood_309 : decode cX9_isGood 309 = .ok (.iload 5, 2) := dk_21 5 (dk_at dksX9_isGood_13 3 rfl rfl)
theorem dX9_isGood_311 : decode cX9_isGood 311 = .ok (.baload, 1) := dk_51 (dk_at dksX9_isGood_13 5 rfl rfl)
theorem dX9_isGood_312 : decode cX9_isGood 312 = .ok (.ifCond .eq 120, 3) := dk_153 0 120 (dk_at dksX9_isGood_13 6 rfl rfl)
theorem dX9_isGood_315 : decode cX9_isGood 315 = .ok (.aload_n 0, 1) := dk_42 (dk_at dksX9_isGood_13 9 rfl rfl)
theorem dX9_isGood_316 : decode cX9_isGood 316 = .ok (.getfield 75, 3) := dk_180 0 75 (dk_at dksX9_isGood_13 10 rfl rfl)
theorem dX9_isGood_319 : decode cX9_isGood 319 = .ok (.aload_n 0, 1) := dk_42 (dk_at dksX9_isGood_13 13 rfl rfl)
theorem dX9_isGood_320 : decode cX9_isGood 320 = .ok (.getfield 23, 3) := dk_180 0 23 (dk_at dksX9_isGood_13 14 rfl rfl)
theorem dX9_isGood_323 : decode cX9_isGood 323 = .ok (.iload 5, 2) := dk_21 5 (dk_at dksX9_isGood_13 17 rfl rfl)
theorem dX9_isGood_325 : decode cX9_isGood 325 = .ok (.iaload, 1) := dk_46 (dk_at dksX9_isGood_13 19 rfl rfl)
theorem dX9_isGood_326 : decode cX9_isGood 326 = .ok (.baload, 1) := dk_51 (dk_at dksX9_isGood_13 20 rfl rfl)
theorem dX9_isGood_327 : decode cX9_isGood 327 = .ok (.ifCond .eq 6, 3) := dk_153 0 6 (dk_at dksX9_isGood_13 21 rfl rfl)
theorem dX9_isGood_330 : decode cX9_isGood 330 = .ok (.goto 102, 3) := dk_167 0 102 (dk_at dksX9_isGood_14 0 rfl rfl)
theorem dX9_isGood_333 : decode cX9_isGood 333 = .ok (.iconst 0, 1) := dk_3 (dk_at dksX9_isGood_14 3 rfl rfl)
theorem dX9_isGood_334 : decode cX9_isGood 334 = .ok (.istore 6, 2) := dk_54 6 (dk_at dksX9_isGood_14 4 rfl rfl)
theorem dX9_isGood_336 : decode cX9_isGood 336 = .ok (.bipush 10, 2) := dk_16 10 (dk_at dksX9_isGood_14 6 rfl rfl)
theorem dX9_isGood_338 : decode cX9_isGood 338 = .ok (.iload_n 1, 1) := dk_27 (dk_at dksX9_isGood_14 8 rfl rfl)
theorem dX9_isGood_339 : decode cX9_isGood 339 = .ok (.imul, 1) := dk_104 (dk_at dksX9_isGood_14 9 rfl rfl)
theorem dX9_isGood_340 : decode cX9_isGood 340 = .ok (.istore 7, 2) := dk_54 7 (dk_at dksX9_isGood_14 10 rfl rfl)
theorem dX9_isGood_342 : decode cX9_isGood 342 = .ok (.iload 7, 2) := dk_21 7 (dk_at dksX9_isGood_14 12 rfl rfl)
theorem dX9_isGood_344 : decode cX9_isGood 344 = .ok (.bipush 10, 2) := dk_16 10 (dk_at dksX9_isGood_14 14 rfl rfl)
theorem dX9_isGood_346 : decode cX9_isGood 346 = .ok (.iload_n 1, 1) := dk_27 (dk_at dksX9_isGood_14 16 rfl rfl)
theorem dX9_isGood_347 : decode cX9_isGood 347 = .ok (.imul, 1) := dk_104 (dk_at dksX9_isGood_14 17 rfl rfl)
theorem dX9_isGood_348 : decode cX9_isGood 348 = .ok (.aload_n 0, 1) := dk_42 (dk_at dksX9_isGood_14 18 rfl rfl)
theorem dX9_isGood_349 : decode cX9_isGood 349 = .ok (.getfield 20, 3) := dk_180 0 20 (dk_at dksX9_isGood_14 19 rfl rfl)
theorem dX9_isGood_352 : decode cX9_isGood 352 = .ok (.iload_n 1, 1) := dk_27 (dk_at dksX9_isGood_14 22 rfl rfl)
theorem dX9_isGood_353 : decode cX9_isGood 353 = .ok (.iaload, 1) := dk_46 (dk_at dksX9_isGood_14 23 rfl rfl)
theorem dX9_isGood_354 : decode cX9_isGood 354 = .ok (.iadd, 1) := dk_96 (dk_at dksX9_isGood_15 0 rfl rfl)
theorem dX9_isGood_355 : decode cX9_isGood 355 = .ok (.if_icmp .ge 63, 3) := dk_162 0 63 (dk_at dksX9_isGood_15 1 rfl rfl)
theorem dX9_isGood_358 : decode cX9_isGood 358 = .ok (.iload 6, 2) := dk_21 6 (dk_at dksX9_isGood_15 4 rfl rfl)
theorem dX9_isGood_360 : decode cX9_isGood 360 = .ok (.ifCond .ne 45, 3) := dk_154 0 45 (dk_at dksX9_isGood_15 6 rfl rfl)
theorem dX9_isGood_363 : decode cX9_isGood 363 = .ok (.aload_n 0, 1) := dk_42 (dk_at dksX9_isGood_15 9 rfl rfl)
theorem dX9_isGood_364 : decode cX9_isGood 364 = .ok (.getfield 47, 3) := dk_180 0 47 (dk_at dksX9_isGood_15 10 rfl rfl)
theorem dX9_isGood_367 : decode cX9_isGood 367 = .ok (.iload 7, 2) := dk_21 7 (dk_at dksX9_isGood_15 13 rfl rfl)
theorem dX9_isGood_369 : decode cX9_isGood 369 = .ok (.baload, 1) := dk_51 (dk_at dksX9_isGood_15 15 rfl rfl)
theorem dX9_isGood_370 : decode cX9_isGood 370 = .ok (.ifCond .ne 39, 3) := dk_154 0 39 (dk_at dksX9_isGood_15 16 rfl rfl)
theorem dX9_isGood_373 : decode cX9_isGood 373 = .ok (.aload_n 0, 1) := dk_42 (dk_at dksX9_isGood_15 19 rfl rfl)
theorem dX9_isGood_374 : decode cX9_isGood 374 = .ok (.getfield 75, 3) := dk_180 0 75 (dk_at dksX9_isGood_15 20 rfl rfl)
theorem dX9_isGood_377 : decode cX9_isGood 377 = .ok (.aload_n 0, 1) := dk_42 (dk_at dksX9_isGood_15 23 rfl rfl)
theorem dX9_isGood_378 : decode cX9_isGood 378 = .ok (.getfield 38, 3) := dk_180 0 38 (dk_at dksX9_isGood_16 0 rfl rfl)
theorem dX9_isGood_381 : decode cX9_isGood 381 = .ok (.iload 7, 2) := dk_21 7 (dk_at dksX9_isGood_16 3 rfl rfl)
theorem dX9_isGood_383 : decode cX9_isGood 383 = .ok (.iaload, 1) := dk_46 (dk_at dksX9_isGood_16 5 rfl rfl)
theorem dX9_isGood_384 : decode cX9_isGood 384 = .ok (.baload, 1) := dk_51 (dk_at dksX9_isGood_16 6 rfl rfl)
theorem dX9_isGood_385 : decode cX9_isGood 385 = .ok (.ifCond .eq 24, 3) := dk_153 0 24 (dk_at dksX9_isGood_16 7 rfl rfl)
theorem dX9_isGood_388 : decode cX9_isGood 388 = .ok (.aload_n 0, 1) := dk_42 (dk_at dksX9_isGood_16 10 rfl rfl)
theorem dX9_isGood_389 : decode cX9_isGood 389 = .ok (.getfield 44, 3) := dk_180 0 44 (dk_at dksX9_isGood_16 11 rfl rfl)
theorem dX9_isGood_392 : decode cX9_isGood 392 = .ok (.iload 7, 2) := dk_21 7 (dk_at dksX9_isGood_16 14 rfl rfl)
theorem dX9_isGood_394 : decode cX9_isGood 394 = .ok (.iaload, 1) := dk_46 (dk_at dksX9_isGood_16 16 rfl rfl)
theorem dX9_isGood_395 : decode cX9_isGood 395 = .ok (.aload_n 0, 1) := dk_42 (dk_at dksX9_isGood_16 17 rfl rfl)
theorem dX9_isGood_396 : decode cX9_isGood 396 = .ok (.getfield 23, 3) := dk_180 0 23 (dk_at dksX9_isGood_16 18 rfl rfl)
theorem dX9_isGood_399 : decode cX9_isGood 399 = .ok (.iload 5, 2) := dk_21 5 (dk_at dksX9_isGood_16 21 rfl rfl)
theorem dX9_isGood_401 : decode cX9_isGood 401 = .ok (.iaload, 1) := dk_46 (dk_at dksX9_isGood_16 23 rfl rfl)
theorem dX9_isGood_402 : decode cX9_isGood 402 = .ok (.if_icmp .ne 7, 3) := dk_160 0 7 (dk_at dksX9_isGood_17 0 rfl rfl)
theorem dX9_isGood_405 : decode cX9_isGood 405 = .ok (.iconst 1, 1) := dk_4 (dk_at dksX9_isGood_17 3 rfl rfl)
theorem dX9_isGood_406 : decode cX9_isGood 406 = .ok (.goto 4, 3) := dk_167 0 4 (dk_at dksX9_isGood_17 4 rfl rfl)
theorem dX9_isGood_409 : decode cX9_isGood 409 = .ok (.iconst 0, 1) := dk_3 (dk_at dksX9_isGood_17 7 rfl rfl)
theorem dX9_isGood_410 : decode cX9_isGood 410 = .ok (.istore 6, 2) := dk_54 6 (dk_at dksX9_isGood_17 8 rfl rfl)
theorem dX9_isGood_412 : decode cX9_isGood 412 = .ok (.iinc 7 1, 3) := dk_132 7 1 (dk_at dksX9_isGood_17 10 rfl rfl)
theorem dX9_isGood_415 : decode cX9_isGood 415 = .ok (.goto (-73), 3) := dk_167 255 183 (dk_at dksX9_isGood_17 13 rfl rfl)
theorem dX9_isGood_418 : decode cX9_isGood 418 = .ok (.iload 6, 2) := dk_21 6 (dk_at dksX9_isGood_17 16 rfl rfl)
theorem dX9_isGood_420 : decode cX9_isGood 420 = .ok (.ifCond .ne 12, 3) := dk_154 0 12 (dk_at dksX9_isGood_17 18 rfl rfl)
theorem dX9_isGood_423 : decode cX9_isGood 423 = .ok (.aload_n 0, 1) := dk_42 (dk_at dksX9_isGood_17 21 rfl rfl)
theorem dX9_isGood_424 : decode cX9_isGood 424 = .ok (.iconst 4, 1) := dk_7 (dk_at dksX9_isGood_17 22 rfl rfl)
theorem dX9_isGood_425 : decode cX9_isGood 425 = .ok (.iload 4, 2) := dk_21 4 (dk_at dksX9_isGood_18 0 rfl rfl)
theorem dX9_isGood_427 : decode cX9_isGood 427 = .ok (.iconst 0, 1) := dk_3 (dk_at dksX9_isGood_18 2 rfl rfl)
theorem dX9_isGood_428 : decode cX9_isGood 428 = .ok (.invokevirtual 214, 3) := dk_182 0 214 (dk_at dksX9_isGood_18 3 rfl rfl)
theorem dX9_isGood_431 : decode cX9_isGood 431 = .ok (.ireturn, 1) := dk_172 (dk_at dksX9_isGood_18 6 rfl rfl)
theorem dX9_isGood_432 : decode cX9_isGood 432 = .ok (.iinc 4 1, 3) := dk_132 4 1 (dk_at dksX9_isGood_18 7 rfl rfl)
theorem dX9_isGood_435 : decode cX9_isGood 435 = .ok (.goto (-150), 3) := dk_167 255 106 (dk_at dksX9_isGood_18 10 rfl rfl)
theorem dX9_isGood_438 : decode cX9_isGood 438 = .ok (.iconst 1, 1) := dk_4 (dk_at dksX9_isGood_18 13 rfl rfl)
theorem dX9_isGood_439 : decode cX9_isGood 439 = .ok (.ireturn, 1) := dk_172 (dk_at dksX9_isGood_18 14 rfl rfl)
abbrev cX9_stateOf : ByteArray := prog_17_method_19_code
def yX9_stateOf : MethodName := ⟨RX9, "stateOf", "(II)I"⟩
def dkwX9_stateOf_1 : List UInt8 := [42, 180, 0, 38, 16, 10, 27, 104, 28, 96, 42, 180, 0, 17, 27, 46, 100, 46, 172]
abbrev dktX9_stateOf_1 : List UInt8 := dkwX9_stateOf_1 ++ []
def dkwX9_stateOf_0 : List UInt8 := [28, 42, 180, 0, 17, 27, 46, 162, 0, 17, 42, 180, 0, 23, 16, 100, 27, 104, 28, 96, 46, 167, 0, 21]
abbrev dktX9_stateOf_0 : List UInt8 := dkwX9_stateOf_0 ++ dktX9_stateOf_1
theorem dksX9_stateOf_0 : cX9_stateOf.data.toList.drop 0 = dktX9_stateOf_0 := by decide +kernel
theorem dksX9_stateOf_1 : cX9_stateOf.data.toList.drop 24 = dktX9_stateOf_1 := dk_seg dksX9_stateOf_0 24 rfl rfl
theorem dX9_stateOf_0 : decode cX9_stateOf 0 = .ok (.iload_n 2, 1) := dk_28 (dk_at dksX9_stateOf_0 0 rfl rfl)
theorem dX9_stateOf_1 : decode cX9_stateOf 1 = .ok (.aload_n 0, 1) := dk_42 (dk_at dksX9_stateOf_0 1 rfl rfl)
theorem dX9_stateOf_2 : decode cX9_stateOf 2 = .ok (.getfield 17, 3) := dk_180 0 17 (dk_at dksX9_stateOf_0 2 rfl rfl)
theorem dX9_stateOf_5 : decode cX9_stateOf 5 = .ok (.iload_n 1, 1) := dk_27 (dk_at dksX9_stateOf_0 5 rfl rfl)
theorem dX9_stateOf_6 : decode cX9_stateOf 6 = .ok (.iaload, 1) := dk_46 (dk_at dksX9_stateOf_0 6 rfl rfl)
theorem dX9_stateOf_7 : decode cX9_stateOf 7 = .ok (.if_icmp .ge 17, 3) := dk_162 0 17 (dk_at dksX9_stateOf_0 7 rfl rfl)
theorem dX9_stateOf_10 : decode cX9_stateOf 10 = .ok (.aload_n 0, 1) := dk_42 (dk_at dksX9_stateOf_0 10 rfl rfl)
theorem dX9_stateOf_11 : decode cX9_stateOf 11 = .ok (.getfield 23, 3) := dk_180 0 23 (dk_at dksX9_stateOf_0 11 rfl rfl)
theorem dX9_stateOf_14 : decode cX9_stateOf 14 = .ok (.bipush 100, 2) := dk_16 100 (dk_at dksX9_stateOf_0 14 rfl rfl)
theorem dX9_stateOf_16 : decode cX9_stateOf 16 = .ok (.iload_n 1, 1) := dk_27 (dk_at dksX9_stateOf_0 16 rfl rfl)
theorem dX9_stateOf_17 : decode cX9_stateOf 17 = .ok (.imul, 1) := dk_104 (dk_at dksX9_stateOf_0 17 rfl rfl)
theorem dX9_stateOf_18 : decode cX9_stateOf 18 = .ok (.iload_n 2, 1) := dk_28 (dk_at dksX9_stateOf_0 18 rfl rfl)
theorem dX9_stateOf_19 : decode cX9_stateOf 19 = .ok (.iadd, 1) := dk_96 (dk_at dksX9_stateOf_0 19 rfl rfl)
theorem dX9_stateOf_20 : decode cX9_stateOf 20 = .ok (.iaload, 1) := dk_46 (dk_at dksX9_stateOf_0 20 rfl rfl)
theorem dX9_stateOf_21 : decode cX9_stateOf 21 = .ok (.goto 21, 3) := dk_167 0 21 (dk_at dksX9_stateOf_0 21 rfl rfl)
theorem dX9_stateOf_24 : decode cX9_stateOf 24 = .ok (.aload_n 0, 1) := dk_42 (dk_at dksX9_stateOf_1 0 rfl rfl)
theorem dX9_stateOf_25 : decode cX9_stateOf 25 = .ok (.getfield 38, 3) := dk_180 0 38 (dk_at dksX9_stateOf_1 1 rfl rfl)
theorem dX9_stateOf_28 : decode cX9_stateOf 28 = .ok (.bipush 10, 2) := dk_16 10 (dk_at dksX9_stateOf_1 4 rfl rfl)
theorem dX9_stateOf_30 : decode cX9_stateOf 30 = .ok (.iload_n 1, 1) := dk_27 (dk_at dksX9_stateOf_1 6 rfl rfl)
theorem dX9_stateOf_31 : decode cX9_stateOf 31 = .ok (.imul, 1) := dk_104 (dk_at dksX9_stateOf_1 7 rfl rfl)
theorem dX9_stateOf_32 : decode cX9_stateOf 32 = .ok (.iload_n 2, 1) := dk_28 (dk_at dksX9_stateOf_1 8 rfl rfl)
theorem dX9_stateOf_33 : decode cX9_stateOf 33 = .ok (.iadd, 1) := dk_96 (dk_at dksX9_stateOf_1 9 rfl rfl)
theorem dX9_stateOf_34 : decode cX9_stateOf 34 = .ok (.aload_n 0, 1) := dk_42 (dk_at dksX9_stateOf_1 10 rfl rfl)
theorem dX9_stateOf_35 : decode cX9_stateOf 35 = .ok (.getfield 17, 3) := dk_180 0 17 (dk_at dksX9_stateOf_1 11 rfl rfl)
theorem dX9_stateOf_38 : decode cX9_stateOf 38 = .ok (.iload_n 1, 1) := dk_27 (dk_at dksX9_stateOf_1 14 rfl rfl)
theorem dX9_stateOf_39 : decode cX9_stateOf 39 = .ok (.iaload, 1) := dk_46 (dk_at dksX9_stateOf_1 15 rfl rfl)
theorem dX9_stateOf_40 : decode cX9_stateOf 40 = .ok (.isub, 1) := dk_100 (dk_at dksX9_stateOf_1 16 rfl rfl)
theorem dX9_stateOf_41 : decode cX9_stateOf 41 = .ok (.iaload, 1) := dk_46 (dk_at dksX9_stateOf_1 17 rfl rfl)
theorem dX9_stateOf_42 : decode cX9_stateOf 42 = .ok (.ireturn, 1) := dk_172 (dk_at dksX9_stateOf_1 18 rfl rfl)
abbrev cX9_begins : ByteArray := prog_17_method_23_code
def yX9_begins : MethodName := ⟨RX9, "begins", "(III)Z"⟩
def dkwX9_begins_2 : List UInt8 := [167, 0, 4, 3, 172]
abbrev dktX9_begins_2 : List UInt8 := dkwX9_begins_2 ++ []
def dkwX9_begins_1 : List UInt8 := [27, 28, 182, 0, 202, 42, 27, 29, 182, 0, 202, 16, 8, 21, 5, 21, 4, 100, 104, 122, 160, 0, 7, 4]
abbrev dktX9_begins_1 : List UInt8 := dkwX9_begins_1 ++ dktX9_begins_2
def dkwX9_begins_0 : List UInt8 := [42, 27, 28, 182, 0, 198, 54, 4, 42, 27, 29, 182, 0, 198, 54, 5, 21, 4, 21, 5, 163, 0, 31, 42]
abbrev dktX9_begins_0 : List UInt8 := dkwX9_begins_0 ++ dktX9_begins_1
theorem dksX9_begins_0 : cX9_begins.data.toList.drop 0 = dktX9_begins_0 := by decide +kernel
theorem dksX9_begins_1 : cX9_begins.data.toList.drop 24 = dktX9_begins_1 := dk_seg dksX9_begins_0 24 rfl rfl
theorem dksX9_begins_2 : cX9_begins.data.toList.drop 48 = dktX9_begins_2 := dk_seg dksX9_begins_1 24 rfl rfl
theorem dX9_begins_0 : decode cX9_begins 0 = .ok (.aload_n 0, 1) := dk_42 (dk_at dksX9_begins_0 0 rfl rfl)
theorem dX9_begins_1 : decode cX9_begins 1 = .ok (.iload_n 1, 1) := dk_27 (dk_at dksX9_begins_0 1 rfl rfl)
theorem dX9_begins_2 : decode cX9_begins 2 = .ok (.iload_n 2, 1) := dk_28 (dk_at dksX9_begins_0 2 rfl rfl)
theorem dX9_begins_3 : decode cX9_begins 3 = .ok (.invokevirtual 198, 3) := dk_182 0 198 (dk_at dksX9_begins_0 3 rfl rfl)
theorem dX9_begins_6 : decode cX9_begins 6 = .ok (.istore 4, 2) := dk_54 4 (dk_at dksX9_begins_0 6 rfl rfl)
theorem dX9_begins_8 : decode cX9_begins 8 = .ok (.aload_n 0, 1) := dk_42 (dk_at dksX9_begins_0 8 rfl rfl)
theorem dX9_begins_9 : decode cX9_begins 9 = .ok (.iload_n 1, 1) := dk_27 (dk_at dksX9_begins_0 9 rfl rfl)
theorem dX9_begins_10 : decode cX9_begins 10 = .ok (.iload_n 3, 1) := dk_29 (dk_at dksX9_begins_0 10 rfl rfl)
theorem dX9_begins_11 : decode cX9_begins 11 = .ok (.invokevirtual 198, 3) := dk_182 0 198 (dk_at dksX9_begins_0 11 rfl rfl)
theorem dX9_begins_14 : decode cX9_begins 14 = .ok (.istore 5, 2) := dk_54 5 (dk_at dksX9_begins_0 14 rfl rfl)
theorem dX9_begins_16 : decode cX9_begins 16 = .ok (.iload 4, 2) := dk_21 4 (dk_at dksX9_begins_0 16 rfl rfl)
theorem dX9_begins_18 : decode cX9_begins 18 = .ok (.iload 5, 2) := dk_21 5 (dk_at dksX9_begins_0 18 rfl rfl)
theorem dX9_begins_20 : decode cX9_begins 20 = .ok (.if_icmp .gt 31, 3) := dk_163 0 31 (dk_at dksX9_begins_0 20 rfl rfl)
theorem dX9_begins_23 : decode cX9_begins 23 = .ok (.aload_n 0, 1) := dk_42 (dk_at dksX9_begins_0 23 rfl rfl)
theorem dX9_begins_24 : decode cX9_begins 24 = .ok (.iload_n 1, 1) := dk_27 (dk_at dksX9_begins_1 0 rfl rfl)
theorem dX9_begins_25 : decode cX9_begins 25 = .ok (.iload_n 2, 1) := dk_28 (dk_at dksX9_begins_1 1 rfl rfl)
theorem dX9_begins_26 : decode cX9_begins 26 = .ok (.invokevirtual 202, 3) := dk_182 0 202 (dk_at dksX9_begins_1 2 rfl rfl)
theorem dX9_begins_29 : decode cX9_begins 29 = .ok (.aload_n 0, 1) := dk_42 (dk_at dksX9_begins_1 5 rfl rfl)
theorem dX9_begins_30 : decode cX9_begins 30 = .ok (.iload_n 1, 1) := dk_27 (dk_at dksX9_begins_1 6 rfl rfl)
theorem dX9_begins_31 : decode cX9_begins 31 = .ok (.iload_n 3, 1) := dk_29 (dk_at dksX9_begins_1 7 rfl rfl)
theorem dX9_begins_32 : decode cX9_begins 32 = .ok (.invokevirtual 202, 3) := dk_182 0 202 (dk_at dksX9_begins_1 8 rfl rfl)
theorem dX9_begins_35 : decode cX9_begins 35 = .ok (.bipush 8, 2) := dk_16 8 (dk_at dksX9_begins_1 11 rfl rfl)
theorem dX9_begins_37 : decode cX9_begins 37 = .ok (.iload 5, 2) := dk_21 5 (dk_at dksX9_begins_1 13 rfl rfl)
theorem dX9_begins_39 : decode cX9_begins 39 = .ok (.iload 4, 2) := dk_21 4 (dk_at dksX9_begins_1 15 rfl rfl)
theorem dX9_begins_41 : decode cX9_begins 41 = .ok (.isub, 1) := dk_100 (dk_at dksX9_begins_1 17 rfl rfl)
theorem dX9_begins_42 : decode cX9_begins 42 = .ok (.imul, 1) := dk_104 (dk_at dksX9_begins_1 18 rfl rfl)
theorem dX9_begins_43 : decode cX9_begins 43 = .ok (.ishr, 1) := dk_122 (dk_at dksX9_begins_1 19 rfl rfl)
theorem dX9_begins_44 : decode cX9_begins 44 = .ok (.if_icmp .ne 7, 3) := dk_160 0 7 (dk_at dksX9_begins_1 20 rfl rfl)
theorem dX9_begins_47 : decode cX9_begins 47 = .ok (.iconst 1, 1) := dk_4 (dk_at dksX9_begins_1 23 rfl rfl)
theorem dX9_begins_48 : decode cX9_begins 48 = .ok (.goto 4, 3) := dk_167 0 4 (dk_at dksX9_begins_2 0 rfl rfl)
theorem dX9_begins_51 : decode cX9_begins 51 = .ok (.iconst 0, 1) := dk_3 (dk_at dksX9_begins_2 3 rfl rfl)
theorem dX9_begins_52 : decode cX9_begins 52 = .ok (.ireturn, 1) := dk_172 (dk_at dksX9_begins_2 4 rfl rfl)
abbrev cX9_manyOf : ByteArray := prog_17_method_20_code
def yX9_manyOf : MethodName := ⟨RX9, "manyOf", "(II)I"⟩
def dkwX9_manyOf_1 : List UInt8 := [4, 172]
abbrev dktX9_manyOf_1 : List UInt8 := dkwX9_manyOf_1 ++ []
def dkwX9_manyOf_0 : List UInt8 := [28, 42, 180, 0, 17, 27, 46, 162, 0, 17, 42, 180, 0, 26, 16, 100, 27, 104, 28, 96, 46, 167, 0, 4]
abbrev dktX9_manyOf_0 : List UInt8 := dkwX9_manyOf_0 ++ dktX9_manyOf_1
theorem dksX9_manyOf_0 : cX9_manyOf.data.toList.drop 0 = dktX9_manyOf_0 := by decide +kernel
theorem dksX9_manyOf_1 : cX9_manyOf.data.toList.drop 24 = dktX9_manyOf_1 := dk_seg dksX9_manyOf_0 24 rfl rfl
theorem dX9_manyOf_0 : decode cX9_manyOf 0 = .ok (.iload_n 2, 1) := dk_28 (dk_at dksX9_manyOf_0 0 rfl rfl)
theorem dX9_manyOf_1 : decode cX9_manyOf 1 = .ok (.aload_n 0, 1) := dk_42 (dk_at dksX9_manyOf_0 1 rfl rfl)
theorem dX9_manyOf_2 : decode cX9_manyOf 2 = .ok (.getfield 17, 3) := dk_180 0 17 (dk_at dksX9_manyOf_0 2 rfl rfl)
theorem dX9_manyOf_5 : decode cX9_manyOf 5 = .ok (.iload_n 1, 1) := dk_27 (dk_at dksX9_manyOf_0 5 rfl rfl)
theorem dX9_manyOf_6 : decode cX9_manyOf 6 = .ok (.iaload, 1) := dk_46 (dk_at dksX9_manyOf_0 6 rfl rfl)
theorem dX9_manyOf_7 : decode cX9_manyOf 7 = .ok (.if_icmp .ge 17, 3) := dk_162 0 17 (dk_at dksX9_manyOf_0 7 rfl rfl)
theorem dX9_manyOf_10 : decode cX9_manyOf 10 = .ok (.aload_n 0, 1) := dk_42 (dk_at dksX9_manyOf_0 10 rfl rfl)
theorem dX9_manyOf_11 : decode cX9_manyOf 11 = .ok (.getfield 26, 3) := dk_180 0 26 (dk_at dksX9_manyOf_0 11 rfl rfl)
theorem dX9_manyOf_14 : decode cX9_manyOf 14 = .ok (.bipush 100, 2) := dk_16 100 (dk_at dksX9_manyOf_0 14 rfl rfl)
theorem dX9_manyOf_16 : decode cX9_manyOf 16 = .ok (.iload_n 1, 1) := dk_27 (dk_at dksX9_manyOf_0 16 rfl rfl)
theorem dX9_manyOf_17 : decode cX9_manyOf 17 = .ok (.imul, 1) := dk_104 (dk_at dksX9_manyOf_0 17 rfl rfl)
theorem dX9_manyOf_18 : decode cX9_manyOf 18 = .ok (.iload_n 2, 1) := dk_28 (dk_at dksX9_manyOf_0 18 rfl rfl)
theorem dX9_manyOf_19 : decode cX9_manyOf 19 = .ok (.iadd, 1) := dk_96 (dk_at dksX9_manyOf_0 19 rfl rfl)
theorem dX9_manyOf_20 : decode cX9_manyOf 20 = .ok (.iaload, 1) := dk_46 (dk_at dksX9_manyOf_0 20 rfl rfl)
theorem dX9_manyOf_21 : decode cX9_manyOf 21 = .ok (.goto 4, 3) := dk_167 0 4 (dk_at dksX9_manyOf_0 21 rfl rfl)
theorem dX9_manyOf_24 : decode cX9_manyOf 24 = .ok (.iconst 1, 1) := dk_4 (dk_at dksX9_manyOf_1 0 rfl rfl)
theorem dX9_manyOf_25 : decode cX9_manyOf 25 = .ok (.ireturn, 1) := dk_172 (dk_at dksX9_manyOf_1 1 rfl rfl)
abbrev cX9_bytesOf : ByteArray := prog_17_method_21_code
def yX9_bytesOf : MethodName := ⟨RX9, "bytesOf", "(II)I"⟩
def dkwX9_bytesOf_1 : List UInt8 := [42, 180, 0, 41, 16, 10, 27, 104, 28, 96, 42, 180, 0, 17, 27, 46, 100, 46, 172]
abbrev dktX9_bytesOf_1 : List UInt8 := dkwX9_bytesOf_1 ++ []
def dkwX9_bytesOf_0 : List UInt8 := [28, 42, 180, 0, 17, 27, 46, 162, 0, 17, 42, 180, 0, 29, 16, 100, 27, 104, 28, 96, 46, 167, 0, 21]
abbrev dktX9_bytesOf_0 : List UInt8 := dkwX9_bytesOf_0 ++ dktX9_bytesOf_1
theorem dksX9_bytesOf_0 : cX9_bytesOf.data.toList.drop 0 = dktX9_bytesOf_0 := by decide +kernel
theorem dksX9_bytesOf_1 : cX9_bytesOf.data.toList.drop 24 = dktX9_bytesOf_1 := dk_seg dksX9_bytesOf_0 24 rfl rfl
theorem dX9_bytesOf_0 : decode cX9_bytesOf 0 = .ok (.iload_n 2, 1) := dk_28 (dk_at dksX9_bytesOf_0 0 rfl rfl)
theorem dX9_bytesOf_1 : decode cX9_bytesOf 1 = .ok (.aload_n 0, 1) := dk_42 (dk_at dksX9_bytesOf_0 1 rfl rfl)
theorem dX9_bytesOf_2 : decode cX9_bytesOf 2 = .ok (.getfield 17, 3) := dk_180 0 17 (dk_at dksX9_bytesOf_0 2 rfl rfl)
theorem dX9_bytesOf_5 : decode cX9_bytesOf 5 = .ok (.iload_n 1, 1) := dk_27 (dk_at dksX9_bytesOf_0 5 rfl rfl)
theorem dX9_bytesOf_6 : decode cX9_bytesOf 6 = .ok (.iaload, 1) := dk_46 (dk_at dksX9_bytesOf_0 6 rfl rfl)
theorem dX9_bytesOf_7 : decode cX9_bytesOf 7 = .ok (.if_icmp .ge 17, 3) := dk_162 0 17 (dk_at dksX9_bytesOf_0 7 rfl rfl)
theorem dX9_bytesOf_10 : decode cX9_bytesOf 10 = .ok (.aload_n 0, 1) := dk_42 (dk_at dksX9_bytesOf_0 10 rfl rfl)
theorem dX9_bytesOf_11 : decode cX9_bytesOf 11 = .ok (.getfield 29, 3) := dk_180 0 29 (dk_at dksX9_bytesOf_0 11 rfl rfl)
theorem dX9_bytesOf_14 : decode cX9_bytesOf 14 = .ok (.bipush 100, 2) := dk_16 100 (dk_at dksX9_bytesOf_0 14 rfl rfl)
theorem dX9_bytesOf_16 : decode cX9_bytesOf 16 = .ok (.iload_n 1, 1) := dk_27 (dk_at dksX9_bytesOf_0 16 rfl rfl)
theorem dX9_bytesOf_17 : decode cX9_bytesOf 17 = .ok (.imul, 1) := dk_104 (dk_at dksX9_bytesOf_0 17 rfl rfl)
theorem dX9_bytesOf_18 : decode cX9_bytesOf 18 = .ok (.iload_n 2, 1) := dk_28 (dk_at dksX9_bytesOf_0 18 rfl rfl)
theorem dX9_bytesOf_19 : decode cX9_bytesOf 19 = .ok (.iadd, 1) := dk_96 (dk_at dksX9_bytesOf_0 19 rfl rfl)
theorem dX9_bytesOf_20 : decode cX9_bytesOf 20 = .ok (.iaload, 1) := dk_46 (dk_at dksX9_bytesOf_0 20 rfl rfl)
theorem dX9_bytesOf_21 : decode cX9_bytesOf 21 = .ok (.goto 21, 3) := dk_167 0 21 (dk_at dksX9_bytesOf_0 21 rfl rfl)
theorem dX9_bytesOf_24 : decode cX9_bytesOf 24 = .ok (.aload_n 0, 1) := dk_42 (dk_at dksX9_bytesOf_1 0 rfl rfl)
theorem dX9_bytesOf_25 : decode cX9_bytesOf 25 = .ok (.getfield 41, 3) := dk_180 0 41 (dk_at dksX9_bytesOf_1 1 rfl rfl)
theorem dX9_bytesOf_28 : decode cX9_bytesOf 28 = .ok (.bipush 10, 2) := dk_16 10 (dk_at dksX9_bytesOf_1 4 rfl rfl)
theorem dX9_bytesOf_30 : decode cX9_bytesOf 30 = .ok (.iload_n 1, 1) := dk_27 (dk_at dksX9_bytesOf_1 6 rfl rfl)
theorem dX9_bytesOf_31 : decode cX9_bytesOf 31 = .ok (.imul, 1) := dk_104 (dk_at dksX9_bytesOf_1 7 rfl rfl)
theorem dX9_bytesOf_32 : decode cX9_bytesOf 32 = .ok (.iload_n 2, 1) := dk_28 (dk_at dksX9_bytesOf_1 8 rfl rfl)
theorem dX9_bytesOf_33 : decode cX9_bytesOf 33 = .ok (.iadd, 1) := dk_96 (dk_at dksX9_bytesOf_1 9 rfl rfl)
theorem dX9_bytesOf_34 : decode cX9_bytesOf 34 = .ok (.aload_n 0, 1) := dk_42 (dk_at dksX9_bytesOf_1 10 rfl rfl)
theorem dX9_bytesOf_35 : decode cX9_bytesOf 35 = .ok (.getfield 17, 3) := dk_180 0 17 (dk_at dksX9_bytesOf_1 11 rfl rfl)
theorem dX9_bytesOf_38 : decode cX9_bytesOf 38 = .ok (.iload_n 1, 1) := dk_27 (dk_at dksX9_bytesOf_1 14 rfl rfl)
theorem dX9_bytesOf_39 : decode cX9_bytesOf 39 = .ok (.iaload, 1) := dk_46 (dk_at dksX9_bytesOf_1 15 rfl rfl)
theorem dX9_bytesOf_40 : decode cX9_bytesOf 40 = .ok (.isub, 1) := dk_100 (dk_at dksX9_bytesOf_1 16 rfl rfl)
theorem dX9_bytesOf_41 : decode cX9_bytesOf 41 = .ok (.iaload, 1) := dk_46 (dk_at dksX9_bytesOf_1 17 rfl rfl)
theorem dX9_bytesOf_42 : decode cX9_bytesOf 42 = .ok (.ireturn, 1) := dk_172 (dk_at dksX9_bytesOf_1 18 rfl rfl)
abbrev cX9_numberOf : ByteArray := prog_17_method_22_code
def yX9_numberOf : MethodName := ⟨RX9, "numberOf", "(II)I"⟩
def dkwX9_numberOf_1 : List UInt8 := [100, 172]
abbrev dktX9_numberOf_1 : List UInt8 := dkwX9_numberOf_1 ++ []
def dkwX9_numberOf_0 : List UInt8 := [28, 42, 180, 0, 17, 27, 46, 162, 0, 7, 28, 167, 0, 14, 16, 100, 28, 96, 42, 180, 0, 17, 27, 46]
abbrev dktX9_numberOf_0 : List UInt8 := dkwX9_numberOf_0 ++ dktX9_numberOf_1
theorem dksX9_numberOf_0 : cX9_numberOf.data.toList.drop 0 = dktX9_numberOf_0 := by decide +kernel
theorem dksX9_numberOf_1 : cX9_numberOf.data.toList.drop 24 = dktX9_numberOf_1 := dk_seg dksX9_numberOf_0 24 rfl rfl
theorem dX9_numberOf_0 : decode cX9_numberOf 0 = .ok (.iload_n 2, 1) := dk_28 (dk_at dksX9_numberOf_0 0 rfl rfl)
theorem dX9_numberOf_1 : decode cX9_numberOf 1 = .ok (.aload_n 0, 1) := dk_42 (dk_at dksX9_numberOf_0 1 rfl rfl)
theorem dX9_numberOf_2 : decode cX9_numberOf 2 = .ok (.getfield 17, 3) := dk_180 0 17 (dk_at dksX9_numberOf_0 2 rfl rfl)
theorem dX9_numberOf_5 : decode cX9_numberOf 5 = .ok (.iload_n 1, 1) := dk_27 (dk_at dksX9_numberOf_0 5 rfl rfl)
theorem dX9_numberOf_6 : decode cX9_numberOf 6 = .ok (.iaload, 1) := dk_46 (dk_at dksX9_numberOf_0 6 rfl rfl)
theorem dX9_numberOf_7 : decode cX9_numberOf 7 = .ok (.if_icmp .ge 7, 3) := dk_162 0 7 (dk_at dksX9_numberOf_0 7 rfl rfl)
theorem dX9_numberOf_10 : decode cX9_numberOf 10 = .ok (.iload_n 2, 1) := dk_28 (dk_at dksX9_numberOf_0 10 rfl rfl)
theorem dX9_numberOf_11 : decode cX9_numberOf 11 = .ok (.goto 14, 3) := dk_167 0 14 (dk_at dksX9_numberOf_0 11 rfl rfl)
theorem dX9_numberOf_14 : decode cX9_numberOf 14 = .ok (.bipush 100, 2) := dk_16 100 (dk_at dksX9_numberOf_0 14 rfl rfl)
theorem dX9_numberOf_16 : decode cX9_numberOf 16 = .ok (.iload_n 2, 1) := dk_28 (dk_at dksX9_numberOf_0 16 rfl rfl)
theorem dX9_numberOf_17 : decode cX9_numberOf 17 = .ok (.iadd, 1) := dk_96 (dk_at dksX9_numberOf_0 17 rfl rfl)
theorem dX9_numberOf_18 : decode cX9_numberOf 18 = .ok (.aload_n 0, 1) := dk_42 (dk_at dksX9_numberOf_0 18 rfl rfl)
theorem dX9_numberOf_19 : decode cX9_numberOf 19 = .ok (.getfield 17, 3) := dk_180 0 17 (dk_at dksX9_numberOf_0 19 rfl rfl)
theorem dX9_numberOf_22 : decode cX9_numberOf 22 = .ok (.iload_n 1, 1) := dk_27 (dk_at dksX9_numberOf_0 22 rfl rfl)
theorem dX9_numberOf_23 : decode cX9_numberOf 23 = .ok (.iaload, 1) := dk_46 (dk_at dksX9_numberOf_0 23 rfl rfl)
theorem dX9_numberOf_24 : decode cX9_numberOf 24 = .ok (.isub, 1) := dk_100 (dk_at dksX9_numberOf_1 0 rfl rfl)
theorem dX9_numberOf_25 : decode cX9_numberOf 25 = .ok (.ireturn, 1) := dk_172 (dk_at dksX9_numberOf_1 1 rfl rfl)
abbrev cX9_breaks : ByteArray := prog_17_method_26_code
def yX9_breaks : MethodName := ⟨RX9, "breaks", "(III)Z"⟩
def dkwX9_breaks_0 : List UInt8 := [42, 180, 0, 78, 3, 27, 79, 42, 180, 0, 78, 4, 28, 79, 42, 180, 0, 78, 5, 29, 79, 3, 172]
abbrev dktX9_breaks_0 : List UInt8 := dkwX9_breaks_0 ++ []
theorem dksX9_breaks_0 : cX9_breaks.data.toList.drop 0 = dktX9_breaks_0 := by decide +kernel
theorem dX9_breaks_0 : decode cX9_breaks 0 = .ok (.aload_n 0, 1) := dk_42 (dk_at dksX9_breaks_0 0 rfl rfl)
theorem dX9_breaks_1 : decode cX9_breaks 1 = .ok (.getfield 78, 3) := dk_180 0 78 (dk_at dksX9_breaks_0 1 rfl rfl)
theorem dX9_breaks_4 : decode cX9_breaks 4 = .ok (.iconst 0, 1) := dk_3 (dk_at dksX9_breaks_0 4 rfl rfl)
theorem dX9_breaks_5 : decode cX9_breaks 5 = .ok (.iload_n 1, 1) := dk_27 (dk_at dksX9_breaks_0 5 rfl rfl)
theorem dX9_breaks_6 : decode cX9_breaks 6 = .ok (.iastore, 1) := dk_79 (dk_at dksX9_breaks_0 6 rfl rfl)
theorem dX9_breaks_7 : decode cX9_breaks 7 = .ok (.aload_n 0, 1) := dk_42 (dk_at dksX9_breaks_0 7 rfl rfl)
theorem dX9_breaks_8 : decode cX9_breaks 8 = .ok (.getfield 78, 3) := dk_180 0 78 (dk_at dksX9_breaks_0 8 rfl rfl)
theorem dX9_breaks_11 : decode cX9_breaks 11 = .ok (.iconst 1, 1) := dk_4 (dk_at dksX9_breaks_0 11 rfl rfl)
theorem dX9_breaks_12 : decode cX9_breaks 12 = .ok (.iload_n 2, 1) := dk_28 (dk_at dksX9_breaks_0 12 rfl rfl)
theorem dX9_breaks_13 : decode cX9_breaks 13 = .ok (.iastore, 1) := dk_79 (dk_at dksX9_breaks_0 13 rfl rfl)
theorem dX9_breaks_14 : decode cX9_breaks 14 = .ok (.aload_n 0, 1) := dk_42 (dk_at dksX9_breaks_0 14 rfl rfl)
theorem dX9_breaks_15 : decode cX9_breaks 15 = .ok (.getfield 78, 3) := dk_180 0 78 (dk_at dksX9_breaks_0 15 rfl rfl)
theorem dX9_breaks_18 : decode cX9_breaks 18 = .ok (.iconst 2, 1) := dk_5 (dk_at dksX9_breaks_0 18 rfl rfl)
theorem dX9_breaks_19 : decode cX9_breaks 19 = .ok (.iload_n 3, 1) := dk_29 (dk_at dksX9_breaks_0 19 rfl rfl)
theorem dX9_breaks_20 : decode cX9_breaks 20 = .ok (.iastore, 1) := dk_79 (dk_at dksX9_breaks_0 20 rfl rfl)
theorem dX9_breaks_21 : decode cX9_breaks 21 = .ok (.iconst 0, 1) := dk_3 (dk_at dksX9_breaks_0 21 rfl rfl)
theorem dX9_breaks_22 : decode cX9_breaks 22 = .ok (.ireturn, 1) := dk_172 (dk_at dksX9_breaks_0 22 rfl rfl)
abbrev cX9_reach : ByteArray := prog_17_method_24_code
def yX9_reach : MethodName := ⟨RX9, "reach", "(I)V"⟩
def dkwX9_reach_4 : List UInt8 := [167, 255, 203, 132, 2, 1, 167, 255, 187, 177]
abbrev dktX9_reach_4 : List UInt8 := dkwX9_reach_4 ++ []
def dkwX9_reach_3 : List UInt8 := [180, 0, 38, 29, 46, 51, 153, 0, 15, 42, 180, 0, 75, 42, 180, 0, 44, 29, 46, 4, 84, 132, 3, 1]
abbrev dktX9_reach_3 : List UInt8 := dkwX9_reach_3 ++ dktX9_reach_4
def dkwX9_reach_2 : List UInt8 := [180, 0, 20, 27, 46, 96, 162, 0, 44, 42, 180, 0, 47, 29, 51, 153, 0, 29, 42, 180, 0, 75, 42]
abbrev dktX9_reach_2 : List UInt8 := dkwX9_reach_2 ++ dktX9_reach_3
def dkwX9_reach_1 : List UInt8 := [132, 2, 1, 167, 255, 233, 3, 61, 28, 7, 162, 0, 70, 16, 10, 27, 104, 62, 29, 16, 10, 27, 104, 42]
abbrev dktX9_reach_1 : List UInt8 := dkwX9_reach_1 ++ dktX9_reach_2
def dkwX9_reach_0 : List UInt8 := [3, 61, 28, 7, 162, 0, 24, 42, 180, 0, 75, 28, 28, 154, 0, 7, 4, 167, 0, 4, 3, 84]
abbrev dktX9_reach_0 : List UInt8 := dkwX9_reach_0 ++ dktX9_reach_1
theorem dksX9_reach_0 : cX9_reach.data.toList.drop 0 = dktX9_reach_0 := by decide +kernel
theorem dksX9_reach_1 : cX9_reach.data.toList.drop 22 = dktX9_reach_1 := dk_seg dksX9_reach_0 22 rfl rfl
theorem dksX9_reach_2 : cX9_reach.data.toList.drop 46 = dktX9_reach_2 := dk_seg dksX9_reach_1 24 rfl rfl
theorem dksX9_reach_3 : cX9_reach.data.toList.drop 69 = dktX9_reach_3 := dk_seg dksX9_reach_2 23 rfl rfl
theorem dksX9_reach_4 : cX9_reach.data.toList.drop 93 = dktX9_reach_4 := dk_seg dksX9_reach_3 24 rfl rfl
theorem dX9_reach_0 : decode cX9_reach 0 = .ok (.iconst 0, 1) := dk_3 (dk_at dksX9_reach_0 0 rfl rfl)
theorem dX9_reach_1 : decode cX9_reach 1 = .ok (.istore_n 2, 1) := dk_61 (dk_at dksX9_reach_0 1 rfl rfl)
theorem dX9_reach_2 : decode cX9_reach 2 = .ok (.iload_n 2, 1) := dk_28 (dk_at dksX9_reach_0 2 rfl rfl)
theorem dX9_reach_3 : decode cX9_reach 3 = .ok (.iconst 4, 1) := dk_7 (dk_at dksX9_reach_0 3 rfl rfl)
theorem dX9_reach_4 : decode cX9_reach 4 = .ok (.if_icmp .ge 24, 3) := dk_162 0 24 (dk_at dksX9_reach_0 4 rfl rfl)
theorem dX9_reach_7 : decode cX9_reach 7 = .ok (.aload_n 0, 1) := dk_42 (dk_at dksX9_reach_0 7 rfl rfl)
theorem dX9_reach_8 : decode cX9_reach 8 = .ok (.getfield 75, 3) := dk_180 0 75 (dk_at dksX9_reach_0 8 rfl rfl)
theorem dX9_reach_11 : decode cX9_reach 11 = .ok (.iload_n 2, 1) := dk_28 (dk_at dksX9_reach_0 11 rfl rfl)
theorem dX9_reach_12 : decode cX9_reach 12 = .ok (.iload_n 2, 1) := dk_28 (dk_at dksX9_reach_0 12 rfl rfl)
theorem dX9_reach_13 : decode cX9_reach 13 = .ok (.ifCond .ne 7, 3) := dk_154 0 7 (dk_at dksX9_reach_0 13 rfl rfl)
theorem dX9_reach_16 : decode cX9_reach 16 = .ok (.iconst 1, 1) := dk_4 (dk_at dksX9_reach_0 16 rfl rfl)
theorem dX9_reach_17 : decode cX9_reach 17 = .ok (.goto 4, 3) := dk_167 0 4 (dk_at dksX9_reach_0 17 rfl rfl)
theorem dX9_reach_20 : decode cX9_reach 20 = .ok (.iconst 0, 1) := dk_3 (dk_at dksX9_reach_0 20 rfl rfl)
theorem dX9_reach_21 : decode cX9_reach 21 = .ok (.bastore, 1) := dk_84 (dk_at dksX9_reach_0 21 rfl rfl)
theorem dX9_reach_22 : decode cX9_reach 22 = .ok (.iinc 2 1, 3) := dk_132 2 1 (dk_at dksX9_reach_1 0 rfl rfl)
theorem dX9_reach_25 : decode cX9_reach 25 = .ok (.goto (-23), 3) := dk_167 255 233 (dk_at dksX9_reach_1 3 rfl rfl)
theorem dX9_reach_28 : decode cX9_reach 28 = .ok (.iconst 0, 1) := dk_3 (dk_at dksX9_reach_1 6 rfl rfl)
theorem dX9_reach_29 : decode cX9_reach 29 = .ok (.istore_n 2, 1) := dk_61 (dk_at dksX9_reach_1 7 rfl rfl)
theorem dX9_reach_30 : decode cX9_reach 30 = .ok (.iload_n 2, 1) := dk_28 (dk_at dksX9_reach_1 8 rfl rfl)
theorem dX9_reach_31 : decode cX9_reach 31 = .ok (.iconst 4, 1) := dk_7 (dk_at dksX9_reach_1 9 rfl rfl)
theorem dX9_reach_32 : decode cX9_reach 32 = .ok (.if_icmp .ge 70, 3) := dk_162 0 70 (dk_at dksX9_reach_1 10 rfl rfl)
theorem dX9_reach_35 : decode cX9_reach 35 = .ok (.bipush 10, 2) := dk_16 10 (dk_at dksX9_reach_1 13 rfl rfl)
theorem dX9_reach_37 : decode cX9_reach 37 = .ok (.iload_n 1, 1) := dk_27 (dk_at dksX9_reach_1 15 rfl rfl)
theorem dX9_reach_38 : decode cX9_reach 38 = .ok (.imul, 1) := dk_104 (dk_at dksX9_reach_1 16 rfl rfl)
theorem dX9_reach_39 : decode cX9_reach 39 = .ok (.istore_n 3, 1) := dk_62 (dk_at dksX9_reach_1 17 rfl rfl)
theorem dX9_reach_40 : decode cX9_reach 40 = .ok (.iload_n 3, 1) := dk_29 (dk_at dksX9_reach_1 18 rfl rfl)
theorem dX9_reach_41 : decode cX9_reach 41 = .ok (.bipush 10, 2) := dk_16 10 (dk_at dksX9_reach_1 19 rfl rfl)
theorem dX9_reach_43 : decode cX9_reach 43 = .ok (.iload_n 1, 1) := dk_27 (dk_at dksX9_reach_1 21 rfl rfl)
theorem dX9_reach_44 : decode cX9_reach 44 = .ok (.imul, 1) := dk_104 (dk_at dksX9_reach_1 22 rfl rfl)
theorem dX9_reach_45 : decode cX9_reach 45 = .ok (.aload_n 0, 1) := dk_42 (dk_at dksX9_reach_1 23 rfl rfl)
theorem dX9_reach_46 : decode cX9_reach 46 = .ok (.getfield 20, 3) := dk_180 0 20 (dk_at dksX9_reach_2 0 rfl rfl)
theorem dX9_reach_49 : decode cX9_reach 49 = .ok (.iload_n 1, 1) := dk_27 (dk_at dksX9_reach_2 3 rfl rfl)
theorem dX9_reach_50 : decode cX9_reach 50 = .ok (.iaload, 1) := dk_46 (dk_at dksX9_reach_2 4 rfl rfl)
theorem dX9_reach_51 : decode cX9_reach 51 = .ok (.iadd, 1) := dk_96 (dk_at dksX9_reach_2 5 rfl rfl)
theorem dX9_reach_52 : decode cX9_reach 52 = .ok (.if_icmp .ge 44, 3) := dk_162 0 44 (dk_at dksX9_reach_2 6 rfl rfl)
theorem dX9_reach_55 : decode cX9_reach 55 = .ok (.aload_n 0, 1) := dk_42 (dk_at dksX9_reach_2 9 rfl rfl)
theorem dX9_reach_56 : decode cX9_reach 56 = .ok (.getfield 47, 3) := dk_180 0 47 (dk_at dksX9_reach_2 10 rfl rfl)
theorem dX9_reach_59 : decode cX9_reach 59 = .ok (.iload_n 3, 1) := dk_29 (dk_at dksX9_reach_2 13 rfl rfl)
theorem dX9_reach_60 : decode cX9_reach 60 = .ok (.baload, 1) := dk_51 (dk_at dksX9_reach_2 14 rfl rfl)
theorem dX9_reach_61 : decode cX9_reach 61 = .ok (.ifCond .eq 29, 3) := dk_153 0 29 (dk_at dksX9_reach_2 15 rfl rfl)
theorem dX9_reach_64 : decode cX9_reach 64 = .ok (.aload_n 0, 1) := dk_42 (dk_at dksX9_reach_2 18 rfl rfl)
theorem dX9_reach_65 : decode cX9_reach 65 = .ok (.getfield 75, 3) := dk_180 0 75 (dk_at dksX9_reach_2 19 rfl rfl)
theorem dX9_reach_68 : decode cX9_reach 68 = .ok (.aload_n 0, 1) := dk_42 (dk_at dksX9_reach_2 22 rfl rfl)
theorem dX9_reach_69 : decode cX9_reach 69 = .ok (.getfield 38, 3) := dk_180 0 38 (dk_at dksX9_reach_3 0 rfl rfl)
theorem dX9_reach_72 : decode cX9_reach 72 = .ok (.iload_n 3, 1) := dk_29 (dk_at dksX9_reach_3 3 rfl rfl)
theorem dX9_reach_73 : decode cX9_reach 73 = .ok (.iaload, 1) := dk_46 (dk_at dksX9_reach_3 4 rfl rfl)
theorem dX9_reach_74 : decode cX9_reach 74 = .ok (.baload, 1) := dk_51 (dk_at dksX9_reach_3 5 rfl rfl)
theorem dX9_reach_75 : decode cX9_reach 75 = .ok (.ifCond .eq 15, 3) := dk_153 0 15 (dk_at dksX9_reach_3 6 rfl rfl)
theorem dX9_reach_78 : decode cX9_reach 78 = .ok (.aload_n 0, 1) := dk_42 (dk_at dksX9_reach_3 9 rfl rfl)
theorem dX9_reach_79 : decode cX9_reach 79 = .ok (.getfield 75, 3) := dk_180 0 75 (dk_at dksX9_reach_3 10 rfl rfl)
theorem dX9_reach_82 : decode cX9_reach 82 = .ok (.aload_n 0, 1) := dk_42 (dk_at dksX9_reach_3 13 rfl rfl)
theorem dX9_reach_83 : decode cX9_reach 83 = .ok (.getfield 44, 3) := dk_180 0 44 (dk_at dksX9_reach_3 14 rfl rfl)
theorem dX9_reach_86 : decode cX9_reach 86 = .ok (.iload_n 3, 1) := dk_29 (dk_at dksX9_reach_3 17 rfl rfl)
theorem dX9_reach_87 : decode cX9_reach 87 = .ok (.iaload, 1) := dk_46 (dk_at dksX9_reach_3 18 rfl rfl)
theorem dX9_reach_88 : decode cX9_reach 88 = .ok (.iconst 1, 1) := dk_4 (dk_at dksX9_reach_3 19 rfl rfl)
theorem dX9_reach_89 : decode cX9_reach 89 = .ok (.bastore, 1) := dk_84 (dk_at dksX9_reach_3 20 rfl rfl)
theorem dX9_reach_90 : decode cX9_reach 90 = .ok (.iinc 3 1, 3) := dk_132 3 1 (dk_at dksX9_reach_3 21 rfl rfl)
theorem dX9_reach_93 : decode cX9_reach 93 = .ok (.goto (-53), 3) := dk_167 255 203 (dk_at dksX9_reach_4 0 rfl rfl)
theorem dX9_reach_96 : decode cX9_reach 96 = .ok (.iinc 2 1, 3) := dk_132 2 1 (dk_at dksX9_reach_4 3 rfl rfl)
theorem dX9_reach_99 : decode cX9_reach 99 = .ok (.goto (-69), 3) := dk_167 255 187 (dk_at dksX9_reach_4 6 rfl rfl)
theorem dX9_reach_102 : decode cX9_reach 102 = .ok (.return_, 1) := dk_177 (dk_at dksX9_reach_4 9 rfl rfl)
abbrev cX9_comesHome : ByteArray := prog_17_method_25_code
def yX9_comesHome : MethodName := ⟨RX9, "comesHome", "(II)Z"⟩
def dkwX9_comesHome_4 : List UInt8 := [3, 172]
abbrev dktX9_comesHome_4 : List UInt8 := dkwX9_comesHome_4 ++ []
def dkwX9_comesHome_3 : List UInt8 := [62, 132, 5, 1, 167, 255, 200, 132, 4, 1, 167, 255, 182, 29, 4, 126, 4, 160, 0, 7, 4, 167, 0, 4]
abbrev dktX9_comesHome_3 : List UInt8 := dkwX9_comesHome_3 ++ dktX9_comesHome_4
def dkwX9_comesHome_2 : List UInt8 := [180, 0, 38, 21, 5, 46, 122, 4, 126, 4, 160, 0, 15, 29, 4, 42, 180, 0, 44, 21, 5, 46, 120, 128]
abbrev dktX9_comesHome_2 : List UInt8 := dkwX9_comesHome_2 ++ dktX9_comesHome_3
def dkwX9_comesHome_1 : List UInt8 := [104, 42, 180, 0, 20, 27, 46, 96, 162, 0, 46, 42, 180, 0, 47, 21, 5, 51, 153, 0, 30, 29, 42]
abbrev dktX9_comesHome_1 : List UInt8 := dkwX9_comesHome_1 ++ dktX9_comesHome_2
def dkwX9_comesHome_0 : List UInt8 := [4, 28, 120, 62, 3, 54, 4, 21, 4, 7, 162, 0, 74, 16, 10, 27, 104, 54, 5, 21, 5, 16, 10, 27]
abbrev dktX9_comesHome_0 : List UInt8 := dkwX9_comesHome_0 ++ dktX9_comesHome_1
theorem dksX9_comesHome_0 : cX9_comesHome.data.toList.drop 0 = dktX9_comesHome_0 := by decide +kernel
theorem dksX9_comesHome_1 : cX9_comesHome.data.toList.drop 24 = dktX9_comesHome_1 := dk_seg dksX9_comesHome_0 24 rfl rfl
theorem dksX9_comesHome_2 : cX9_comesHome.data.toList.drop 47 = dktX9_comesHome_2 := dk_seg dksX9_comesHome_1 23 rfl rfl
theorem dksX9_comesHome_3 : cX9_comesHome.data.toList.drop 71 = dktX9_comesHome_3 := dk_seg dksX9_comesHome_2 24 rfl rfl
theorem dksX9_comesHome_4 : cX9_comesHome.data.toList.drop 95 = dktX9_comesHome_4 := dk_seg dksX9_comesHome_3 24 rfl rfl
theorem dX9_comesHome_0 : decode cX9_comesHome 0 = .ok (.iconst 1, 1) := dk_4 (dk_at dksX9_comesHome_0 0 rfl rfl)
theorem dX9_comesHome_1 : decode cX9_comesHome 1 = .ok (.iload_n 2, 1) := dk_28 (dk_at dksX9_comesHome_0 1 rfl rfl)
theorem dX9_comesHome_2 : decode cX9_comesHome 2 = .ok (.ishl, 1) := dk_120 (dk_at dksX9_comesHome_0 2 rfl rfl)
theorem dX9_comesHome_3 : decode cX9_comesHome 3 = .ok (.istore_n 3, 1) := dk_62 (dk_at dksX9_comesHome_0 3 rfl rfl)
theorem dX9_comesHome_4 : decode cX9_comesHome 4 = .ok (.iconst 0, 1) := dk_3 (dk_at dksX9_comesHome_0 4 rfl rfl)
theorem dX9_comesHome_5 : decode cX9_comesHome 5 = .ok (.istore 4, 2) := dk_54 4 (dk_at dksX9_comesHome_0 5 rfl rfl)
theorem dX9_comesHome_7 : decode cX9_comesHome 7 = .ok (.iload 4, 2) := dk_21 4 (dk_at dksX9_comesHome_0 7 rfl rfl)
theorem dX9_comesHome_9 : decode cX9_comesHome 9 = .ok (.iconst 4, 1) := dk_7 (dk_at dksX9_comesHome_0 9 rfl rfl)
theorem dX9_comesHome_10 : decode cX9_comesHome 10 = .ok (.if_icmp .ge 74, 3) := dk_162 0 74 (dk_at dksX9_comesHome_0 10 rfl rfl)
theorem dX9_comesHome_13 : decode cX9_comesHome 13 = .ok (.bipush 10, 2) := dk_16 10 (dk_at dksX9_comesHome_0 13 rfl rfl)
theorem dX9_comesHome_15 : decode cX9_comesHome 15 = .ok (.iload_n 1, 1) := dk_27 (dk_at dksX9_comesHome_0 15 rfl rfl)
theorem dX9_comesHome_16 : decode cX9_comesHome 16 = .ok (.imul, 1) := dk_104 (dk_at dksX9_comesHome_0 16 rfl rfl)
theorem dX9_comesHome_17 : decode cX9_comesHome 17 = .ok (.istore 5, 2) := dk_54 5 (dk_at dksX9_comesHome_0 17 rfl rfl)
theorem dX9_comesHome_19 : decode cX9_comesHome 19 = .ok (.iload 5, 2) := dk_21 5 (dk_at dksX9_comesHome_0 19 rfl rfl)
theorem dX9_comesHome_21 : decode cX9_comesHome 21 = .ok (.bipush 10, 2) := dk_16 10 (dk_at dksX9_comesHome_0 21 rfl rfl)
theorem dX9_comesHome_23 : decode cX9_comesHome 23 = .ok (.iload_n 1, 1) := dk_27 (dk_at dksX9_comesHome_0 23 rfl rfl)
theorem dX9_comesHome_24 : decode cX9_comesHome 24 = .ok (.imul, 1) := dk_104 (dk_at dksX9_comesHome_1 0 rfl rfl)
theorem dX9_comesHome_25 : decode cX9_comesHome 25 = .ok (.aload_n 0, 1) := dk_42 (dk_at dksX9_comesHome_1 1 rfl rfl)
theorem dX9_comesHome_26 : decode cX9_comesHome 26 = .ok (.getfield 20, 3) := dk_180 0 20 (dk_at dksX9_comesHome_1 2 rfl rfl)
theorem dX9_comesHome_29 : decode cX9_comesHome 29 = .ok (.iload_n 1, 1) := dk_27 (dk_at dksX9_comesHome_1 5 rfl rfl)
theorem dX9_comesHome_30 : decode cX9_comesHome 30 = .ok (.iaload, 1) := dk_46 (dk_at dksX9_comesHome_1 6 rfl rfl)
theorem dX9_comesHome_31 : decode cX9_comesHome 31 = .ok (.iadd, 1) := dk_96 (dk_at dksX9_comesHome_1 7 rfl rfl)
theorem dX9_comesHome_32 : decode cX9_comesHome 32 = .ok (.if_icmp .ge 46, 3) := dk_162 0 46 (dk_at dksX9_comesHome_1 8 rfl rfl)
theorem dX9_comesHome_35 : decode cX9_comesHome 35 = .ok (.aload_n 0, 1) := dk_42 (dk_at dksX9_comesHome_1 11 rfl rfl)
theorem dX9_comesHome_36 : decode cX9_comesHome 36 = .ok (.getfield 47, 3) := dk_180 0 47 (dk_at dksX9_comesHome_1 12 rfl rfl)
theorem dX9_comesHome_39 : decode cX9_comesHome 39 = .ok (.iload 5, 2) := dk_21 5 (dk_at dksX9_comesHome_1 15 rfl rfl)
theorem dX9_comesHome_41 : decode cX9_comesHome 41 = .ok (.baload, 1) := dk_51 (dk_at dksX9_comesHome_1 17 rfl rfl)
theorem dX9_comesHome_42 : decode cX9_comesHome 42 = .ok (.ifCond .eq 30, 3) := dk_153 0 30 (dk_at dksX9_comesHome_1 18 rfl rfl)
theorem dX9_comesHome_45 : decode cX9_comesHome 45 = .ok (.iload_n 3, 1) := dk_29 (dk_at dksX9_comesHome_1 21 rfl rfl)
theorem dX9_comesHome_46 : decode cX9_comesHome 46 = .ok (.aload_n 0, 1) := dk_42 (dk_at dksX9_comesHome_1 22 rfl rfl)
theorem dX9_comesHome_47 : decode cX9_comesHome 47 = .ok (.getfield 38, 3) := dk_180 0 38 (dk_at dksX9_comesHome_2 0 rfl rfl)
theorem dX9_comesHome_50 : decode cX9_comesHome 50 = .ok (.iload 5, 2) := dk_21 5 (dk_at dksX9_comesHome_2 3 rfl rfl)
theorem dX9_comesHome_52 : decode cX9_comesHome 52 = .ok (.iaload, 1) := dk_46 (dk_at dksX9_comesHome_2 5 rfl rfl)
theorem dX9_comesHome_53 : decode cX9_comesHome 53 = .ok (.ishr, 1) := dk_122 (dk_at dksX9_comesHome_2 6 rfl rfl)
theorem dX9_comesHome_54 : decode cX9_comesHome 54 = .ok (.iconst 1, 1) := dk_4 (dk_at dksX9_comesHome_2 7 rfl rfl)
theorem dX9_comesHome_55 : decode cX9_comesHome 55 = .ok (.iand, 1) := dk_126 (dk_at dksX9_comesHome_2 8 rfl rfl)
theorem dX9_comesHome_56 : decode cX9_comesHome 56 = .ok (.iconst 1, 1) := dk_4 (dk_at dksX9_comesHome_2 9 rfl rfl)
theorem dX9_comesHome_57 : decode cX9_comesHome 57 = .ok (.if_icmp .ne 15, 3) := dk_160 0 15 (dk_at dksX9_comesHome_2 10 rfl rfl)
theorem dX9_comesHome_60 : decode cX9_comesHome 60 = .ok (.iload_n 3, 1) := dk_29 (dk_at dksX9_comesHome_2 13 rfl rfl)
theorem dX9_comesHome_61 : decode cX9_comesHome 61 = .ok (.iconst 1, 1) := dk_4 (dk_at dksX9_comesHome_2 14 rfl rfl)
theorem dX9_comesHome_62 : decode cX9_comesHome 62 = .ok (.aload_n 0, 1) := dk_42 (dk_at dksX9_comesHome_2 15 rfl rfl)
theorem dX9_comesHome_63 : decode cX9_comesHome 63 = .ok (.getfield 44, 3) := dk_180 0 44 (dk_at dksX9_comesHome_2 16 rfl rfl)
theorem dX9_comesHome_66 : decode cX9_comesHome 66 = .ok (.iload 5, 2) := dk_21 5 (dk_at dksX9_comesHome_2 19 rfl rfl)
theorem dX9_comesHome_68 : decode cX9_comesHome 68 = .ok (.iaload, 1) := dk_46 (dk_at dksX9_comesHome_2 21 rfl rfl)
theorem dX9_comesHome_69 : decode cX9_comesHome 69 = .ok (.ishl, 1) := dk_120 (dk_at dksX9_comesHome_2 22 rfl rfl)
theorem dX9_comesHome_70 : decode cX9_comesHome 70 = .ok (.ior, 1) := dk_128 (dk_at dksX9_comesHome_2 23 rfl rfl)
theorem dX9_comesHome_71 : decode cX9_comesHome 71 = .ok (.istore_n 3, 1) := dk_62 (dk_at dksX9_comesHome_3 0 rfl rfl)
theorem dX9_comesHome_72 : decode cX9_comesHome 72 = .ok (.iinc 5 1, 3) := dk_132 5 1 (dk_at dksX9_comesHome_3 1 rfl rfl)
theorem dX9_comesHome_75 : decode cX9_comesHome 75 = .ok (.goto (-56), 3) := dk_167 255 200 (dk_at dksX9_comesHome_3 4 rfl rfl)
theorem dX9_comesHome_78 : decode cX9_comesHome 78 = .ok (.iinc 4 1, 3) := dk_132 4 1 (dk_at dksX9_comesHome_3 7 rfl rfl)
theorem dX9_comesHome_81 : decode cX9_comesHome 81 = .ok (.goto (-74), 3) := dk_167 255 182 (dk_at dksX9_comesHome_3 10 rfl rfl)
theorem dX9_comesHome_84 : decode cX9_comesHome 84 = .ok (.iload_n 3, 1) := dk_29 (dk_at dksX9_comesHome_3 13 rfl rfl)
theorem dX9_comesHome_85 : decode cX9_comesHome 85 = .ok (.iconst 1, 1) := dk_4 (dk_at dksX9_comesHome_3 14 rfl rfl)
theorem dX9_comesHome_86 : decode cX9_comesHome 86 = .ok (.iand, 1) := dk_126 (dk_at dksX9_comesHome_3 15 rfl rfl)
theorem dX9_comesHome_87 : decode cX9_comesHome 87 = .ok (.iconst 1, 1) := dk_4 (dk_at dksX9_comesHome_3 16 rfl rfl)
theorem dX9_comesHome_88 : decode cX9_comesHome 88 = .ok (.if_icmp .ne 7, 3) := dk_160 0 7 (dk_at dksX9_comesHome_3 17 rfl rfl)
theorem dX9_comesHome_91 : decode cX9_comesHome 91 = .ok (.iconst 1, 1) := dk_4 (dk_at dksX9_comesHome_3 20 rfl rfl)
theorem dX9_comesHome_92 : decode cX9_comesHome 92 = .ok (.goto 4, 3) := dk_167 0 4 (dk_at dksX9_comesHome_3 21 rfl rfl)
theorem dX9_comesHome_95 : decode cX9_comesHome 95 = .ok (.iconst 0, 1) := dk_3 (dk_at dksX9_comesHome_4 0 rfl rfl)
theorem dX9_comesHome_96 : decode cX9_comesHome 96 = .ok (.ireturn, 1) := dk_172 (dk_at dksX9_comesHome_4 1 rfl rfl)
abbrev cX9_size : ByteArray := prog_17_method_29_code
def yX9_size : MethodName := ⟨RX9, "size", "(II)I"⟩
def dkwX9_size_3 : List UInt8 := [167, 0, 9, 42, 180, 0, 20, 27, 46, 172]
abbrev dktX9_size_3 : List UInt8 := dkwX9_size_3 ++ []
def dkwX9_size_2 : List UInt8 := [153, 0, 7, 4, 167, 0, 27, 3, 167, 0, 23, 28, 5, 160, 0, 12, 42, 180, 0, 17, 27, 46]
abbrev dktX9_size_2 : List UInt8 := dkwX9_size_2 ++ dktX9_size_3
def dkwX9_size_1 : List UInt8 := [154, 0, 12, 42, 180, 0, 9, 27, 46, 167, 0, 45, 28, 4, 160, 0, 20, 42, 180, 0, 13, 27, 51]
abbrev dktX9_size_1 : List UInt8 := dkwX9_size_1 ++ dktX9_size_2
def dkwX9_size_0 : List UInt8 := [42, 27, 182, 0, 170, 153, 0, 12, 28, 3, 6, 184, 0, 156, 154, 0, 9, 42, 2, 182, 0, 166, 172, 28]
abbrev dktX9_size_0 : List UInt8 := dkwX9_size_0 ++ dktX9_size_1
theorem dksX9_size_0 : cX9_size.data.toList.drop 0 = dktX9_size_0 := by decide +kernel
theorem dksX9_size_1 : cX9_size.data.toList.drop 24 = dktX9_size_1 := dk_seg dksX9_size_0 24 rfl rfl
theorem dksX9_size_2 : cX9_size.data.toList.drop 47 = dktX9_size_2 := dk_seg dksX9_size_1 23 rfl rfl
theorem dksX9_size_3 : cX9_size.data.toList.drop 69 = dktX9_size_3 := dk_seg dksX9_size_2 22 rfl rfl
theorem dX9_size_0 : decode cX9_size 0 = .ok (.aload_n 0, 1) := dk_42 (dk_at dksX9_size_0 0 rfl rfl)
theorem dX9_size_1 : decode cX9_size 1 = .ok (.iload_n 1, 1) := dk_27 (dk_at dksX9_size_0 1 rfl rfl)
theorem dX9_size_2 : decode cX9_size 2 = .ok (.invokevirtual 170, 3) := dk_182 0 170 (dk_at dksX9_size_0 2 rfl rfl)
theorem dX9_size_5 : decode cX9_size 5 = .ok (.ifCond .eq 12, 3) := dk_153 0 12 (dk_at dksX9_size_0 5 rfl rfl)
theorem dX9_size_8 : decode cX9_size 8 = .ok (.iload_n 2, 1) := dk_28 (dk_at dksX9_size_0 8 rfl rfl)
theorem dX9_size_9 : decode cX9_size 9 = .ok (.iconst 0, 1) := dk_3 (dk_at dksX9_size_0 9 rfl rfl)
theorem dX9_size_10 : decode cX9_size 10 = .ok (.iconst 3, 1) := dk_6 (dk_at dksX9_size_0 10 rfl rfl)
theorem dX9_size_11 : decode cX9_size 11 = .ok (.invokestatic 156, 3) := dk_184 0 156 (dk_at dksX9_size_0 11 rfl rfl)
theorem dX9_size_14 : decode cX9_size 14 = .ok (.ifCond .ne 9, 3) := dk_154 0 9 (dk_at dksX9_size_0 14 rfl rfl)
theorem dX9_size_17 : decode cX9_size 17 = .ok (.aload_n 0, 1) := dk_42 (dk_at dksX9_size_0 17 rfl rfl)
theorem dX9_size_18 : decode cX9_size 18 = .ok (.iconst (-1), 1) := dk_2 (dk_at dksX9_size_0 18 rfl rfl)
theorem dX9_size_19 : decode cX9_size 19 = .ok (.invokevirtual 166, 3) := dk_182 0 166 (dk_at dksX9_size_0 19 rfl rfl)
theorem dX9_size_22 : decode cX9_size 22 = .ok (.ireturn, 1) := dk_172 (dk_at dksX9_size_0 22 rfl rfl)
theorem dX9_size_23 : decode cX9_size 23 = .ok (.iload_n 2, 1) := dk_28 (dk_at dksX9_size_0 23 rfl rfl)
theorem dX9_size_24 : decode cX9_size 24 = .ok (.ifCond .ne 12, 3) := dk_154 0 12 (dk_at dksX9_size_1 0 rfl rfl)
theorem dX9_size_27 : decode cX9_size 27 = .ok (.aload_n 0, 1) := dk_42 (dk_at dksX9_size_1 3 rfl rfl)
theorem dX9_size_28 : decode cX9_size 28 = .ok (.getfield 9, 3) := dk_180 0 9 (dk_at dksX9_size_1 4 rfl rfl)
theorem dX9_size_31 : decode cX9_size 31 = .ok (.iload_n 1, 1) := dk_27 (dk_at dksX9_size_1 7 rfl rfl)
theorem dX9_size_32 : decode cX9_size 32 = .ok (.iaload, 1) := dk_46 (dk_at dksX9_size_1 8 rfl rfl)
theorem dX9_size_33 : decode cX9_size 33 = .ok (.goto 45, 3) := dk_167 0 45 (dk_at dksX9_size_1 9 rfl rfl)
theorem dX9_size_36 : decode cX9_size 36 = .ok (.iload_n 2, 1) := dk_28 (dk_at dksX9_size_1 12 rfl rfl)
theorem dX9_size_37 : decode cX9_size 37 = .ok (.iconst 1, 1) := dk_4 (dk_at dksX9_size_1 13 rfl rfl)
theorem dX9_size_38 : decode cX9_size 38 = .ok (.if_icmp .ne 20, 3) := dk_160 0 20 (dk_at dksX9_size_1 14 rfl rfl)
theorem dX9_size_41 : decode cX9_size 41 = .ok (.aload_n 0, 1) := dk_42 (dk_at dksX9_size_1 17 rfl rfl)
theorem dX9_size_42 : decode cX9_size 42 = .ok (.getfield 13, 3) := dk_180 0 13 (dk_at dksX9_size_1 18 rfl rfl)
theorem dX9_size_45 : decode cX9_size 45 = .ok (.iload_n 1, 1) := dk_27 (dk_at dksX9_size_1 21 rfl rfl)
theorem dX9_size_46 : decode cX9_size 46 = .ok (.baload, 1) := dk_51 (dk_at dksX9_size_1 22 rfl rfl)
theorem dX9_size_47 : decode cX9_size 47 = .ok (.ifCond .eq 7, 3) := dk_153 0 7 (dk_at dksX9_size_2 0 rfl rfl)
theorem dX9_size_50 : decode cX9_size 50 = .ok (.iconst 1, 1) := dk_4 (dk_at dksX9_size_2 3 rfl rfl)
theorem dX9_size_51 : decode cX9_size 51 = .ok (.goto 27, 3) := dk_167 0 27 (dk_at dksX9_size_2 4 rfl rfl)
theorem dX9_size_54 : decode cX9_size 54 = .ok (.iconst 0, 1) := dk_3 (dk_at dksX9_size_2 7 rfl rfl)
theorem dX9_size_55 : decode cX9_size 55 = .ok (.goto 23, 3) := dk_167 0 23 (dk_at dksX9_size_2 8 rfl rfl)
theorem dX9_size_58 : decode cX9_size 58 = .ok (.iload_n 2, 1) := dk_28 (dk_at dksX9_size_2 11 rfl rfl)
theorem dX9_size_59 : decode cX9_size 59 = .ok (.iconst 2, 1) := dk_5 (dk_at dksX9_size_2 12 rfl rfl)
theorem dX9_size_60 : decode cX9_size 60 = .ok (.if_icmp .ne 12, 3) := dk_160 0 12 (dk_at dksX9_size_2 13 rfl rfl)
theorem dX9_size_63 : decode cX9_size 63 = .ok (.aload_n 0, 1) := dk_42 (dk_at dksX9_size_2 16 rfl rfl)
theorem dX9_size_64 : decode cX9_size 64 = .ok (.getfield 17, 3) := dk_180 0 17 (dk_at dksX9_size_2 17 rfl rfl)
theorem dX9_size_67 : decode cX9_size 67 = .ok (.iload_n 1, 1) := dk_27 (dk_at dksX9_size_2 20 rfl rfl)
theorem dX9_size_68 : decode cX9_size 68 = .ok (.iaload, 1) := dk_46 (dk_at dksX9_size_2 21 rfl rfl)
theorem dX9_size_69 : decode cX9_size 69 = .ok (.goto 9, 3) := dk_167 0 9 (dk_at dksX9_size_3 0 rfl rfl)
theorem dX9_size_72 : decode cX9_size 72 = .ok (.aload_n 0, 1) := dk_42 (dk_at dksX9_size_3 3 rfl rfl)
theorem dX9_size_73 : decode cX9_size 73 = .ok (.getfield 20, 3) := dk_180 0 20 (dk_at dksX9_size_3 4 rfl rfl)
theorem dX9_size_76 : decode cX9_size 76 = .ok (.iload_n 1, 1) := dk_27 (dk_at dksX9_size_3 7 rfl rfl)
theorem dX9_size_77 : decode cX9_size 77 = .ok (.iaload, 1) := dk_46 (dk_at dksX9_size_3 8 rfl rfl)
theorem dX9_size_78 : decode cX9_size 78 = .ok (.ireturn, 1) := dk_172 (dk_at dksX9_size_3 9 rfl rfl)
abbrev cX9_code : ByteArray := prog_17_method_36_code
def yX9_code : MethodName := ⟨RX9, "code", "(II)J"⟩
def dkwX9_code_4 : List UInt8 := [167, 255, 230, 33, 42, 180, 0, 228, 133, 16, 32, 121, 129, 173]
abbrev dktX9_code_4 : List UInt8 := dkwX9_code_4 ++ []
def dkwX9_code_3 : List UInt8 := [180, 0, 228, 162, 0, 23, 33, 16, 8, 121, 42, 180, 0, 81, 21, 5, 46, 133, 129, 66, 132, 5, 1]
abbrev dktX9_code_3 : List UInt8 := dkwX9_code_3 ++ dktX9_code_4
def dkwX9_code_2 : List UInt8 := [28, 182, 0, 252, 154, 0, 11, 42, 16, 254, 182, 0, 166, 133, 173, 9, 66, 3, 54, 5, 21, 5, 42]
abbrev dktX9_code_2 : List UInt8 := dkwX9_code_2 ++ dktX9_code_3
def dkwX9_code_1 : List UInt8 := [42, 16, 251, 182, 0, 166, 133, 173, 28, 184, 0, 187, 154, 0, 10, 42, 2, 182, 0, 166, 133, 173, 42, 27]
abbrev dktX9_code_1 : List UInt8 := dkwX9_code_1 ++ dktX9_code_2
def dkwX9_code_0 : List UInt8 := [42, 27, 182, 0, 170, 154, 0, 10, 42, 2, 182, 0, 166, 133, 173, 42, 180, 0, 13, 27, 51, 154, 0, 11]
abbrev dktX9_code_0 : List UInt8 := dkwX9_code_0 ++ dktX9_code_1
theorem dksX9_code_0 : cX9_code.data.toList.drop 0 = dktX9_code_0 := by decide +kernel
theorem dksX9_code_1 : cX9_code.data.toList.drop 24 = dktX9_code_1 := dk_seg dksX9_code_0 24 rfl rfl
theorem dksX9_code_2 : cX9_code.data.toList.drop 48 = dktX9_code_2 := dk_seg dksX9_code_1 24 rfl rfl
theorem dksX9_code_3 : cX9_code.data.toList.drop 71 = dktX9_code_3 := dk_seg dksX9_code_2 23 rfl rfl
theorem dksX9_code_4 : cX9_code.data.toList.drop 94 = dktX9_code_4 := dk_seg dksX9_code_3 23 rfl rfl
theorem dX9_code_0 : decode cX9_code 0 = .ok (.aload_n 0, 1) := dk_42 (dk_at dksX9_code_0 0 rfl rfl)
theorem dX9_code_1 : decode cX9_code 1 = .ok (.iload_n 1, 1) := dk_27 (dk_at dksX9_code_0 1 rfl rfl)
theorem dX9_code_2 : decode cX9_code 2 = .ok (.invokevirtual 170, 3) := dk_182 0 170 (dk_at dksX9_code_0 2 rfl rfl)
theorem dX9_code_5 : decode cX9_code 5 = .ok (.ifCond .ne 10, 3) := dk_154 0 10 (dk_at dksX9_code_0 5 rfl rfl)
theorem dX9_code_8 : decode cX9_code 8 = .ok (.aload_n 0, 1) := dk_42 (dk_at dksX9_code_0 8 rfl rfl)
theorem dX9_code_9 : decode cX9_code 9 = .ok (.iconst (-1), 1) := dk_2 (dk_at dksX9_code_0 9 rfl rfl)
theorem dX9_code_10 : decode cX9_code 10 = .ok (.invokevirtual 166, 3) := dk_182 0 166 (dk_at dksX9_code_0 10 rfl rfl)
theorem dX9_code_13 : decode cX9_code 13 = .ok (.i2l, 1) := dk_133 (dk_at dksX9_code_0 13 rfl rfl)
theorem dX9_code_14 : decode cX9_code 14 = .ok (.lreturn, 1) := dk_173 (dk_at dksX9_code_0 14 rfl rfl)
theorem dX9_code_15 : decode cX9_code 15 = .ok (.aload_n 0, 1) := dk_42 (dk_at dksX9_code_0 15 rfl rfl)
theorem dX9_code_16 : decode cX9_code 16 = .ok (.getfield 13, 3) := dk_180 0 13 (dk_at dksX9_code_0 16 rfl rfl)
theorem dX9_code_19 : decode cX9_code 19 = .ok (.iload_n 1, 1) := dk_27 (dk_at dksX9_code_0 19 rfl rfl)
theorem dX9_code_20 : decode cX9_code 20 = .ok (.baload, 1) := dk_51 (dk_at dksX9_code_0 20 rfl rfl)
theorem dX9_code_21 : decode cX9_code 21 = .ok (.ifCond .ne 11, 3) := dk_154 0 11 (dk_at dksX9_code_0 21 rfl rfl)
theorem dX9_code_24 : decode cX9_code 24 = .ok (.aload_n 0, 1) := dk_42 (dk_at dksX9_code_1 0 rfl rfl)
theorem dX9_code_25 : decode cX9_code 25 = .ok (.bipush (-5), 2) := dk_16 251 (dk_at dksX9_code_1 1 rfl rfl)
theorem dX9_code_27 : decode cX9_code 27 = .ok (.invokevirtual 166, 3) := dk_182 0 166 (dk_at dksX9_code_1 3 rfl rfl)
theorem dX9_code_30 : decode cX9_code 30 = .ok (.i2l, 1) := dk_133 (dk_at dksX9_code_1 6 rfl rfl)
theorem dX9_code_31 : decode cX9_code 31 = .ok (.lreturn, 1) := dk_173 (dk_at dksX9_code_1 7 rfl rfl)
theorem dX9_code_32 : decode cX9_code 32 = .ok (.iload_n 2, 1) := dk_28 (dk_at dksX9_code_1 8 rfl rfl)
theorem dX9_code_33 : decode cX9_code 33 = .ok (.invokestatic 187, 3) := dk_184 0 187 (dk_at dksX9_code_1 9 rfl rfl)
theorem dX9_code_36 : decode cX9_code 36 = .ok (.ifCond .ne 10, 3) := dk_154 0 10 (dk_at dksX9_code_1 12 rfl rfl)
theorem dX9_code_39 : decode cX9_code 39 = .ok (.aload_n 0, 1) := dk_42 (dk_at dksX9_code_1 15 rfl rfl)
theorem dX9_code_40 : decode cX9_code 40 = .ok (.iconst (-1), 1) := dk_2 (dk_at dksX9_code_1 16 rfl rfl)
theorem dX9_code_41 : decode cX9_code 41 = .ok (.invokevirtual 166, 3) := dk_182 0 166 (dk_at dksX9_code_1 17 rfl rfl)
theorem dX9_code_44 : decode cX9_code 44 = .ok (.i2l, 1) := dk_133 (dk_at dksX9_code_1 20 rfl rfl)
theorem dX9_code_45 : decode cX9_code 45 = .ok (.lreturn, 1) := dk_173 (dk_at dksX9_code_1 21 rfl rfl)
theorem dX9_code_46 : decode cX9_code 46 = .ok (.aload_n 0, 1) := dk_42 (dk_at dksX9_code_1 22 rfl rfl)
theorem dX9_code_47 : decode cX9_code 47 = .ok (.iload_n 1, 1) := dk_27 (dk_at dksX9_code_1 23 rfl rfl)
theorem dX9_code_48 : decode cX9_code 48 = .ok (.iload_n 2, 1) := dk_28 (dk_at dksX9_code_2 0 rfl rfl)
theorem dX9_code_49 : decode cX9_code 49 = .ok (.invokevirtual 252, 3) := dk_182 0 252 (dk_at dksX9_code_2 1 rfl rfl)
theorem dX9_code_52 : decode cX9_code 52 = .ok (.ifCond .ne 11, 3) := dk_154 0 11 (dk_at dksX9_code_2 4 rfl rfl)
theorem dX9_code_55 : decode cX9_code 55 = .ok (.aload_n 0, 1) := dk_42 (dk_at dksX9_code_2 7 rfl rfl)
theorem dX9_code_56 : decode cX9_code 56 = .ok (.bipush (-2), 2) := dk_16 254 (dk_at dksX9_code_2 8 rfl rfl)
theorem dX9_code_58 : decode cX9_code 58 = .ok (.invokevirtual 166, 3) := dk_182 0 166 (dk_at dksX9_code_2 10 rfl rfl)
theorem dX9_code_61 : decode cX9_code 61 = .ok (.i2l, 1) := dk_133 (dk_at dksX9_code_2 13 rfl rfl)
theorem dX9_code_62 : decode cX9_code 62 = .ok (.lreturn, 1) := dk_173 (dk_at dksX9_code_2 14 rfl rfl)
theorem dX9_code_63 : decode cX9_code 63 = .ok (.lconst 0, 1) := dk_9 (dk_at dksX9_code_2 15 rfl rfl)
theorem dX9_code_64 : decode cX9_code 64 = .ok (.lstore_n 3, 1) := dk_66 (dk_at dksX9_code_2 16 rfl rfl)
theorem dX9_code_65 : decode cX9_code 65 = .ok (.iconst 0, 1) := dk_3 (dk_at dksX9_code_2 17 rfl rfl)
theorem dX9_code_66 : decode cX9_code 66 = .ok (.istore 5, 2) := dk_54 5 (dk_at dksX9_code_2 18 rfl rfl)
theorem dX9_code_68 : decode cX9_code 68 = .ok (.iload 5, 2) := dk_21 5 (dk_at dksX9_code_2 20 rfl rfl)
theorem dX9_code_70 : decode cX9_code 70 = .ok (.aload_n 0, 1) := dk_42 (dk_at dksX9_code_2 22 rfl rfl)
theorem dX9_code_71 : decode cX9_code 71 = .ok (.getfield 228, 3) := dk_180 0 228 (dk_at dksX9_code_3 0 rfl rfl)
theorem dX9_code_74 : decode cX9_code 74 = .ok (.if_icmp .ge 23, 3) := dk_162 0 23 (dk_at dksX9_code_3 3 rfl rfl)
theorem dX9_code_77 : decode cX9_code 77 = .ok (.lload_n 3, 1) := dk_33 (dk_at dksX9_code_3 6 rfl rfl)
theorem dX9_code_78 : decode cX9_code 78 = .ok (.bipush 8, 2) := dk_16 8 (dk_at dksX9_code_3 7 rfl rfl)
theorem dX9_code_80 : decode cX9_code 80 = .ok (.lshl, 1) := dk_121 (dk_at dksX9_code_3 9 rfl rfl)
theorem dX9_code_81 : decode cX9_code 81 = .ok (.aload_n 0, 1) := dk_42 (dk_at dksX9_code_3 10 rfl rfl)
theorem dX9_code_82 : decode cX9_code 82 = .ok (.getfield 81, 3) := dk_180 0 81 (dk_at dksX9_code_3 11 rfl rfl)
theorem dX9_code_85 : decode cX9_code 85 = .ok (.iload 5, 2) := dk_21 5 (dk_at dksX9_code_3 14 rfl rfl)
theorem dX9_code_87 : decode cX9_code 87 = .ok (.iaload, 1) := dk_46 (dk_at dksX9_code_3 16 rfl rfl)
theorem dX9_code_88 : decode cX9_code 88 = .ok (.i2l, 1) := dk_133 (dk_at dksX9_code_3 17 rfl rfl)
theorem dX9_code_89 : decode cX9_code 89 = .ok (.lor, 1) := dk_129 (dk_at dksX9_code_3 18 rfl rfl)
theorem dX9_code_90 : decode cX9_code 90 = .ok (.lstore_n 3, 1) := dk_66 (dk_at dksX9_code_3 19 rfl rfl)
theorem dX9_code_91 : decode cX9_code 91 = .ok (.iinc 5 1, 3) := dk_132 5 1 (dk_at dksX9_code_3 20 rfl rfl)
theorem dX9_code_94 : decode cX9_code 94 = .ok (.goto (-26), 3) := dk_167 255 230 (dk_at dksX9_code_4 0 rfl rfl)
theorem dX9_code_97 : decode cX9_code 97 = .ok (.lload_n 3, 1) := dk_33 (dk_at dksX9_code_4 3 rfl rfl)
theorem dX9_code_98 : decode cX9_code 98 = .ok (.aload_n 0, 1) := dk_42 (dk_at dksX9_code_4 4 rfl rfl)
theorem dX9_code_99 : decode cX9_code 99 = .ok (.getfield 228, 3) := dk_180 0 228 (dk_at dksX9_code_4 5 rfl rfl)
theorem dX9_code_102 : decode cX9_code 102 = .ok (.i2l, 1) := dk_133 (dk_at dksX9_code_4 8 rfl rfl)
theorem dX9_code_103 : decode cX9_code 103 = .ok (.bipush 32, 2) := dk_16 32 (dk_at dksX9_code_4 9 rfl rfl)
theorem dX9_code_105 : decode cX9_code 105 = .ok (.lshl, 1) := dk_121 (dk_at dksX9_code_4 11 rfl rfl)
theorem dX9_code_106 : decode cX9_code 106 = .ok (.lor, 1) := dk_129 (dk_at dksX9_code_4 12 rfl rfl)
theorem dX9_code_107 : decode cX9_code 107 = .ok (.lreturn, 1) := dk_173 (dk_at dksX9_code_4 13 rfl rfl)
abbrev cX9_find : ByteArray := prog_17_method_31_code
def yX9_find : MethodName := ⟨RX9, "find", "(II)Z"⟩
def dkwX9_find_9 : List UInt8 := [132, 3, 1, 167, 255, 187, 3, 172]
abbrev dktX9_find_9 : List UInt8 := dkwX9_find_9 ++ []
def dkwX9_find_8 : List UInt8 := [181, 0, 233, 42, 42, 180, 0, 26, 29, 46, 42, 180, 0, 29, 29, 46, 133, 182, 0, 237, 4, 172]
abbrev dktX9_find_8 : List UInt8 := dkwX9_find_8 ++ dktX9_find_9
def dkwX9_find_7 : List UInt8 := [160, 0, 44, 42, 180, 0, 35, 29, 51, 154, 0, 6, 167, 0, 32, 42, 42, 180, 0, 23, 29, 46]
abbrev dktX9_find_7 : List UInt8 := dkwX9_find_7 ++ dktX9_find_8
def dkwX9_find_6 : List UInt8 := [62, 29, 16, 100, 27, 104, 42, 180, 0, 17, 27, 46, 96, 162, 0, 60, 42, 180, 0, 32, 29, 46, 28]
abbrev dktX9_find_6 : List UInt8 := dkwX9_find_6 ++ dktX9_find_7
def dkwX9_find_5 : List UInt8 := [184, 0, 243, 184, 0, 246, 133, 129, 182, 0, 237, 4, 172, 42, 28, 182, 0, 249, 4, 172, 16, 100, 27, 104]
abbrev dktX9_find_5 : List UInt8 := dkwX9_find_5 ++ dktX9_find_6
def dkwX9_find_4 : List UInt8 := [184, 0, 246, 133, 182, 0, 237, 167, 0, 28, 42, 7, 28, 184, 0, 240, 184, 0, 246, 133, 16, 16, 121, 28]
abbrev dktX9_find_4 : List UInt8 := dkwX9_find_4 ++ dktX9_find_5
def dkwX9_find_3 : List UInt8 := [16, 16, 121, 28, 184, 0, 243, 133, 129, 182, 0, 237, 4, 172, 28, 18, 236, 162, 0, 16, 42, 5, 28]
abbrev dktX9_find_3 : List UInt8 := dkwX9_find_3 ++ dktX9_find_4
def dkwX9_find_2 : List UInt8 := [28, 18, 236, 162, 0, 13, 42, 5, 28, 133, 182, 0, 237, 167, 0, 22, 42, 7, 28, 184, 0, 240, 133]
abbrev dktX9_find_2 : List UInt8 := dkwX9_find_2 ++ dktX9_find_3
def dkwX9_find_1 : List UInt8 := [170, 0, 0, 0, 115, 0, 0, 0, 1, 0, 0, 0, 3, 0, 0, 0, 25, 0, 0, 0, 62, 0, 0, 0, 108]
abbrev dktX9_find_1 : List UInt8 := dkwX9_find_1 ++ dktX9_find_2
def dkwX9_find_0 : List UInt8 := [42, 3, 181, 0, 233, 42, 180, 0, 9, 27, 46]
abbrev dktX9_find_0 : List UInt8 := dkwX9_find_0 ++ dktX9_find_1
theorem dksX9_find_0 : cX9_find.data.toList.drop 0 = dktX9_find_0 := by decide +kernel
theorem dksX9_find_1 : cX9_find.data.toList.drop 11 = dktX9_find_1 := dk_seg dksX9_find_0 11 rfl rfl
theorem dksX9_find_2 : cX9_find.data.toList.drop 36 = dktX9_find_2 := dk_seg dksX9_find_1 25 rfl rfl
theorem dksX9_find_3 : cX9_find.data.toList.drop 59 = dktX9_find_3 := dk_seg dksX9_find_2 23 rfl rfl
theorem dksX9_find_4 : cX9_find.data.toList.drop 82 = dktX9_find_4 := dk_seg dksX9_find_3 23 rfl rfl
theorem dksX9_find_5 : cX9_find.data.toList.drop 106 = dktX9_find_5 := dk_seg dksX9_find_4 24 rfl rfl
theorem dksX9_find_6 : cX9_find.data.toList.drop 130 = dktX9_find_6 := dk_seg dksX9_find_5 24 rfl rfl
theorem dksX9_find_7 : cX9_find.data.toList.drop 153 = dktX9_find_7 := dk_seg dksX9_find_6 23 rfl rfl
theorem dksX9_find_8 : cX9_find.data.toList.drop 175 = dktX9_find_8 := dk_seg dksX9_find_7 22 rfl rfl
theorem dksX9_find_9 : cX9_find.data.toList.drop 197 = dktX9_find_9 := dk_seg dksX9_find_8 22 rfl rfl
theorem dX9_find_0 : decode cX9_find 0 = .ok (.aload_n 0, 1) := dk_42 (dk_at dksX9_find_0 0 rfl rfl)
theorem dX9_find_1 : decode cX9_find 1 = .ok (.iconst 0, 1) := dk_3 (dk_at dksX9_find_0 1 rfl rfl)
theorem dX9_find_2 : decode cX9_find 2 = .ok (.putfield 233, 3) := dk_181 0 233 (dk_at dksX9_find_0 2 rfl rfl)
theorem dX9_find_5 : decode cX9_find 5 = .ok (.aload_n 0, 1) := dk_42 (dk_at dksX9_find_0 5 rfl rfl)
theorem dX9_find_6 : decode cX9_find 6 = .ok (.getfield 9, 3) := dk_180 0 9 (dk_at dksX9_find_0 6 rfl rfl)
theorem dX9_find_9 : decode cX9_find 9 = .ok (.iload_n 1, 1) := dk_27 (dk_at dksX9_find_0 9 rfl rfl)
theorem dX9_find_10 : decode cX9_find 10 = .ok (.iaload, 1) := dk_46 (dk_at dksX9_find_0 10 rfl rfl)
theorem dX9_find_11 : decode cX9_find 11 = .ok (.tableswitch 115 1 3 #[25, 62, 108], 25) := by decide +kernel
theorem dX9_find_36 : decode cX9_find 36 = .ok (.iload_n 2, 1) := dk_28 (dk_at dksX9_find_2 0 rfl rfl)
theorem dX9_find_37 : decode cX9_find 37 = .ok (.ldc 236, 2) := dk_18 236 (dk_at dksX9_find_2 1 rfl rfl)
theorem dX9_find_39 : decode cX9_find 39 = .ok (.if_icmp .ge 13, 3) := dk_162 0 13 (dk_at dksX9_find_2 3 rfl rfl)
theorem dX9_find_42 : decode cX9_find 42 = .ok (.aload_n 0, 1) := dk_42 (dk_at dksX9_find_2 6 rfl rfl)
theorem dX9_find_43 : decode cX9_find 43 = .ok (.iconst 2, 1) := dk_5 (dk_at dksX9_find_2 7 rfl rfl)
theorem dX9_find_44 : decode cX9_find 44 = .ok (.iload_n 2, 1) := dk_28 (dk_at dksX9_find_2 8 rfl rfl)
theorem dX9_find_45 : decode cX9_find 45 = .ok (.i2l, 1) := dk_133 (dk_at dksX9_find_2 9 rfl rfl)
theorem dX9_find_46 : decode cX9_find 46 = .ok (.invokevirtual 237, 3) := dk_182 0 237 (dk_at dksX9_find_2 10 rfl rfl)
theorem dX9_find_49 : decode cX9_find 49 = .ok (.goto 22, 3) := dk_167 0 22 (dk_at dksX9_find_2 13 rfl rfl)
theorem dX9_find_52 : decode cX9_find 52 = .ok (.aload_n 0, 1) := dk_42 (dk_at dksX9_find_2 16 rfl rfl)
theorem dX9_find_53 : decode cX9_find 53 = .ok (.iconst 4, 1) := dk_7 (dk_at dksX9_find_2 17 rfl rfl)
theorem dX9_find_54 : decode cX9_find 54 = .ok (.iload_n 2, 1) := dk_28 (dk_at dksX9_find_2 18 rfl rfl)
theorem dX9_find_55 : decode cX9_find 55 = .ok (.invokestatic 240, 3) := dk_184 0 240 (dk_at dksX9_find_2 19 rfl rfl)
theorem dX9_find_58 : decode cX9_find 58 = .ok (.i2l, 1) := dk_133 (dk_at dksX9_find_2 22 rfl rfl)
theorem dX9_find_59 : decode cX9_find 59 = .ok (.bipush 16, 2) := dk_16 16 (dk_at dksX9_find_3 0 rfl rfl)
theorem dX9_find_61 : decode cX9_find 61 = .ok (.lshl, 1) := dk_121 (dk_at dksX9_find_3 2 rfl rfl)
theorem dX9_find_62 : decode cX9_find 62 = .ok (.iload_n 2, 1) := dk_28 (dk_at dksX9_find_3 3 rfl rfl)
theorem dX9_find_63 : decode cX9_find 63 = .ok (.invokestatic 243, 3) := dk_184 0 243 (dk_at dksX9_find_3 4 rfl rfl)
theorem dX9_find_66 : decode cX9_find 66 = .ok (.i2l, 1) := dk_133 (dk_at dksX9_find_3 7 rfl rfl)
theorem dX9_find_67 : decode cX9_find 67 = .ok (.lor, 1) := dk_129 (dk_at dksX9_find_3 8 rfl rfl)
theorem dX9_find_68 : decode cX9_find 68 = .ok (.invokevirtual 237, 3) := dk_182 0 237 (dk_at dksX9_find_3 9 rfl rfl)
theorem dX9_find_71 : decode cX9_find 71 = .ok (.iconst 1, 1) := dk_4 (dk_at dksX9_find_3 12 rfl rfl)
theorem dX9_find_72 : decode cX9_find 72 = .ok (.ireturn, 1) := dk_172 (dk_at dksX9_find_3 13 rfl rfl)
theorem dX9_find_73 : decode cX9_find 73 = .ok (.iload_n 2, 1) := dk_28 (dk_at dksX9_find_3 14 rfl rfl)
theorem dX9_find_74 : decode cX9_find 74 = .ok (.ldc 236, 2) := dk_18 236 (dk_at dksX9_find_3 15 rfl rfl)
theorem dX9_find_76 : decode cX9_find 76 = .ok (.if_icmp .ge 16, 3) := dk_162 0 16 (dk_at dksX9_find_3 17 rfl rfl)
theorem dX9_find_79 : decode cX9_find 79 = .ok (.aload_n 0, 1) := dk_42 (dk_at dksX9_find_3 20 rfl rfl)
theorem dX9_find_80 : decode cX9_find 80 = .ok (.iconst 2, 1) := dk_5 (dk_at dksX9_find_3 21 rfl rfl)
theorem dX9_find_81 : decode cX9_find 81 = .ok (.iload_n 2, 1) := dk_28 (dk_at dksX9_find_3 22 rfl rfl)
theorem dX9_find_82 : decode cX9_find 82 = .ok (.invokestatic 246, 3) := dk_184 0 246 (dk_at dksX9_find_4 0 rfl rfl)
theorem dX9_find_85 : decode cX9_find 85 = .ok (.i2l, 1) := dk_133 (dk_at dksX9_find_4 3 rfl rfl)
theorem dX9_find_86 : decode cX9_find 86 = .ok (.invokevirtual 237, 3) := dk_182 0 237 (dk_at dksX9_find_4 4 rfl rfl)
theorem dX9_find_89 : decode cX9_find 89 = .ok (.goto 28, 3) := dk_167 0 28 (dk_at dksX9_find_4 7 rfl rfl)
theorem dX9_find_92 : decode cX9_find 92 = .ok (.aload_n 0, 1) := dk_42 (dk_at dksX9_find_4 10 rfl rfl)
theorem dX9_find_93 : decode cX9_find 93 = .ok (.iconst 4, 1) := dk_7 (dk_at dksX9_find_4 11 rfl rfl)
theorem dX9_find_94 : decode cX9_find 94 = .ok (.iload_n 2, 1) := dk_28 (dk_at dksX9_find_4 12 rfl rfl)
theorem dX9_find_95 : decode cX9_find 95 = .ok (.invokestatic 240, 3) := dk_184 0 240 (dk_at dksX9_find_4 13 rfl rfl)
theorem dX9_find_98 : decode cX9_find 98 = .ok (.invokestatic 246, 3) := dk_184 0 246 (dk_at dksX9_find_4 16 rfl rfl)
theorem dX9_find_101 : decode cX9_find 101 = .ok (.i2l, 1) := dk_133 (dk_at dksX9_find_4 19 rfl rfl)
theorem dX9_find_102 : decode cX9_find 102 = .ok (.bipush 16, 2) := dk_16 16 (dk_at dksX9_find_4 20 rfl rfl)
theorem dX9_find_104 : decode cX9_find 104 = .ok (.lshl, 1) := dk_121 (dk_at dksX9_find_4 22 rfl rfl)
theorem dX9_find_105 : decode cX9_find 105 = .ok (.iload_n 2, 1) := dk_28 (dk_at dksX9_find_4 23 rfl rfl)
theorem dX9_find_106 : decode cX9_find 106 = .ok (.invokestatic 243, 3) := dk_184 0 243 (dk_at dksX9_find_5 0 rfl rfl)
theorem dX9_find_109 : decode cX9_find 109 = .ok (.invokestatic 246, 3) := dk_184 0 246 (dk_at dksX9_find_5 3 rfl rfl)
theorem dX9_find_112 : decode cX9_find 112 = .ok (.i2l, 1) := dk_133 (dk_at dksX9_find_5 6 rfl rfl)
theorem dX9_find_113 : decode cX9_find 113 = .ok (.lor, 1) := dk_129 (dk_at dksX9_find_5 7 rfl rfl)
theorem dX9_find_114 : decode cX9_find 114 = .ok (.invokevirtual 237, 3) := dk_182 0 237 (dk_at dksX9_find_5 8 rfl rfl)
theorem dX9_find_117 : decode cX9_find 117 = .ok (.iconst 1, 1) := dk_4 (dk_at dksX9_find_5 11 rfl rfl)
theorem dX9_find_118 : decode cX9_find 118 = .ok (.ireturn, 1) := dk_172 (dk_at dksX9_find_5 12 rfl rfl)
theorem dX9_find_119 : decode cX9_find 119 = .ok (.aload_n 0, 1) := dk_42 (dk_at dksX9_find_5 13 rfl rfl)
theorem dX9_find_120 : decode cX9_find 120 = .ok (.iload_n 2, 1) := dk_28 (dk_at dksX9_find_5 14 rfl rfl)
theorem dX9_find_121 : decode cX9_find 121 = .ok (.invokevirtual 249, 3) := dk_182 0 249 (dk_at dksX9_find_5 15 rfl rfl)
theorem dX9_find_124 : decode cX9_find 124 = .ok (.iconst 1, 1) := dk_4 (dk_at dksX9_find_5 18 rfl rfl)
theorem dX9_find_125 : decode cX9_find 125 = .ok (.ireturn, 1) := dk_172 (dk_at dksX9_find_5 19 rfl rfl)
theorem dX9_find_126 : decode cX9_find 126 = .ok (.bipush 100, 2) := dk_16 100 (dk_at dksX9_find_5 20 rfl rfl)
theorem dX9_find_128 : decode cX9_find 128 = .ok (.iload_n 1, 1) := dk_27 (dk_at dksX9_find_5 22 rfl rfl)
theorem dX9_find_129 : decode cX9_find 129 = .ok (.imul, 1) := dk_104 (dk_at dksX9_find_5 23 rfl rfl)
theorem dX9_find_130 : decode cX9_find 130 = .ok (.istore_n 3, 1) := dk_62 (dk_at dksX9_find_6 0 rfl rfl)
theorem dX9_find_131 : decode cX9_find 131 = .ok (.iload_n 3, 1) := dk_29 (dk_at dksX9_find_6 1 rfl rfl)
theorem dX9_find_132 : decode cX9_find 132 = .ok (.bipush 100, 2) := dk_16 100 (dk_at dksX9_find_6 2 rfl rfl)
theorem dX9_find_134 : decode cX9_find 134 = .ok (.iload_n 1, 1) := dk_27 (dk_at dksX9_find_6 4 rfl rfl)
theorem dX9_find_135 : decode cX9_find 135 = .ok (.imul, 1) := dk_104 (dk_at dksX9_find_6 5 rfl rfl)
theorem dX9_find_136 : decode cX9_find 136 = .ok (.aload_n 0, 1) := dk_42 (dk_at dksX9_find_6 6 rfl rfl)
theorem dX9_find_137 : decode cX9_find 137 = .ok (.getfield 17, 3) := dk_180 0 17 (dk_at dksX9_find_6 7 rfl rfl)
theorem dX9_find_140 : decode cX9_find 140 = .ok (.iload_n 1, 1) := dk_27 (dk_at dksX9_find_6 10 rfl rfl)
theorem dX9_find_141 : decode cX9_find 141 = .ok (.iaload, 1) := dk_46 (dk_at dksX9_find_6 11 rfl rfl)
theorem dX9_find_142 : decode cX9_find 142 = .ok (.iadd, 1) := dk_96 (dk_at dksX9_find_6 12 rfl rfl)
theorem dX9_find_143 : decode cX9_find 143 = .ok (.if_icmp .ge 60, 3) := dk_162 0 60 (dk_at dksX9_find_6 13 rfl rfl)
theorem dX9_find_146 : decode cX9_find 146 = .ok (.aload_n 0, 1) := dk_42 (dk_at dksX9_find_6 16 rfl rfl)
theorem dX9_find_147 : decode cX9_find 147 = .ok (.getfield 32, 3) := dk_180 0 32 (dk_at dksX9_find_6 17 rfl rfl)
theorem dX9_find_150 : decode cX9_find 150 = .ok (.iload_n 3, 1) := dk_29 (dk_at dksX9_find_6 20 rfl rfl)
theorem dX9_find_151 : decode cX9_find 151 = .ok (.iaload, 1) := dk_46 (dk_at dksX9_find_6 21 rfl rfl)
theorem dX9_find_152 : decode cX9_find 152 = .ok (.iload_n 2, 1) := dk_28 (dk_at dksX9_find_6 22 rfl rfl)
theorem dX9_find_153 : decode cX9_find 153 = .ok (.if_icmp .ne 44, 3) := dk_160 0 44 (dk_at dksX9_find_7 0 rfl rfl)
theorem dX9_find_156 : decode cX9_find 156 = .ok (.aload_n 0, 1) := dk_42 (dk_at dksX9_find_7 3 rfl rfl)
theorem dX9_find_157 : decode cX9_find 157 = .ok (.getfield 35, 3) := dk_180 0 35 (dk_at dksX9_find_7 4 rfl rfl)
theorem dX9_find_160 : decode cX9_find 160 = .ok (.iload_n 3, 1) := dk_29 (dk_at dksX9_find_7 7 rfl rfl)
theorem dX9_find_161 : decode cX9_find 161 = .ok (.baload, 1) := dk_51 (dk_at dksX9_find_7 8 rfl rfl)
theorem dX9_find_162 : decode cX9_find 162 = .ok (.ifCond .ne 6, 3) := dk_154 0 6 (dk_at dksX9_find_7 9 rfl rfl)
theorem dX9_find_165 : decode cX9_find 165 = .ok (.goto 32, 3) := dk_167 0 32 (dk_at dksX9_find_7 12 rfl rfl)
theorem dX9_find_168 : decode cX9_find 168 = .ok (.aload_n 0, 1) := dk_42 (dk_at dksX9_find_7 15 rfl rfl)
theorem dX9_find_169 : decode cX9_find 169 = .ok (.aload_n 0, 1) := dk_42 (dk_at dksX9_find_7 16 rfl rfl)
theorem dX9_find_170 : decode cX9_find 170 = .ok (.getfield 23, 3) := dk_180 0 23 (dk_at dksX9_find_7 17 rfl rfl)
theorem dX9_find_173 : decode cX9_find 173 = .ok (.iload_n 3, 1) := dk_29 (dk_at dksX9_find_7 20 rfl rfl)
theorem dX9_find_174 : decode cX9_find 174 = .ok (.iaload, 1) := dk_46 (dk_at dksX9_find_7 21 rfl rfl)
theorem dX9_find_175 : decode cX9_find 175 = .ok (.putfield 233, 3) := dk_181 0 233 (dk_at dksX9_find_8 0 rfl rfl)
theorem dX9_find_178 : decode cX9_find 178 = .ok (.aload_n 0, 1) := dk_42 (dk_at dksX9_find_8 3 rfl rfl)
theorem dX9_find_179 : decode cX9_find 179 = .ok (.aload_n 0, 1) := dk_42 (dk_at dksX9_find_8 4 rfl rfl)
theorem dX9_find_180 : decode cX9_find 180 = .ok (.getfield 26, 3) := dk_180 0 26 (dk_at dksX9_find_8 5 rfl rfl)
theorem dX9_find_183 : decode cX9_find 183 = .ok (.iload_n 3, 1) := dk_29 (dk_at dksX9_find_8 8 rfl rfl)
theorem dX9_find_184 : decode cX9_find 184 = .ok (.iaload, 1) := dk_46 (dk_at dksX9_find_8 9 rfl rfl)
theorem dX9_find_185 : decode cX9_find 185 = .ok (.aload_n 0, 1) := dk_42 (dk_at dksX9_find_8 10 rfl rfl)
theorem dX9_find_186 : decode cX9_find 186 = .ok (.getfield 29, 3) := dk_180 0 29 (dk_at dksX9_find_8 11 rfl rfl)
theorem dX9_find_189 : decode cX9_find 189 = .ok (.iload_n 3, 1) := dk_29 (dk_at dksX9_find_8 14 rfl rfl)
theorem dX9_find_190 : decode cX9_find 190 = .ok (.iaload, 1) := dk_46 (dk_at dksX9_find_8 15 rfl rfl)
theorem dX9_find_191 : decode cX9_find 191 = .ok (.i2l, 1) := dk_133 (dk_at dksX9_find_8 16 rfl rfl)
theorem dX9_find_192 : decode cX9_find 192 = .ok (.invokevirtual 237, 3) := dk_182 0 237 (dk_at dksX9_find_8 17 rfl rfl)
theorem dX9_find_195 : decode cX9_find 195 = .ok (.iconst 1, 1) := dk_4 (dk_at dksX9_find_8 20 rfl rfl)
theorem dX9_find_196 : decode cX9_find 196 = .ok (.ireturn, 1) := dk_172 (dk_at dksX9_find_8 21 rfl rfl)
theorem dX9_find_197 : decode cX9_find 197 = .ok (.iinc 3 1, 3) := dk_132 3 1 (dk_at dksX9_find_9 0 rfl rfl)
theorem dX9_find_200 : decode cX9_find 200 = .ok (.goto (-69), 3) := dk_167 255 187 (dk_at dksX9_find_9 3 rfl rfl)
theorem dX9_find_203 : decode cX9_find 203 = .ok (.iconst 0, 1) := dk_3 (dk_at dksX9_find_9 6 rfl rfl)
theorem dX9_find_204 : decode cX9_find 204 = .ok (.ireturn, 1) := dk_172 (dk_at dksX9_find_9 7 rfl rfl)
abbrev cX9_text : ByteArray := prog_17_method_30_code
def yX9_text : MethodName := ⟨RX9, "text", "(IJ)V"⟩
def dkwX9_text_1 : List UInt8 := [4, 100, 21, 4, 100, 104, 123, 20, 0, 231, 127, 136, 79, 132, 4, 1, 167, 255, 224, 177]
abbrev dktX9_text_1 : List UInt8 := dkwX9_text_1 ++ []
def dkwX9_text_0 : List UInt8 := [42, 27, 181, 0, 228, 3, 54, 4, 21, 4, 27, 162, 0, 32, 42, 180, 0, 81, 21, 4, 32, 16, 8, 27]
abbrev dktX9_text_0 : List UInt8 := dkwX9_text_0 ++ dktX9_text_1
theorem dksX9_text_0 : cX9_text.data.toList.drop 0 = dktX9_text_0 := by decide +kernel
theorem dksX9_text_1 : cX9_text.data.toList.drop 24 = dktX9_text_1 := dk_seg dksX9_text_0 24 rfl rfl
theorem dX9_text_0 : decode cX9_text 0 = .ok (.aload_n 0, 1) := dk_42 (dk_at dksX9_text_0 0 rfl rfl)
theorem dX9_text_1 : decode cX9_text 1 = .ok (.iload_n 1, 1) := dk_27 (dk_at dksX9_text_0 1 rfl rfl)
theorem dX9_text_2 : decode cX9_text 2 = .ok (.putfield 228, 3) := dk_181 0 228 (dk_at dksX9_text_0 2 rfl rfl)
theorem dX9_text_5 : decode cX9_text 5 = .ok (.iconst 0, 1) := dk_3 (dk_at dksX9_text_0 5 rfl rfl)
theorem dX9_text_6 : decode cX9_text 6 = .ok (.istore 4, 2) := dk_54 4 (dk_at dksX9_text_0 6 rfl rfl)
theorem dX9_text_8 : decode cX9_text 8 = .ok (.iload 4, 2) := dk_21 4 (dk_at dksX9_text_0 8 rfl rfl)
theorem dX9_text_10 : decode cX9_text 10 = .ok (.iload_n 1, 1) := dk_27 (dk_at dksX9_text_0 10 rfl rfl)
theorem dX9_text_11 : decode cX9_text 11 = .ok (.if_icmp .ge 32, 3) := dk_162 0 32 (dk_at dksX9_text_0 11 rfl rfl)
theorem dX9_text_14 : decode cX9_text 14 = .ok (.aload_n 0, 1) := dk_42 (dk_at dksX9_text_0 14 rfl rfl)
theorem dX9_text_15 : decode cX9_text 15 = .ok (.getfield 81, 3) := dk_180 0 81 (dk_at dksX9_text_0 15 rfl rfl)
theorem dX9_text_18 : decode cX9_text 18 = .ok (.iload 4, 2) := dk_21 4 (dk_at dksX9_text_0 18 rfl rfl)
theorem dX9_text_20 : decode cX9_text 20 = .ok (.lload_n 2, 1) := dk_32 (dk_at dksX9_text_0 20 rfl rfl)
theorem dX9_text_21 : decode cX9_text 21 = .ok (.bipush 8, 2) := dk_16 8 (dk_at dksX9_text_0 21 rfl rfl)
theorem dX9_text_23 : decode cX9_text 23 = .ok (.iload_n 1, 1) := dk_27 (dk_at dksX9_text_0 23 rfl rfl)
theorem dX9_text_24 : decode cX9_text 24 = .ok (.iconst 1, 1) := dk_4 (dk_at dksX9_text_1 0 rfl rfl)
theorem dX9_text_25 : decode cX9_text 25 = .ok (.isub, 1) := dk_100 (dk_at dksX9_text_1 1 rfl rfl)
theorem dX9_text_26 : decode cX9_text 26 = .ok (.iload 4, 2) := dk_21 4 (dk_at dksX9_text_1 2 rfl rfl)
theorem dX9_text_28 : decode cX9_text 28 = .ok (.isub, 1) := dk_100 (dk_at dksX9_text_1 4 rfl rfl)
theorem dX9_text_29 : decode cX9_text 29 = .ok (.imul, 1) := dk_104 (dk_at dksX9_text_1 5 rfl rfl)
theorem dX9_text_30 : decode cX9_text 30 = .ok (.lshr, 1) := dk_123 (dk_at dksX9_text_1 6 rfl rfl)
theorem dX9_text_31 : decode cX9_text 31 = .ok (.ldc2_w 231, 3) := dk_20 0 231 (dk_at dksX9_text_1 7 rfl rfl)
theorem dX9_text_34 : decode cX9_text 34 = .ok (.land, 1) := dk_127 (dk_at dksX9_text_1 10 rfl rfl)
theorem dX9_text_35 : decode cX9_text 35 = .ok (.l2i, 1) := dk_136 (dk_at dksX9_text_1 11 rfl rfl)
theorem dX9_text_36 : decode cX9_text 36 = .ok (.iastore, 1) := dk_79 (dk_at dksX9_text_1 12 rfl rfl)
theorem dX9_text_37 : decode cX9_text 37 = .ok (.iinc 4 1, 3) := dk_132 4 1 (dk_at dksX9_text_1 13 rfl rfl)
theorem dX9_text_40 : decode cX9_text 40 = .ok (.goto (-32), 3) := dk_167 255 224 (dk_at dksX9_text_1 16 rfl rfl)
theorem dX9_text_43 : decode cX9_text 43 = .ok (.return_, 1) := dk_177 (dk_at dksX9_text_1 19 rfl rfl)
abbrev cX9_first : ByteArray := prog_17_method_32_code
def yX9_first : MethodName := ⟨RX9, "first", "(I)I"⟩
def dkwX9_first_0 : List UInt8 := [18, 154, 26, 18, 236, 100, 16, 10, 122, 96, 172]
abbrev dktX9_first_0 : List UInt8 := dkwX9_first_0 ++ []
theorem dksX9_first_0 : cX9_first.data.toList.drop 0 = dktX9_first_0 := by decide +kernel
theorem dX9_first_0 : decode cX9_first 0 = .ok (.ldc 154, 2) := dk_18 154 (dk_at dksX9_first_0 0 rfl rfl)
theorem dX9_first_2 : decode cX9_first 2 = .ok (.iload_n 0, 1) := dk_26 (dk_at dksX9_first_0 2 rfl rfl)
theorem dX9_first_3 : decode cX9_first 3 = .ok (.ldc 236, 2) := dk_18 236 (dk_at dksX9_first_0 3 rfl rfl)
theorem dX9_first_5 : decode cX9_first 5 = .ok (.isub, 1) := dk_100 (dk_at dksX9_first_0 5 rfl rfl)
theorem dX9_first_6 : decode cX9_first 6 = .ok (.bipush 10, 2) := dk_16 10 (dk_at dksX9_first_0 6 rfl rfl)
theorem dX9_first_8 : decode cX9_first 8 = .ok (.ishr, 1) := dk_122 (dk_at dksX9_first_0 8 rfl rfl)
theorem dX9_first_9 : decode cX9_first 9 = .ok (.iadd, 1) := dk_96 (dk_at dksX9_first_0 9 rfl rfl)
theorem dX9_first_10 : decode cX9_first 10 = .ok (.ireturn, 1) := dk_172 (dk_at dksX9_first_0 10 rfl rfl)
abbrev cX9_second : ByteArray := prog_17_method_33_code
def yX9_second : MethodName := ⟨RX9, "second", "(I)I"⟩
def dkwX9_second_0 : List UInt8 := [18, 160, 26, 18, 236, 100, 17, 3, 255, 126, 96, 172]
abbrev dktX9_second_0 : List UInt8 := dkwX9_second_0 ++ []
theorem dksX9_second_0 : cX9_second.data.toList.drop 0 = dktX9_second_0 := by decide +kernel
theorem dX9_second_0 : decode cX9_second 0 = .ok (.ldc 160, 2) := dk_18 160 (dk_at dksX9_second_0 0 rfl rfl)
theorem dX9_second_2 : decode cX9_second 2 = .ok (.iload_n 0, 1) := dk_26 (dk_at dksX9_second_0 2 rfl rfl)
theorem dX9_second_3 : decode cX9_second 3 = .ok (.ldc 236, 2) := dk_18 236 (dk_at dksX9_second_0 3 rfl rfl)
theorem dX9_second_5 : decode cX9_second 5 = .ok (.isub, 1) := dk_100 (dk_at dksX9_second_0 5 rfl rfl)
theorem dX9_second_6 : decode cX9_second 6 = .ok (.sipush 1023, 3) := dk_17 3 255 (dk_at dksX9_second_0 6 rfl rfl)
theorem dX9_second_9 : decode cX9_second 9 = .ok (.iand, 1) := dk_126 (dk_at dksX9_second_0 9 rfl rfl)
theorem dX9_second_10 : decode cX9_second 10 = .ok (.iadd, 1) := dk_96 (dk_at dksX9_second_0 10 rfl rfl)
theorem dX9_second_11 : decode cX9_second 11 = .ok (.ireturn, 1) := dk_172 (dk_at dksX9_second_0 11 rfl rfl)
abbrev cX9_turned : ByteArray := prog_17_method_34_code
def yX9_turned : MethodName := ⟨RX9, "turned", "(I)I"⟩
def dkwX9_turned_0 : List UInt8 := [26, 17, 0, 255, 126, 16, 8, 120, 26, 16, 8, 122, 128, 172]
abbrev dktX9_turned_0 : List UInt8 := dkwX9_turned_0 ++ []
theorem dksX9_turned_0 : cX9_turned.data.toList.drop 0 = dktX9_turned_0 := by decide +kernel
theorem dX9_turned_0 : decode cX9_turned 0 = .ok (.iload_n 0, 1) := dk_26 (dk_at dksX9_turned_0 0 rfl rfl)
theorem dX9_turned_1 : decode cX9_turned 1 = .ok (.sipush 255, 3) := dk_17 0 255 (dk_at dksX9_turned_0 1 rfl rfl)
theorem dX9_turned_4 : decode cX9_turned 4 = .ok (.iand, 1) := dk_126 (dk_at dksX9_turned_0 4 rfl rfl)
theorem dX9_turned_5 : decode cX9_turned 5 = .ok (.bipush 8, 2) := dk_16 8 (dk_at dksX9_turned_0 5 rfl rfl)
theorem dX9_turned_7 : decode cX9_turned 7 = .ok (.ishl, 1) := dk_120 (dk_at dksX9_turned_0 7 rfl rfl)
theorem dX9_turned_8 : decode cX9_turned 8 = .ok (.iload_n 0, 1) := dk_26 (dk_at dksX9_turned_0 8 rfl rfl)
theorem dX9_turned_9 : decode cX9_turned 9 = .ok (.bipush 8, 2) := dk_16 8 (dk_at dksX9_turned_0 9 rfl rfl)
theorem dX9_turned_11 : decode cX9_turned 11 = .ok (.ishr, 1) := dk_122 (dk_at dksX9_turned_0 11 rfl rfl)
theorem dX9_turned_12 : decode cX9_turned 12 = .ok (.ior, 1) := dk_128 (dk_at dksX9_turned_0 12 rfl rfl)
theorem dX9_turned_13 : decode cX9_turned 13 = .ok (.ireturn, 1) := dk_172 (dk_at dksX9_turned_0 13 rfl rfl)
abbrev cX9_few : ByteArray := prog_17_method_35_code
def yX9_few : MethodName := ⟨RX9, "few", "(I)V"⟩
def dkwX9_few_5 : List UInt8 := [16, 6, 28, 4, 100, 104, 122, 128, 79, 177]
abbrev dktX9_few_5 : List UInt8 := dkwX9_few_5 ++ []
def dkwX9_few_4 : List UInt8 := [160, 0, 9, 17, 0, 192, 167, 0, 17, 28, 6, 160, 0, 9, 17, 0, 224, 167, 0, 6, 17, 0, 240, 27]
abbrev dktX9_few_4 : List UInt8 := dkwX9_few_4 ++ dktX9_few_5
def dkwX9_few_3 : List UInt8 := [132, 3, 255, 167, 255, 226, 42, 180, 0, 81, 3, 28, 4, 160, 0, 7, 3, 167, 0, 28, 28, 5]
abbrev dktX9_few_3 : List UInt8 := dkwX9_few_3 ++ dktX9_few_4
def dkwX9_few_2 : List UInt8 := [42, 180, 0, 81, 29, 17, 0, 128, 27, 16, 6, 28, 4, 100, 29, 100, 104, 122, 16, 63, 126, 128, 79]
abbrev dktX9_few_2 : List UInt8 := dkwX9_few_2 ++ dktX9_few_3
def dkwX9_few_1 : List UInt8 := [18, 236, 162, 0, 7, 6, 167, 0, 4, 7, 61, 42, 28, 181, 0, 228, 28, 4, 100, 62, 29, 158, 0, 32]
abbrev dktX9_few_1 : List UInt8 := dkwX9_few_1 ++ dktX9_few_2
def dkwX9_few_0 : List UInt8 := [27, 17, 0, 128, 162, 0, 7, 4, 167, 0, 25, 27, 17, 8, 0, 162, 0, 7, 5, 167, 0, 14, 27]
abbrev dktX9_few_0 : List UInt8 := dkwX9_few_0 ++ dktX9_few_1
theorem dksX9_few_0 : cX9_few.data.toList.drop 0 = dktX9_few_0 := by decide +kernel
theorem dksX9_few_1 : cX9_few.data.toList.drop 23 = dktX9_few_1 := dk_seg dksX9_few_0 23 rfl rfl
theorem dksX9_few_2 : cX9_few.data.toList.drop 47 = dktX9_few_2 := dk_seg dksX9_few_1 24 rfl rfl
theorem dksX9_few_3 : cX9_few.data.toList.drop 70 = dktX9_few_3 := dk_seg dksX9_few_2 23 rfl rfl
theorem dksX9_few_4 : cX9_few.data.toList.drop 92 = dktX9_few_4 := dk_seg dksX9_few_3 22 rfl rfl
theorem dksX9_few_5 : cX9_few.data.toList.drop 116 = dktX9_few_5 := dk_seg dksX9_few_4 24 rfl rfl
theorem dX9_few_0 : decode cX9_few 0 = .ok (.iload_n 1, 1) := dk_27 (dk_at dksX9_few_0 0 rfl rfl)
theorem dX9_few_1 : decode cX9_few 1 = .ok (.sipush 128, 3) := dk_17 0 128 (dk_at dksX9_few_0 1 rfl rfl)
theorem dX9_few_4 : decode cX9_few 4 = .ok (.if_icmp .ge 7, 3) := dk_162 0 7 (dk_at dksX9_few_0 4 rfl rfl)
theorem dX9_few_7 : decode cX9_few 7 = .ok (.iconst 1, 1) := dk_4 (dk_at dksX9_few_0 7 rfl rfl)
theorem dX9_few_8 : decode cX9_few 8 = .ok (.goto 25, 3) := dk_167 0 25 (dk_at dksX9_few_0 8 rfl rfl)
theorem dX9_few_11 : decode cX9_few 11 = .ok (.iload_n 1, 1) := dk_27 (dk_at dksX9_few_0 11 rfl rfl)
theorem dX9_few_12 : decode cX9_few 12 = .ok (.sipush 2048, 3) := dk_17 8 0 (dk_at dksX9_few_0 12 rfl rfl)
theorem dX9_few_15 : decode cX9_few 15 = .ok (.if_icmp .ge 7, 3) := dk_162 0 7 (dk_at dksX9_few_0 15 rfl rfl)
theorem dX9_few_18 : decode cX9_few 18 = .ok (.iconst 2, 1) := dk_5 (dk_at dksX9_few_0 18 rfl rfl)
theorem dX9_few_19 : decode cX9_few 19 = .ok (.goto 14, 3) := dk_167 0 14 (dk_at dksX9_few_0 19 rfl rfl)
theorem dX9_few_22 : decode cX9_few 22 = .ok (.iload_n 1, 1) := dk_27 (dk_at dksX9_few_0 22 rfl rfl)
theorem dX9_few_23 : decode cX9_few 23 = .ok (.ldc 236, 2) := dk_18 236 (dk_at dksX9_few_1 0 rfl rfl)
theorem dX9_few_25 : decode cX9_few 25 = .ok (.if_icmp .ge 7, 3) := dk_162 0 7 (dk_at dksX9_few_1 2 rfl rfl)
theorem dX9_few_28 : decode cX9_few 28 = .ok (.iconst 3, 1) := dk_6 (dk_at dksX9_few_1 5 rfl rfl)
theorem dX9_few_29 : decode cX9_few 29 = .ok (.goto 4, 3) := dk_167 0 4 (dk_at dksX9_few_1 6 rfl rfl)
theorem dX9_few_32 : decode cX9_few 32 = .ok (.iconst 4, 1) := dk_7 (dk_at dksX9_few_1 9 rfl rfl)
theorem dX9_few_33 : decode cX9_few 33 = .ok (.istore_n 2, 1) := dk_61 (dk_at dksX9_few_1 10 rfl rfl)
theorem dX9_few_34 : decode cX9_few 34 = .ok (.aload_n 0, 1) := dk_42 (dk_at dksX9_few_1 11 rfl rfl)
theorem dX9_few_35 : decode cX9_few 35 = .ok (.iload_n 2, 1) := dk_28 (dk_at dksX9_few_1 12 rfl rfl)
theorem dX9_few_36 : decode cX9_few 36 = .ok (.putfield 228, 3) := dk_181 0 228 (dk_at dksX9_few_1 13 rfl rfl)
theorem dX9_few_39 : decode cX9_few 39 = .ok (.iload_n 2, 1) := dk_28 (dk_at dksX9_few_1 16 rfl rfl)
theorem dX9_few_40 : decode cX9_few 40 = .ok (.iconst 1, 1) := dk_4 (dk_at dksX9_few_1 17 rfl rfl)
theorem dX9_few_41 : decode cX9_few 41 = .ok (.isub, 1) := dk_100 (dk_at dksX9_few_1 18 rfl rfl)
theorem dX9_few_42 : decode cX9_few 42 = .ok (.istore_n 3, 1) := dk_62 (dk_at dksX9_few_1 19 rfl rfl)
theorem dX9_few_43 : decode cX9_few 43 = .ok (.iload_n 3, 1) := dk_29 (dk_at dksX9_few_1 20 rfl rfl)
theorem dX9_few_44 : decode cX9_few 44 = .ok (.ifCond .le 32, 3) := dk_158 0 32 (dk_at dksX9_few_1 21 rfl rfl)
theorem dX9_few_47 : decode cX9_few 47 = .ok (.aload_n 0, 1) := dk_42 (dk_at dksX9_few_2 0 rfl rfl)
theorem dX9_few_48 : decode cX9_few 48 = .ok (.getfield 81, 3) := dk_180 0 81 (dk_at dksX9_few_2 1 rfl rfl)
theorem dX9_few_51 : decode cX9_few 51 = .ok (.iload_n 3, 1) := dk_29 (dk_at dksX9_few_2 4 rfl rfl)
theorem dX9_few_52 : decode cX9_few 52 = .ok (.sipush 128, 3) := dk_17 0 128 (dk_at dksX9_few_2 5 rfl rfl)
theorem dX9_few_55 : decode cX9_few 55 = .ok (.iload_n 1, 1) := dk_27 (dk_at dksX9_few_2 8 rfl rfl)
theorem dX9_few_56 : decode cX9_few 56 = .ok (.bipush 6, 2) := dk_16 6 (dk_at dksX9_few_2 9 rfl rfl)
theorem dX9_few_58 : decode cX9_few 58 = .ok (.iload_n 2, 1) := dk_28 (dk_at dksX9_few_2 11 rfl rfl)
theorem dX9_few_59 : decode cX9_few 59 = .ok (.iconst 1, 1) := dk_4 (dk_at dksX9_few_2 12 rfl rfl)
theorem dX9_few_60 : decode cX9_few 60 = .ok (.isub, 1) := dk_100 (dk_at dksX9_few_2 13 rfl rfl)
theorem dX9_few_61 : decode cX9_few 61 = .ok (.iload_n 3, 1) := dk_29 (dk_at dksX9_few_2 14 rfl rfl)
theorem dX9_few_62 : decode cX9_few 62 = .ok (.isub, 1) := dk_100 (dk_at dksX9_few_2 15 rfl rfl)
theorem dX9_few_63 : decode cX9_few 63 = .ok (.imul, 1) := dk_104 (dk_at dksX9_few_2 16 rfl rfl)
theorem dX9_few_64 : decode cX9_few 64 = .ok (.ishr, 1) := dk_122 (dk_at dksX9_few_2 17 rfl rfl)
theorem dX9_few_65 : decode cX9_few 65 = .ok (.bipush 63, 2) := dk_16 63 (dk_at dksX9_few_2 18 rfl rfl)
theorem dX9_few_67 : decode cX9_few 67 = .ok (.iand, 1) := dk_126 (dk_at dksX9_few_2 20 rfl rfl)
theorem dX9_few_68 : decode cX9_few 68 = .ok (.ior, 1) := dk_128 (dk_at dksX9_few_2 21 rfl rfl)
theorem dX9_few_69 : decode cX9_few 69 = .ok (.iastore, 1) := dk_79 (dk_at dksX9_few_2 22 rfl rfl)
theorem dX9_few_70 : decode cX9_few 70 = .ok (.iinc 3 (-1), 3) := dk_132 3 255 (dk_at dksX9_few_3 0 rfl rfl)
theorem dX9_few_73 : decode cX9_few 73 = .ok (.goto (-30), 3) := dk_167 255 226 (dk_at dksX9_few_3 3 rfl rfl)
theorem dX9_few_76 : decode cX9_few 76 = .ok (.aload_n 0, 1) := dk_42 (dk_at dksX9_few_3 6 rfl rfl)
theorem dX9_few_77 : decode cX9_few 77 = .ok (.getfield 81, 3) := dk_180 0 81 (dk_at dksX9_few_3 7 rfl rfl)
theorem dX9_few_80 : decode cX9_few 80 = .ok (.iconst 0, 1) := dk_3 (dk_at dksX9_few_3 10 rfl rfl)
theorem dX9_few_81 : decode cX9_few 81 = .ok (.iload_n 2, 1) := dk_28 (dk_at dksX9_few_3 11 rfl rfl)
theorem dX9_few_82 : decode cX9_few 82 = .ok (.iconst 1, 1) := dk_4 (dk_at dksX9_few_3 12 rfl rfl)
theorem dX9_few_83 : decode cX9_few 83 = .ok (.if_icmp .ne 7, 3) := dk_160 0 7 (dk_at dksX9_few_3 13 rfl rfl)
theorem dX9_few_86 : decode cX9_few 86 = .ok (.iconst 0, 1) := dk_3 (dk_at dksX9_few_3 16 rfl rfl)
theorem dX9_few_87 : decode cX9_few 87 = .ok (.goto 28, 3) := dk_167 0 28 (dk_at dksX9_few_3 17 rfl rfl)
theorem dX9_few_90 : decode cX9_few 90 = .ok (.iload_n 2, 1) := dk_28 (dk_at dksX9_few_3 20 rfl rfl)
theorem dX9_few_91 : decode cX9_few 91 = .ok (.iconst 2, 1) := dk_5 (dk_at dksX9_few_3 21 rfl rfl)
theorem dX9_few_92 : decode cX9_few 92 = .ok (.if_icmp .ne 9, 3) := dk_160 0 9 (dk_at dksX9_few_4 0 rfl rfl)
theorem dX9_few_95 : decode cX9_few 95 = .ok (.sipush 192, 3) := dk_17 0 192 (dk_at dksX9_few_4 3 rfl rfl)
theorem dX9_few_98 : decode cX9_few 98 = .ok (.goto 17, 3) := dk_167 0 17 (dk_at dksX9_few_4 6 rfl rfl)
theorem dX9_few_101 : decode cX9_few 101 = .ok (.iload_n 2, 1) := dk_28 (dk_at dksX9_few_4 9 rfl rfl)
theorem dX9_few_102 : decode cX9_few 102 = .ok (.iconst 3, 1) := dk_6 (dk_at dksX9_few_4 10 rfl rfl)
theorem dX9_few_103 : decode cX9_few 103 = .ok (.if_icmp .ne 9, 3) := dk_160 0 9 (dk_at dksX9_few_4 11 rfl rfl)
theorem dX9_few_106 : decode cX9_few 106 = .ok (.sipush 224, 3) := dk_17 0 224 (dk_at dksX9_few_4 14 rfl rfl)
theorem dX9_few_109 : decode cX9_few 109 = .ok (.goto 6, 3) := dk_167 0 6 (dk_at dksX9_few_4 17 rfl rfl)
theorem dX9_few_112 : decode cX9_few 112 = .ok (.sipush 240, 3) := dk_17 0 240 (dk_at dksX9_few_4 20 rfl rfl)
theorem dX9_few_115 : decode cX9_few 115 = .ok (.iload_n 1, 1) := dk_27 (dk_at dksX9_few_4 23 rfl rfl)
theorem dX9_few_116 : decode cX9_few 116 = .ok (.bipush 6, 2) := dk_16 6 (dk_at dksX9_few_5 0 rfl rfl)
theorem dX9_few_118 : decode cX9_few 118 = .ok (.iload_n 2, 1) := dk_28 (dk_at dksX9_few_5 2 rfl rfl)
theorem dX9_few_119 : decode cX9_few 119 = .ok (.iconst 1, 1) := dk_4 (dk_at dksX9_few_5 3 rfl rfl)
theorem dX9_few_120 : decode cX9_few 120 = .ok (.isub, 1) := dk_100 (dk_at dksX9_few_5 4 rfl rfl)
theorem dX9_few_121 : decode cX9_few 121 = .ok (.imul, 1) := dk_104 (dk_at dksX9_few_5 5 rfl rfl)
theorem dX9_few_122 : decode cX9_few 122 = .ok (.ishr, 1) := dk_122 (dk_at dksX9_few_5 6 rfl rfl)
theorem dX9_few_123 : decode cX9_few 123 = .ok (.ior, 1) := dk_128 (dk_at dksX9_few_5 7 rfl rfl)
theorem dX9_few_124 : decode cX9_few 124 = .ok (.iastore, 1) := dk_79 (dk_at dksX9_few_5 8 rfl rfl)
theorem dX9_few_125 : decode cX9_few 125 = .ok (.return_, 1) := dk_177 (dk_at dksX9_few_5 9 rfl rfl)
abbrev cX9_bytesIn : ByteArray := prog_17_method_37_code
def yX9_bytesIn : MethodName := ⟨RX9, "bytesIn", "(JI)I"⟩
def dkwX9_bytesIn_3 : List UInt8 := [180, 0, 255, 4, 96, 181, 0, 255, 132, 4, 255, 167, 255, 217, 42, 180, 0, 255, 172]
abbrev dktX9_bytesIn_3 : List UInt8 := dkwX9_bytesIn_3 ++ []
def dkwX9_bytesIn_2 : List UInt8 := [180, 0, 50, 42, 180, 0, 255, 31, 16, 8, 21, 4, 104, 123, 20, 0, 231, 127, 136, 79, 42, 89]
abbrev dktX9_bytesIn_2 : List UInt8 := dkwX9_bytesIn_2 ++ dktX9_bytesIn_3
def dkwX9_bytesIn_1 : List UInt8 := [17, 3, 232, 164, 0, 10, 42, 16, 250, 182, 0, 166, 172, 29, 4, 100, 54, 4, 21, 4, 155, 0, 40, 42]
abbrev dktX9_bytesIn_1 : List UInt8 := dkwX9_bytesIn_1 ++ dktX9_bytesIn_2
def dkwX9_bytesIn_0 : List UInt8 := [29, 4, 16, 8, 184, 0, 156, 154, 0, 9, 42, 2, 182, 0, 166, 172, 42, 180, 0, 255, 29, 96]
abbrev dktX9_bytesIn_0 : List UInt8 := dkwX9_bytesIn_0 ++ dktX9_bytesIn_1
theorem dksX9_bytesIn_0 : cX9_bytesIn.data.toList.drop 0 = dktX9_bytesIn_0 := by decide +kernel
theorem dksX9_bytesIn_1 : cX9_bytesIn.data.toList.drop 22 = dktX9_bytesIn_1 := dk_seg dksX9_bytesIn_0 22 rfl rfl
theorem dksX9_bytesIn_2 : cX9_bytesIn.data.toList.drop 46 = dktX9_bytesIn_2 := dk_seg dksX9_bytesIn_1 24 rfl rfl
theorem dksX9_bytesIn_3 : cX9_bytesIn.data.toList.drop 68 = dktX9_bytesIn_3 := dk_seg dksX9_bytesIn_2 22 rfl rfl
theorem dX9_bytesIn_0 : decode cX9_bytesIn 0 = .ok (.iload_n 3, 1) := dk_29 (dk_at dksX9_bytesIn_0 0 rfl rfl)
theorem dX9_bytesIn_1 : decode cX9_bytesIn 1 = .ok (.iconst 1, 1) := dk_4 (dk_at dksX9_bytesIn_0 1 rfl rfl)
theorem dX9_bytesIn_2 : decode cX9_bytesIn 2 = .ok (.bipush 8, 2) := dk_16 8 (dk_at dksX9_bytesIn_0 2 rfl rfl)
theorem dX9_bytesIn_4 : decode cX9_bytesIn 4 = .ok (.invokestatic 156, 3) := dk_184 0 156 (dk_at dksX9_bytesIn_0 4 rfl rfl)
theorem dX9_bytesIn_7 : decode cX9_bytesIn 7 = .ok (.ifCond .ne 9, 3) := dk_154 0 9 (dk_at dksX9_bytesIn_0 7 rfl rfl)
theorem dX9_bytesIn_10 : decode cX9_bytesIn 10 = .ok (.aload_n 0, 1) := dk_42 (dk_at dksX9_bytesIn_0 10 rfl rfl)
theorem dX9_bytesIn_11 : decode cX9_bytesIn 11 = .ok (.iconst (-1), 1) := dk_2 (dk_at dksX9_bytesIn_0 11 rfl rfl)
theorem dX9_bytesIn_12 : decode cX9_bytesIn 12 = .ok (.invokevirtual 166, 3) := dk_182 0 166 (dk_at dksX9_bytesIn_0 12 rfl rfl)
theorem dX9_bytesIn_15 : decode cX9_bytesIn 15 = .ok (.ireturn, 1) := dk_172 (dk_at dksX9_bytesIn_0 15 rfl rfl)
theorem dX9_bytesIn_16 : decode cX9_bytesIn 16 = .ok (.aload_n 0, 1) := dk_42 (dk_at dksX9_bytesIn_0 16 rfl rfl)
theorem dX9_bytesIn_17 : decode cX9_bytesIn 17 = .ok (.getfield 255, 3) := dk_180 0 255 (dk_at dksX9_bytesIn_0 17 rfl rfl)
theorem dX9_bytesIn_20 : decode cX9_bytesIn 20 = .ok (.iload_n 3, 1) := dk_29 (dk_at dksX9_bytesIn_0 20 rfl rfl)
theorem dX9_bytesIn_21 : decode cX9_bytesIn 21 = .ok (.iadd, 1) := dk_96 (dk_at dksX9_bytesIn_0 21 rfl rfl)
theorem dX9_bytesIn_22 : decode cX9_bytesIn 22 = .ok (.sipush 1000, 3) := dk_17 3 232 (dk_at dksX9_bytesIn_1 0 rfl rfl)
theorem dX9_bytesIn_25 : decode cX9_bytesIn 25 = .ok (.if_icmp .le 10, 3) := dk_164 0 10 (dk_at dksX9_bytesIn_1 3 rfl rfl)
theorem dX9_bytesIn_28 : decode cX9_bytesIn 28 = .ok (.aload_n 0, 1) := dk_42 (dk_at dksX9_bytesIn_1 6 rfl rfl)
theorem dX9_bytesIn_29 : decode cX9_bytesIn 29 = .ok (.bipush (-6), 2) := dk_16 250 (dk_at dksX9_bytesIn_1 7 rfl rfl)
theorem dX9_bytesIn_31 : decode cX9_bytesIn 31 = .ok (.invokevirtual 166, 3) := dk_182 0 166 (dk_at dksX9_bytesIn_1 9 rfl rfl)
theorem dX9_bytesIn_34 : decode cX9_bytesIn 34 = .ok (.ireturn, 1) := dk_172 (dk_at dksX9_bytesIn_1 12 rfl rfl)
theorem dX9_bytesIn_35 : decode cX9_bytesIn 35 = .ok (.iload_n 3, 1) := dk_29 (dk_at dksX9_bytesIn_1 13 rfl rfl)
theorem dX9_bytesIn_36 : decode cX9_bytesIn 36 = .ok (.iconst 1, 1) := dk_4 (dk_at dksX9_bytesIn_1 14 rfl rfl)
theorem dX9_bytesIn_37 : decode cX9_bytesIn 37 = .ok (.isub, 1) := dk_100 (dk_at dksX9_bytesIn_1 15 rfl rfl)
theorem dX9_bytesIn_38 : decode cX9_bytesIn 38 = .ok (.istore 4, 2) := dk_54 4 (dk_at dksX9_bytesIn_1 16 rfl rfl)
theorem dX9_bytesIn_40 : decode cX9_bytesIn 40 = .ok (.iload 4, 2) := dk_21 4 (dk_at dksX9_bytesIn_1 18 rfl rfl)
theorem dX9_bytesIn_42 : decode cX9_bytesIn 42 = .ok (.ifCond .lt 40, 3) := dk_155 0 40 (dk_at dksX9_bytesIn_1 20 rfl rfl)
theorem dX9_bytesIn_45 : decode cX9_bytesIn 45 = .ok (.aload_n 0, 1) := dk_42 (dk_at dksX9_bytesIn_1 23 rfl rfl)
theorem dX9_bytesIn_46 : decode cX9_bytesIn 46 = .ok (.getfield 50, 3) := dk_180 0 50 (dk_at dksX9_bytesIn_2 0 rfl rfl)
theorem dX9_bytesIn_49 : decode cX9_bytesIn 49 = .ok (.aload_n 0, 1) := dk_42 (dk_at dksX9_bytesIn_2 3 rfl rfl)
theorem dX9_bytesIn_50 : decode cX9_bytesIn 50 = .ok (.getfield 255, 3) := dk_180 0 255 (dk_at dksX9_bytesIn_2 4 rfl rfl)
theorem dX9_bytesIn_53 : decode cX9_bytesIn 53 = .ok (.lload_n 1, 1) := dk_31 (dk_at dksX9_bytesIn_2 7 rfl rfl)
theorem dX9_bytesIn_54 : decode cX9_bytesIn 54 = .ok (.bipush 8, 2) := dk_16 8 (dk_at dksX9_bytesIn_2 8 rfl rfl)
theorem dX9_bytesIn_56 : decode cX9_bytesIn 56 = .ok (.iload 4, 2) := dk_21 4 (dk_at dksX9_bytesIn_2 10 rfl rfl)
theorem dX9_bytesIn_58 : decode cX9_bytesIn 58 = .ok (.imul, 1) := dk_104 (dk_at dksX9_bytesIn_2 12 rfl rfl)
theorem dX9_bytesIn_59 : decode cX9_bytesIn 59 = .ok (.lshr, 1) := dk_123 (dk_at dksX9_bytesIn_2 13 rfl rfl)
theorem dX9_bytesIn_60 : decode cX9_bytesIn 60 = .ok (.ldc2_w 231, 3) := dk_20 0 231 (dk_at dksX9_bytesIn_2 14 rfl rfl)
theorem dX9_bytesIn_63 : decode cX9_bytesIn 63 = .ok (.land, 1) := dk_127 (dk_at dksX9_bytesIn_2 17 rfl rfl)
theorem dX9_bytesIn_64 : decode cX9_bytesIn 64 = .ok (.l2i, 1) := dk_136 (dk_at dksX9_bytesIn_2 18 rfl rfl)
theorem dX9_bytesIn_65 : decode cX9_bytesIn 65 = .ok (.iastore, 1) := dk_79 (dk_at dksX9_bytesIn_2 19 rfl rfl)
theorem dX9_bytesIn_66 : decode cX9_bytesIn 66 = .ok (.aload_n 0, 1) := dk_42 (dk_at dksX9_bytesIn_2 20 rfl rfl)
theorem dX9_bytesIn_67 : decode cX9_bytesIn 67 = .ok (.dup, 1) := dk_89 (dk_at dksX9_bytesIn_2 21 rfl rfl)
theorem dX9_bytesIn_68 : decode cX9_bytesIn 68 = .ok (.getfield 255, 3) := dk_180 0 255 (dk_at dksX9_bytesIn_3 0 rfl rfl)
theorem dX9_bytesIn_71 : decode cX9_bytesIn 71 = .ok (.iconst 1, 1) := dk_4 (dk_at dksX9_bytesIn_3 3 rfl rfl)
theorem dX9_bytesIn_72 : decode cX9_bytesIn 72 = .ok (.iadd, 1) := dk_96 (dk_at dksX9_bytesIn_3 4 rfl rfl)
theorem dX9_bytesIn_73 : decode cX9_bytesIn 73 = .ok (.putfield 255, 3) := dk_181 0 255 (dk_at dksX9_bytesIn_3 5 rfl rfl)
theorem dX9_bytesIn_76 : decode cX9_bytesIn 76 = .ok (.iinc 4 (-1), 3) := dk_132 4 255 (dk_at dksX9_bytesIn_3 8 rfl rfl)
theorem dX9_bytesIn_79 : decode cX9_bytesIn 79 = .ok (.goto (-39), 3) := dk_167 255 217 (dk_at dksX9_bytesIn_3 11 rfl rfl)
theorem dX9_bytesIn_82 : decode cX9_bytesIn 82 = .ok (.aload_n 0, 1) := dk_42 (dk_at dksX9_bytesIn_3 14 rfl rfl)
theorem dX9_bytesIn_83 : decode cX9_bytesIn 83 = .ok (.getfield 255, 3) := dk_180 0 255 (dk_at dksX9_bytesIn_3 15 rfl rfl)
theorem dX9_bytesIn_86 : decode cX9_bytesIn 86 = .ok (.ireturn, 1) := dk_172 (dk_at dksX9_bytesIn_3 18 rfl rfl)
abbrev cX9_unitsIn : ByteArray := prog_17_method_38_code
def yX9_unitsIn : MethodName := ⟨RX9, "unitsIn", "(JI)I"⟩
def dkwX9_unitsIn_3 : List UInt8 := [181, 1, 2, 132, 4, 255, 167, 255, 217, 42, 180, 1, 2, 172]
abbrev dktX9_unitsIn_3 : List UInt8 := dkwX9_unitsIn_3 ++ []
def dkwX9_unitsIn_2 : List UInt8 := [42, 180, 1, 2, 31, 16, 16, 21, 4, 104, 123, 20, 1, 5, 127, 136, 79, 42, 89, 180, 1, 2, 4, 96]
abbrev dktX9_unitsIn_2 : List UInt8 := dkwX9_unitsIn_2 ++ dktX9_unitsIn_3
def dkwX9_unitsIn_1 : List UInt8 := [164, 0, 10, 42, 16, 250, 182, 0, 166, 172, 29, 4, 100, 54, 4, 21, 4, 155, 0, 40, 42, 180, 0, 53]
abbrev dktX9_unitsIn_1 : List UInt8 := dkwX9_unitsIn_1 ++ dktX9_unitsIn_2
def dkwX9_unitsIn_0 : List UInt8 := [29, 4, 7, 184, 0, 156, 154, 0, 9, 42, 2, 182, 0, 166, 172, 42, 180, 1, 2, 29, 96, 17, 3, 232]
abbrev dktX9_unitsIn_0 : List UInt8 := dkwX9_unitsIn_0 ++ dktX9_unitsIn_1
theorem dksX9_unitsIn_0 : cX9_unitsIn.data.toList.drop 0 = dktX9_unitsIn_0 := by decide +kernel
theorem dksX9_unitsIn_1 : cX9_unitsIn.data.toList.drop 24 = dktX9_unitsIn_1 := dk_seg dksX9_unitsIn_0 24 rfl rfl
theorem dksX9_unitsIn_2 : cX9_unitsIn.data.toList.drop 48 = dktX9_unitsIn_2 := dk_seg dksX9_unitsIn_1 24 rfl rfl
theorem dksX9_unitsIn_3 : cX9_unitsIn.data.toList.drop 72 = dktX9_unitsIn_3 := dk_seg dksX9_unitsIn_2 24 rfl rfl
theorem dX9_unitsIn_0 : decode cX9_unitsIn 0 = .ok (.iload_n 3, 1) := dk_29 (dk_at dksX9_unitsIn_0 0 rfl rfl)
theorem dX9_unitsIn_1 : decode cX9_unitsIn 1 = .ok (.iconst 1, 1) := dk_4 (dk_at dksX9_unitsIn_0 1 rfl rfl)
theorem dX9_unitsIn_2 : decode cX9_unitsIn 2 = .ok (.iconst 4, 1) := dk_7 (dk_at dksX9_unitsIn_0 2 rfl rfl)
theorem dX9_unitsIn_3 : decode cX9_unitsIn 3 = .ok (.invokestatic 156, 3) := dk_184 0 156 (dk_at dksX9_unitsIn_0 3 rfl rfl)
theorem dX9_unitsIn_6 : decode cX9_unitsIn 6 = .ok (.ifCond .ne 9, 3) := dk_154 0 9 (dk_at dksX9_unitsIn_0 6 rfl rfl)
theorem dX9_unitsIn_9 : decode cX9_unitsIn 9 = .ok (.aload_n 0, 1) := dk_42 (dk_at dksX9_unitsIn_0 9 rfl rfl)
theorem dX9_unitsIn_10 : decode cX9_unitsIn 10 = .ok (.iconst (-1), 1) := dk_2 (dk_at dksX9_unitsIn_0 10 rfl rfl)
theorem dX9_unitsIn_11 : decode cX9_unitsIn 11 = .ok (.invokevirtual 166, 3) := dk_182 0 166 (dk_at dksX9_unitsIn_0 11 rfl rfl)
theorem dX9_unitsIn_14 : decode cX9_unitsIn 14 = .ok (.ireturn, 1) := dk_172 (dk_at dksX9_unitsIn_0 14 rfl rfl)
theorem dX9_unitsIn_15 : decode cX9_unitsIn 15 = .ok (.aload_n 0, 1) := dk_42 (dk_at dksX9_unitsIn_0 15 rfl rfl)
theorem dX9_unitsIn_16 : decode cX9_unitsIn 16 = .ok (.getfield 258, 3) := dk_180 1 2 (dk_at dksX9_unitsIn_0 16 rfl rfl)
theorem dX9_unitsIn_19 : decode cX9_unitsIn 19 = .ok (.iload_n 3, 1) := dk_29 (dk_at dksX9_unitsIn_0 19 rfl rfl)
theorem dX9_unitsIn_20 : decode cX9_unitsIn 20 = .ok (.iadd, 1) := dk_96 (dk_at dksX9_unitsIn_0 20 rfl rfl)
theorem dX9_unitsIn_21 : decode cX9_unitsIn 21 = .ok (.sipush 1000, 3) := dk_17 3 232 (dk_at dksX9_unitsIn_0 21 rfl rfl)
theorem dX9_unitsIn_24 : decode cX9_unitsIn 24 = .ok (.if_icmp .le 10, 3) := dk_164 0 10 (dk_at dksX9_unitsIn_1 0 rfl rfl)
theorem dX9_unitsIn_27 : decode cX9_unitsIn 27 = .ok (.aload_n 0, 1) := dk_42 (dk_at dksX9_unitsIn_1 3 rfl rfl)
theorem dX9_unitsIn_28 : decode cX9_unitsIn 28 = .ok (.bipush (-6), 2) := dk_16 250 (dk_at dksX9_unitsIn_1 4 rfl rfl)
theorem dX9_unitsIn_30 : decode cX9_unitsIn 30 = .ok (.invokevirtual 166, 3) := dk_182 0 166 (dk_at dksX9_unitsIn_1 6 rfl rfl)
theorem dX9_unitsIn_33 : decode cX9_unitsIn 33 = .ok (.ireturn, 1) := dk_172 (dk_at dksX9_unitsIn_1 9 rfl rfl)
theorem dX9_unitsIn_34 : decode cX9_unitsIn 34 = .ok (.iload_n 3, 1) := dk_29 (dk_at dksX9_unitsIn_1 10 rfl rfl)
theorem dX9_unitsIn_35 : decode cX9_unitsIn 35 = .ok (.iconst 1, 1) := dk_4 (dk_at dksX9_unitsIn_1 11 rfl rfl)
theorem dX9_unitsIn_36 : decode cX9_unitsIn 36 = .ok (.isub, 1) := dk_100 (dk_at dksX9_unitsIn_1 12 rfl rfl)
theorem dX9_unitsIn_37 : decode cX9_unitsIn 37 = .ok (.istore 4, 2) := dk_54 4 (dk_at dksX9_unitsIn_1 13 rfl rfl)
theorem dX9_unitsIn_39 : decode cX9_unitsIn 39 = .ok (.iload 4, 2) := dk_21 4 (dk_at dksX9_unitsIn_1 15 rfl rfl)
theorem dX9_unitsIn_41 : decode cX9_unitsIn 41 = .ok (.ifCond .lt 40, 3) := dk_155 0 40 (dk_at dksX9_unitsIn_1 17 rfl rfl)
theorem dX9_unitsIn_44 : decode cX9_unitsIn 44 = .ok (.aload_n 0, 1) := dk_42 (dk_at dksX9_unitsIn_1 20 rfl rfl)
theorem dX9_unitsIn_45 : decode cX9_unitsIn 45 = .ok (.getfield 53, 3) := dk_180 0 53 (dk_at dksX9_unitsIn_1 21 rfl rfl)
theorem dX9_unitsIn_48 : decode cX9_unitsIn 48 = .ok (.aload_n 0, 1) := dk_42 (dk_at dksX9_unitsIn_2 0 rfl rfl)
theorem dX9_unitsIn_49 : decode cX9_unitsIn 49 = .ok (.getfield 258, 3) := dk_180 1 2 (dk_at dksX9_unitsIn_2 1 rfl rfl)
theorem dX9_unitsIn_52 : decode cX9_unitsIn 52 = .ok (.lload_n 1, 1) := dk_31 (dk_at dksX9_unitsIn_2 4 rfl rfl)
theorem dX9_unitsIn_53 : decode cX9_unitsIn 53 = .ok (.bipush 16, 2) := dk_16 16 (dk_at dksX9_unitsIn_2 5 rfl rfl)
theorem dX9_unitsIn_55 : decode cX9_unitsIn 55 = .ok (.iload 4, 2) := dk_21 4 (dk_at dksX9_unitsIn_2 7 rfl rfl)
theorem dX9_unitsIn_57 : decode cX9_unitsIn 57 = .ok (.imul, 1) := dk_104 (dk_at dksX9_unitsIn_2 9 rfl rfl)
theorem dX9_unitsIn_58 : decode cX9_unitsIn 58 = .ok (.lshr, 1) := dk_123 (dk_at dksX9_unitsIn_2 10 rfl rfl)
theorem dX9_unitsIn_59 : decode cX9_unitsIn 59 = .ok (.ldc2_w 261, 3) := dk_20 1 5 (dk_at dksX9_unitsIn_2 11 rfl rfl)
theorem dX9_unitsIn_62 : decode cX9_unitsIn 62 = .ok (.land, 1) := dk_127 (dk_at dksX9_unitsIn_2 14 rfl rfl)
theorem dX9_unitsIn_63 : decode cX9_unitsIn 63 = .ok (.l2i, 1) := dk_136 (dk_at dksX9_unitsIn_2 15 rfl rfl)
theorem dX9_unitsIn_64 : decode cX9_unitsIn 64 = .ok (.iastore, 1) := dk_79 (dk_at dksX9_unitsIn_2 16 rfl rfl)
theorem dX9_unitsIn_65 : decode cX9_unitsIn 65 = .ok (.aload_n 0, 1) := dk_42 (dk_at dksX9_unitsIn_2 17 rfl rfl)
theorem dX9_unitsIn_66 : decode cX9_unitsIn 66 = .ok (.dup, 1) := dk_89 (dk_at dksX9_unitsIn_2 18 rfl rfl)
theorem dX9_unitsIn_67 : decode cX9_unitsIn 67 = .ok (.getfield 258, 3) := dk_180 1 2 (dk_at dksX9_unitsIn_2 19 rfl rfl)
theorem dX9_unitsIn_70 : decode cX9_unitsIn 70 = .ok (.iconst 1, 1) := dk_4 (dk_at dksX9_unitsIn_2 22 rfl rfl)
theorem dX9_unitsIn_71 : decode cX9_unitsIn 71 = .ok (.iadd, 1) := dk_96 (dk_at dksX9_unitsIn_2 23 rfl rfl)
theorem dX9_unitsIn_72 : decode cX9_unitsIn 72 = .ok (.putfield 258, 3) := dk_181 1 2 (dk_at dksX9_unitsIn_3 0 rfl rfl)
theorem dX9_unitsIn_75 : decode cX9_unitsIn 75 = .ok (.iinc 4 (-1), 3) := dk_132 4 255 (dk_at dksX9_unitsIn_3 3 rfl rfl)
theorem dX9_unitsIn_78 : decode cX9_unitsIn 78 = .ok (.goto (-39), 3) := dk_167 255 217 (dk_at dksX9_unitsIn_3 6 rfl rfl)
theorem dX9_unitsIn_81 : decode cX9_unitsIn 81 = .ok (.aload_n 0, 1) := dk_42 (dk_at dksX9_unitsIn_3 9 rfl rfl)
theorem dX9_unitsIn_82 : decode cX9_unitsIn 82 = .ok (.getfield 258, 3) := dk_180 1 2 (dk_at dksX9_unitsIn_3 10 rfl rfl)
theorem dX9_unitsIn_85 : decode cX9_unitsIn 85 = .ok (.ireturn, 1) := dk_172 (dk_at dksX9_unitsIn_3 13 rfl rfl)
abbrev cX9_fill : ByteArray := prog_17_method_39_code
def yX9_fill : MethodName := ⟨RX9, "fill", "(I)I"⟩
def dkwX9_fill_6 : List UInt8 := [180, 1, 10, 181, 0, 255, 167, 0, 11, 42, 42, 180, 1, 10, 181, 1, 2, 42, 180, 1, 10, 172]
abbrev dktX9_fill_6 : List UInt8 := dkwX9_fill_6 ++ []
def dkwX9_fill_5 : List UInt8 := [180, 0, 53, 28, 42, 180, 0, 56, 28, 46, 79, 132, 2, 1, 167, 255, 213, 27, 5, 160, 0, 14, 42, 42]
abbrev dktX9_fill_5 : List UInt8 := dkwX9_fill_5 ++ dktX9_fill_6
def dkwX9_fill_4 : List UInt8 := [162, 0, 41, 27, 5, 160, 0, 18, 42, 180, 0, 50, 28, 42, 180, 0, 56, 28, 46, 79, 167, 0, 15, 42]
abbrev dktX9_fill_4 : List UInt8 := dkwX9_fill_4 ++ dktX9_fill_5
def dkwX9_fill_3 : List UInt8 := [42, 180, 1, 10, 17, 3, 232, 164, 0, 10, 42, 16, 250, 182, 0, 166, 172, 3, 61, 28, 42, 180, 1, 10]
abbrev dktX9_fill_3 : List UInt8 := dkwX9_fill_3 ++ dktX9_fill_4
def dkwX9_fill_2 : List UInt8 := [42, 180, 1, 7, 27, 5, 160, 0, 7, 5, 167, 0, 4, 4, 159, 0, 10, 42, 16, 254, 182, 0, 166, 172]
abbrev dktX9_fill_2 : List UInt8 := dkwX9_fill_2 ++ dktX9_fill_3
def dkwX9_fill_1 : List UInt8 := [42, 3, 181, 0, 255, 28, 172, 27, 4, 160, 0, 15, 42, 180, 1, 2, 61, 42, 3, 181, 1, 2, 28, 172]
abbrev dktX9_fill_1 : List UInt8 := dkwX9_fill_1 ++ dktX9_fill_2
def dkwX9_fill_0 : List UInt8 := [27, 3, 6, 184, 0, 156, 154, 0, 9, 42, 2, 182, 0, 166, 172, 27, 154, 0, 15, 42, 180, 0, 255, 61]
abbrev dktX9_fill_0 : List UInt8 := dkwX9_fill_0 ++ dktX9_fill_1
theorem dksX9_fill_0 : cX9_fill.data.toList.drop 0 = dktX9_fill_0 := by decide +kernel
theorem dksX9_fill_1 : cX9_fill.data.toList.drop 24 = dktX9_fill_1 := dk_seg dksX9_fill_0 24 rfl rfl
theorem dksX9_fill_2 : cX9_fill.data.toList.drop 48 = dktX9_fill_2 := dk_seg dksX9_fill_1 24 rfl rfl
theorem dksX9_fill_3 : cX9_fill.data.toList.drop 72 = dktX9_fill_3 := dk_seg dksX9_fill_2 24 rfl rfl
theorem dksX9_fill_4 : cX9_fill.data.toList.drop 96 = dktX9_fill_4 := dk_seg dksX9_fill_3 24 rfl rfl
theorem dksX9_fill_5 : cX9_fill.data.toList.drop 120 = dktX9_fill_5 := dk_seg dksX9_fill_4 24 rfl rfl
theorem dksX9_fill_6 : cX9_fill.data.toList.drop 144 = dktX9_fill_6 := dk_seg dksX9_fill_5 24 rfl rfl
theorem dX9_fill_0 : decode cX9_fill 0 = .ok (.iload_n 1, 1) := dk_27 (dk_at dksX9_fill_0 0 rfl rfl)
theorem dX9_fill_1 : decode cX9_fill 1 = .ok (.iconst 0, 1) := dk_3 (dk_at dksX9_fill_0 1 rfl rfl)
theorem dX9_fill_2 : decode cX9_fill 2 = .ok (.iconst 3, 1) := dk_6 (dk_at dksX9_fill_0 2 rfl rfl)
theorem dX9_fill_3 : decode cX9_fill 3 = .ok (.invokestatic 156, 3) := dk_184 0 156 (dk_at dksX9_fill_0 3 rfl rfl)
theorem dX9_fill_6 : decode cX9_fill 6 = .ok (.ifCond .ne 9, 3) := dk_154 0 9 (dk_at dksX9_fill_0 6 rfl rfl)
theorem dX9_fill_9 : decode cX9_fill 9 = .ok (.aload_n 0, 1) := dk_42 (dk_at dksX9_fill_0 9 rfl rfl)
theorem dX9_fill_10 : decode cX9_fill 10 = .ok (.iconst (-1), 1) := dk_2 (dk_at dksX9_fill_0 10 rfl rfl)
theorem dX9_fill_11 : decode cX9_fill 11 = .ok (.invokevirtual 166, 3) := dk_182 0 166 (dk_at dksX9_fill_0 11 rfl rfl)
theorem dX9_fill_14 : decode cX9_fill 14 = .ok (.ireturn, 1) := dk_172 (dk_at dksX9_fill_0 14 rfl rfl)
theorem dX9_fill_15 : decode cX9_fill 15 = .ok (.iload_n 1, 1) := dk_27 (dk_at dksX9_fill_0 15 rfl rfl)
theorem dX9_fill_16 : decode cX9_fill 16 = .ok (.ifCond .ne 15, 3) := dk_154 0 15 (dk_at dksX9_fill_0 16 rfl rfl)
theorem dX9_fill_19 : decode cX9_fill 19 = .ok (.aload_n 0, 1) := dk_42 (dk_at dksX9_fill_0 19 rfl rfl)
theorem dX9_fill_20 : decode cX9_fill 20 = .ok (.getfield 255, 3) := dk_180 0 255 (dk_at dksX9_fill_0 20 rfl rfl)
theorem dX9_fill_23 : decode cX9_fill 23 = .ok (.istore_n 2, 1) := dk_61 (dk_at dksX9_fill_0 23 rfl rfl)
theorem dX9_fill_24 : decode cX9_fill 24 = .ok (.aload_n 0, 1) := dk_42 (dk_at dksX9_fill_1 0 rfl rfl)
theorem dX9_fill_25 : decode cX9_fill 25 = .ok (.iconst 0, 1) := dk_3 (dk_at dksX9_fill_1 1 rfl rfl)
theorem dX9_fill_26 : decode cX9_fill 26 = .ok (.putfield 255, 3) := dk_181 0 255 (dk_at dksX9_fill_1 2 rfl rfl)
theorem dX9_fill_29 : decode cX9_fill 29 = .ok (.iload_n 2, 1) := dk_28 (dk_at dksX9_fill_1 5 rfl rfl)
theorem dX9_fill_30 : decode cX9_fill 30 = .ok (.ireturn, 1) := dk_172 (dk_at dksX9_fill_1 6 rfl rfl)
theorem dX9_fill_31 : decode cX9_fill 31 = .ok (.iload_n 1, 1) := dk_27 (dk_at dksX9_fill_1 7 rfl rfl)
theorem dX9_fill_32 : decode cX9_fill 32 = .ok (.iconst 1, 1) := dk_4 (dk_at dksX9_fill_1 8 rfl rfl)
theorem dX9_fill_33 : decode cX9_fill 33 = .ok (.if_icmp .ne 15, 3) := dk_160 0 15 (dk_at dksX9_fill_1 9 rfl rfl)
theorem dX9_fill_36 : decode cX9_fill 36 = .ok (.aload_n 0, 1) := dk_42 (dk_at dksX9_fill_1 12 rfl rfl)
theorem dX9_fill_37 : decode cX9_fill 37 = .ok (.getfield 258, 3) := dk_180 1 2 (dk_at dksX9_fill_1 13 rfl rfl)
theorem dX9_fill_40 : decode cX9_fill 40 = .ok (.istore_n 2, 1) := dk_61 (dk_at dksX9_fill_1 16 rfl rfl)
theorem dX9_fill_41 : decode cX9_fill 41 = .ok (.aload_n 0, 1) := dk_42 (dk_at dksX9_fill_1 17 rfl rfl)
theorem dX9_fill_42 : decode cX9_fill 42 = .ok (.iconst 0, 1) := dk_3 (dk_at dksX9_fill_1 18 rfl rfl)
theorem dX9_fill_43 : decode cX9_fill 43 = .ok (.putfield 258, 3) := dk_181 1 2 (dk_at dksX9_fill_1 19 rfl rfl)
theorem dX9_fill_46 : decode cX9_fill 46 = .ok (.iload_n 2, 1) := dk_28 (dk_at dksX9_fill_1 22 rfl rfl)
theorem dX9_fill_47 : decode cX9_fill 47 = .ok (.ireturn, 1) := dk_172 (dk_at dksX9_fill_1 23 rfl rfl)
theorem dX9_fill_48 : decode cX9_fill 48 = .ok (.aload_n 0, 1) := dk_42 (dk_at dksX9_fill_2 0 rfl rfl)
theorem dX9_fill_49 : decode cX9_fill 49 = .ok (.getfield 263, 3) := dk_180 1 7 (dk_at dksX9_fill_2 1 rfl rfl)
theorem dX9_fill_52 : decode cX9_fill 52 = .ok (.iload_n 1, 1) := dk_27 (dk_at dksX9_fill_2 4 rfl rfl)
theorem dX9_fill_53 : decode cX9_fill 53 = .ok (.iconst 2, 1) := dk_5 (dk_at dksX9_fill_2 5 rfl rfl)
theorem dX9_fill_54 : decode cX9_fill 54 = .ok (.if_icmp .ne 7, 3) := dk_160 0 7 (dk_at dksX9_fill_2 6 rfl rfl)
theorem dX9_fill_57 : decode cX9_fill 57 = .ok (.iconst 2, 1) := dk_5 (dk_at dksX9_fill_2 9 rfl rfl)
theorem dX9_fill_58 : decode cX9_fill 58 = .ok (.goto 4, 3) := dk_167 0 4 (dk_at dksX9_fill_2 10 rfl rfl)
theorem dX9_fill_61 : decode cX9_fill 61 = .ok (.iconst 1, 1) := dk_4 (dk_at dksX9_fill_2 13 rfl rfl)
theorem dX9_fill_62 : decode cX9_fill 62 = .ok (.if_icmp .eq 10, 3) := dk_159 0 10 (dk_at dksX9_fill_2 14 rfl rfl)
theorem dX9_fill_65 : decode cX9_fill 65 = .ok (.aload_n 0, 1) := dk_42 (dk_at dksX9_fill_2 17 rfl rfl)
theorem dX9_fill_66 : decode cX9_fill 66 = .ok (.bipush (-2), 2) := dk_16 254 (dk_at dksX9_fill_2 18 rfl rfl)
theorem dX9_fill_68 : decode cX9_fill 68 = .ok (.invokevirtual 166, 3) := dk_182 0 166 (dk_at dksX9_fill_2 20 rfl rfl)
theorem dX9_fill_71 : decode cX9_fill 71 = .ok (.ireturn, 1) := dk_172 (dk_at dksX9_fill_2 23 rfl rfl)
theorem dX9_fill_72 : decode cX9_fill 72 = .ok (.aload_n 0, 1) := dk_42 (dk_at dksX9_fill_3 0 rfl rfl)
theorem dX9_fill_73 : decode cX9_fill 73 = .ok (.getfield 266, 3) := dk_180 1 10 (dk_at dksX9_fill_3 1 rfl rfl)
theorem dX9_fill_76 : decode cX9_fill 76 = .ok (.sipush 1000, 3) := dk_17 3 232 (dk_at dksX9_fill_3 4 rfl rfl)
theorem dX9_fill_79 : decode cX9_fill 79 = .ok (.if_icmp .le 10, 3) := dk_164 0 10 (dk_at dksX9_fill_3 7 rfl rfl)
theorem dX9_fill_82 : decode cX9_fill 82 = .ok (.aload_n 0, 1) := dk_42 (dk_at dksX9_fill_3 10 rfl rfl)
theorem dX9_fill_83 : decode cX9_fill 83 = .ok (.bipush (-6), 2) := dk_16 250 (dk_at dksX9_fill_3 11 rfl rfl)
theorem dX9_fill_85 : decode cX9_fill 85 = .ok (.invokevirtual 166, 3) := dk_182 0 166 (dk_at dksX9_fill_3 13 rfl rfl)
theorem dX9_fill_88 : decode cX9_fill 88 = .ok (.ireturn, 1) := dk_172 (dk_at dksX9_fill_3 16 rfl rfl)
theorem dX9_fill_89 : decode cX9_fill 89 = .ok (.iconst 0, 1) := dk_3 (dk_at dksX9_fill_3 17 rfl rfl)
theorem dX9_fill_90 : decode cX9_fill 90 = .ok (.istore_n 2, 1) := dk_61 (dk_at dksX9_fill_3 18 rfl rfl)
theorem dX9_fill_91 : decode cX9_fill 91 = .ok (.iload_n 2, 1) := dk_28 (dk_at dksX9_fill_3 19 rfl rfl)
theorem dX9_fill_92 : decode cX9_fill 92 = .ok (.aload_n 0, 1) := dk_42 (dk_at dksX9_fill_3 20 rfl rfl)
theorem dX9_fill_93 : decode cX9_fill 93 = .ok (.getfield 266, 3) := dk_180 1 10 (dk_at dksX9_fill_3 21 rfl rfl)
theorem dX9_fill_96 : decode cX9_fill 96 = .ok (.if_icmp .ge 41, 3) := dk_162 0 41 (dk_at dksX9_fill_4 0 rfl rfl)
theorem dX9_fill_99 : decode cX9_fill 99 = .ok (.iload_n 1, 1) := dk_27 (dk_at dksX9_fill_4 3 rfl rfl)
theorem dX9_fill_100 : decode cX9_fill 100 = .ok (.iconst 2, 1) := dk_5 (dk_at dksX9_fill_4 4 rfl rfl)
theorem dX9_fill_101 : decode cX9_fill 101 = .ok (.if_icmp .ne 18, 3) := dk_160 0 18 (dk_at dksX9_fill_4 5 rfl rfl)
theorem dX9_fill_104 : decode cX9_fill 104 = .ok (.aload_n 0, 1) := dk_42 (dk_at dksX9_fill_4 8 rfl rfl)
theorem dX9_fill_105 : decode cX9_fill 105 = .ok (.getfield 50, 3) := dk_180 0 50 (dk_at dksX9_fill_4 9 rfl rfl)
theorem dX9_fill_108 : decode cX9_fill 108 = .ok (.iload_n 2, 1) := dk_28 (dk_at dksX9_fill_4 12 rfl rfl)
theorem dX9_fill_109 : decode cX9_fill 109 = .ok (.aload_n 0, 1) := dk_42 (dk_at dksX9_fill_4 13 rfl rfl)
theorem dX9_fill_110 : decode cX9_fill 110 = .ok (.getfield 56, 3) := dk_180 0 56 (dk_at dksX9_fill_4 14 rfl rfl)
theorem dX9_fill_113 : decode cX9_fill 113 = .ok (.iload_n 2, 1) := dk_28 (dk_at dksX9_fill_4 17 rfl rfl)
theorem dX9_fill_114 : decode cX9_fill 114 = .ok (.iaload, 1) := dk_46 (dk_at dksX9_fill_4 18 rfl rfl)
theorem dX9_fill_115 : decode cX9_fill 115 = .ok (.iastore, 1) := dk_79 (dk_at dksX9_fill_4 19 rfl rfl)
theorem dX9_fill_116 : decode cX9_fill 116 = .ok (.goto 15, 3) := dk_167 0 15 (dk_at dksX9_fill_4 20 rfl rfl)
theorem dX9_fill_119 : decode cX9_fill 119 = .ok (.aload_n 0, 1) := dk_42 (dk_at dksX9_fill_4 23 rfl rfl)
theorem dX9_fill_120 : decode cX9_fill 120 = .ok (.getfield 53, 3) := dk_180 0 53 (dk_at dksX9_fill_5 0 rfl rfl)
theorem dX9_fill_123 : decode cX9_fill 123 = .ok (.iload_n 2, 1) := dk_28 (dk_at dksX9_fill_5 3 rfl rfl)
theorem dX9_fill_124 : decode cX9_fill 124 = .ok (.aload_n 0, 1) := dk_42 (dk_at dksX9_fill_5 4 rfl rfl)
theorem dX9_fill_125 : decode cX9_fill 125 = .ok (.getfield 56, 3) := dk_180 0 56 (dk_at dksX9_fill_5 5 rfl rfl)
theorem dX9_fill_128 : decode cX9_fill 128 = .ok (.iload_n 2, 1) := dk_28 (dk_at dksX9_fill_5 8 rfl rfl)
theorem dX9_fill_129 : decode cX9_fill 129 = .ok (.iaload, 1) := dk_46 (dk_at dksX9_fill_5 9 rfl rfl)
theorem dX9_fill_130 : decode cX9_fill 130 = .ok (.iastore, 1) := dk_79 (dk_at dksX9_fill_5 10 rfl rfl)
theorem dX9_fill_131 : decode cX9_fill 131 = .ok (.iinc 2 1, 3) := dk_132 2 1 (dk_at dksX9_fill_5 11 rfl rfl)
theorem dX9_fill_134 : decode cX9_fill 134 = .ok (.goto (-43), 3) := dk_167 255 213 (dk_at dksX9_fill_5 14 rfl rfl)
theorem dX9_fill_137 : decode cX9_fill 137 = .ok (.iload_n 1, 1) := dk_27 (dk_at dksX9_fill_5 17 rfl rfl)
theorem dX9_fill_138 : decode cX9_fill 138 = .ok (.iconst 2, 1) := dk_5 (dk_at dksX9_fill_5 18 rfl rfl)
theorem dX9_fill_139 : decode cX9_fill 139 = .ok (.if_icmp .ne 14, 3) := dk_160 0 14 (dk_at dksX9_fill_5 19 rfl rfl)
theorem dX9_fill_142 : decode cX9_fill 142 = .ok (.aload_n 0, 1) := dk_42 (dk_at dksX9_fill_5 22 rfl rfl)
theorem dX9_fill_143 : decode cX9_fill 143 = .ok (.aload_n 0, 1) := dk_42 (dk_at dksX9_fill_5 23 rfl rfl)
theorem dX9_fill_144 : decode cX9_fill 144 = .ok (.getfield 266, 3) := dk_180 1 10 (dk_at dksX9_fill_6 0 rfl rfl)
theorem dX9_fill_147 : decode cX9_fill 147 = .ok (.putfield 255, 3) := dk_181 0 255 (dk_at dksX9_fill_6 3 rfl rfl)
theorem dX9_fill_150 : decode cX9_fill 150 = .ok (.goto 11, 3) := dk_167 0 11 (dk_at dksX9_fill_6 6 rfl rfl)
theorem dX9_fill_153 : decode cX9_fill 153 = .ok (.aload_n 0, 1) := dk_42 (dk_at dksX9_fill_6 9 rfl rfl)
theorem dX9_fill_154 : decode cX9_fill 154 = .ok (.aload_n 0, 1) := dk_42 (dk_at dksX9_fill_6 10 rfl rfl)
theorem dX9_fill_155 : decode cX9_fill 155 = .ok (.getfield 266, 3) := dk_180 1 10 (dk_at dksX9_fill_6 11 rfl rfl)
theorem dX9_fill_158 : decode cX9_fill 158 = .ok (.putfield 258, 3) := dk_181 1 2 (dk_at dksX9_fill_6 14 rfl rfl)
theorem dX9_fill_161 : decode cX9_fill 161 = .ok (.aload_n 0, 1) := dk_42 (dk_at dksX9_fill_6 17 rfl rfl)
theorem dX9_fill_162 : decode cX9_fill 162 = .ok (.getfield 266, 3) := dk_180 1 10 (dk_at dksX9_fill_6 18 rfl rfl)
theorem dX9_fill_165 : decode cX9_fill 165 = .ok (.ireturn, 1) := dk_172 (dk_at dksX9_fill_6 21 rfl rfl)
abbrev cX9_decode : ByteArray := prog_17_method_59_code
def yX9_decode : MethodName := ⟨RX9, "decode", "(II)I"⟩
def dkwX9_decode_3 : List UInt8 := [180, 0, 84, 29, 4, 182, 1, 118, 172]
abbrev dktX9_decode_3 : List UInt8 := dkwX9_decode_3 ++ []
def dkwX9_decode_2 : List UInt8 := [42, 180, 0, 84, 182, 1, 114, 62, 29, 156, 0, 11, 42, 29, 182, 0, 166, 167, 0, 13, 42, 42]
abbrev dktX9_decode_2 : List UInt8 := dkwX9_decode_2 ++ dktX9_decode_3
def dkwX9_decode_1 : List UInt8 := [16, 251, 182, 0, 166, 172, 28, 3, 6, 184, 0, 156, 154, 0, 9, 42, 2, 182, 0, 166, 172, 42, 27, 28]
abbrev dktX9_decode_1 : List UInt8 := dkwX9_decode_1 ++ dktX9_decode_2
def dkwX9_decode_0 : List UInt8 := [42, 27, 182, 0, 170, 154, 0, 9, 42, 2, 182, 0, 166, 172, 42, 180, 0, 13, 27, 51, 154, 0, 10, 42]
abbrev dktX9_decode_0 : List UInt8 := dkwX9_decode_0 ++ dktX9_decode_1
theorem dksX9_decode_0 : cX9_decode.data.toList.drop 0 = dktX9_decode_0 := by decide +kernel
theorem dksX9_decode_1 : cX9_decode.data.toList.drop 24 = dktX9_decode_1 := dk_seg dksX9_decode_0 24 rfl rfl
theorem dksX9_decode_2 : cX9_decode.data.toList.drop 48 = dktX9_decode_2 := dk_seg dksX9_decode_1 24 rfl rfl
theorem dksX9_decode_3 : cX9_decode.data.toList.drop 70 = dktX9_decode_3 := dk_seg dksX9_decode_2 22 rfl rfl
theorem dX9_decode_0 : decode cX9_decode 0 = .ok (.aload_n 0, 1) := dk_42 (dk_at dksX9_decode_0 0 rfl rfl)
theorem dX9_decode_1 : decode cX9_decode 1 = .ok (.iload_n 1, 1) := dk_27 (dk_at dksX9_decode_0 1 rfl rfl)
theorem dX9_decode_2 : decode cX9_decode 2 = .ok (.invokevirtual 170, 3) := dk_182 0 170 (dk_at dksX9_decode_0 2 rfl rfl)
theorem dX9_decode_5 : decode cX9_decode 5 = .ok (.ifCond .ne 9, 3) := dk_154 0 9 (dk_at dksX9_decode_0 5 rfl rfl)
theorem dX9_decode_8 : decode cX9_decode 8 = .ok (.aload_n 0, 1) := dk_42 (dk_at dksX9_decode_0 8 rfl rfl)
theorem dX9_decode_9 : decode cX9_decode 9 = .ok (.iconst (-1), 1) := dk_2 (dk_at dksX9_decode_0 9 rfl rfl)
theorem dX9_decode_10 : decode cX9_decode 10 = .ok (.invokevirtual 166, 3) := dk_182 0 166 (dk_at dksX9_decode_0 10 rfl rfl)
theorem dX9_decode_13 : decode cX9_decode 13 = .ok (.ireturn, 1) := dk_172 (dk_at dksX9_decode_0 13 rfl rfl)
theorem dX9_decode_14 : decode cX9_decode 14 = .ok (.aload_n 0, 1) := dk_42 (dk_at dksX9_decode_0 14 rfl rfl)
theorem dX9_decode_15 : decode cX9_decode 15 = .ok (.getfield 13, 3) := dk_180 0 13 (dk_at dksX9_decode_0 15 rfl rfl)
theorem dX9_decode_18 : decode cX9_decode 18 = .ok (.iload_n 1, 1) := dk_27 (dk_at dksX9_decode_0 18 rfl rfl)
theorem dX9_decode_19 : decode cX9_decode 19 = .ok (.baload, 1) := dk_51 (dk_at dksX9_decode_0 19 rfl rfl)
theorem dX9_decode_20 : decode cX9_decode 20 = .ok (.ifCond .ne 10, 3) := dk_154 0 10 (dk_at dksX9_decode_0 20 rfl rfl)
theorem dX9_decode_23 : decode cX9_decode 23 = .ok (.aload_n 0, 1) := dk_42 (dk_at dksX9_decode_0 23 rfl rfl)
theorem dX9_decode_24 : decode cX9_decode 24 = .ok (.bipush (-5), 2) := dk_16 251 (dk_at dksX9_decode_1 0 rfl rfl)
theorem dX9_decode_26 : decode cX9_decode 26 = .ok (.invokevirtual 166, 3) := dk_182 0 166 (dk_at dksX9_decode_1 2 rfl rfl)
theorem dX9_decode_29 : decode cX9_decode 29 = .ok (.ireturn, 1) := dk_172 (dk_at dksX9_decode_1 5 rfl rfl)
theorem dX9_decode_30 : decode cX9_decode 30 = .ok (.iload_n 2, 1) := dk_28 (dk_at dksX9_decode_1 6 rfl rfl)
theorem dX9_decode_31 : decode cX9_decode 31 = .ok (.iconst 0, 1) := dk_3 (dk_at dksX9_decode_1 7 rfl rfl)
theorem dX9_decode_32 : decode cX9_decode 32 = .ok (.iconst 3, 1) := dk_6 (dk_at dksX9_decode_1 8 rfl rfl)
theorem dX9_decode_33 : decode cX9_decode 33 = .ok (.invokestatic 156, 3) := dk_184 0 156 (dk_at dksX9_decode_1 9 rfl rfl)
theorem dX9_decode_36 : decode cX9_decode 36 = .ok (.ifCond .ne 9, 3) := dk_154 0 9 (dk_at dksX9_decode_1 12 rfl rfl)
theorem dX9_decode_39 : decode cX9_decode 39 = .ok (.aload_n 0, 1) := dk_42 (dk_at dksX9_decode_1 15 rfl rfl)
theorem dX9_decode_40 : decode cX9_decode 40 = .ok (.iconst (-1), 1) := dk_2 (dk_at dksX9_decode_1 16 rfl rfl)
theorem dX9_decode_41 : decode cX9_decode 41 = .ok (.invokevirtual 166, 3) := dk_182 0 166 (dk_at dksX9_decode_1 17 rfl rfl)
theorem dX9_decode_44 : decode cX9_decode 44 = .ok (.ireturn, 1) := dk_172 (dk_at dksX9_decode_1 20 rfl rfl)
theorem dX9_decode_45 : decode cX9_decode 45 = .ok (.aload_n 0, 1) := dk_42 (dk_at dksX9_decode_1 21 rfl rfl)
theorem dX9_decode_46 : decode cX9_decode 46 = .ok (.iload_n 1, 1) := dk_27 (dk_at dksX9_decode_1 22 rfl rfl)
theorem dX9_decode_47 : decode cX9_decode 47 = .ok (.iload_n 2, 1) := dk_28 (dk_at dksX9_decode_1 23 rfl rfl)
theorem dX9_decode_48 : decode cX9_decode 48 = .ok (.aload_n 0, 1) := dk_42 (dk_at dksX9_decode_2 0 rfl rfl)
theorem dX9_decode_49 : decode cX9_decode 49 = .ok (.getfield 84, 3) := dk_180 0 84 (dk_at dksX9_decode_2 1 rfl rfl)
theorem dX9_decode_52 : decode cX9_decode 52 = .ok (.invokevirtual 370, 3) := dk_182 1 114 (dk_at dksX9_decode_2 4 rfl rfl)
theorem dX9_decode_55 : decode cX9_decode 55 = .ok (.istore_n 3, 1) := dk_62 (dk_at dksX9_decode_2 7 rfl rfl)
theorem dX9_decode_56 : decode cX9_decode 56 = .ok (.iload_n 3, 1) := dk_29 (dk_at dksX9_decode_2 8 rfl rfl)
theorem dX9_decode_57 : decode cX9_decode 57 = .ok (.ifCond .ge 11, 3) := dk_156 0 11 (dk_at dksX9_decode_2 9 rfl rfl)
theorem dX9_decode_60 : decode cX9_decode 60 = .ok (.aload_n 0, 1) := dk_42 (dk_at dksX9_decode_2 12 rfl rfl)
theorem dX9_decode_61 : decode cX9_decode 61 = .ok (.iload_n 3, 1) := dk_29 (dk_at dksX9_decode_2 13 rfl rfl)
theorem dX9_decode_62 : decode cX9_decode 62 = .ok (.invokevirtual 166, 3) := dk_182 0 166 (dk_at dksX9_decode_2 14 rfl rfl)
theorem dX9_decode_65 : decode cX9_decode 65 = .ok (.goto 13, 3) := dk_167 0 13 (dk_at dksX9_decode_2 17 rfl rfl)
theorem dX9_decode_68 : decode cX9_decode 68 = .ok (.aload_n 0, 1) := dk_42 (dk_at dksX9_decode_2 20 rfl rfl)
theorem dX9_decode_69 : decode cX9_decode 69 = .ok (.aload_n 0, 1) := dk_42 (dk_at dksX9_decode_2 21 rfl rfl)
theorem dX9_decode_70 : decode cX9_decode 70 = .ok (.getfield 84, 3) := dk_180 0 84 (dk_at dksX9_decode_3 0 rfl rfl)
theorem dX9_decode_73 : decode cX9_decode 73 = .ok (.iload_n 3, 1) := dk_29 (dk_at dksX9_decode_3 3 rfl rfl)
theorem dX9_decode_74 : decode cX9_decode 74 = .ok (.iconst 1, 1) := dk_4 (dk_at dksX9_decode_3 4 rfl rfl)
theorem dX9_decode_75 : decode cX9_decode 75 = .ok (.invokevirtual 374, 3) := dk_182 1 118 (dk_at dksX9_decode_3 5 rfl rfl)
theorem dX9_decode_78 : decode cX9_decode 78 = .ok (.ireturn, 1) := dk_172 (dk_at dksX9_decode_3 8 rfl rfl)
abbrev cX9_readAll : ByteArray := prog_17_method_46_code
def yX9_readAll : MethodName := ⟨RX9, "readAll", "(II[I)I"⟩
def dkwX9_readAll_3 : List UInt8 := [21, 4, 21, 5, 96, 54, 4, 167, 255, 207, 42, 180, 1, 16, 172]
abbrev dktX9_readAll_3 : List UInt8 := dkwX9_readAll_3 ++ []
def dkwX9_readAll_2 : List UInt8 := [42, 180, 0, 255, 4, 182, 1, 61, 54, 5, 21, 5, 156, 0, 12, 42, 21, 4, 181, 1, 65, 21, 5, 172]
abbrev dktX9_readAll_2 : List UInt8 := dkwX9_readAll_2 ++ dktX9_readAll_3
def dkwX9_readAll_1 : List UInt8 := [181, 1, 58, 3, 54, 4, 21, 4, 42, 180, 0, 255, 162, 0, 46, 42, 27, 28, 42, 180, 0, 50, 21, 4]
abbrev dktX9_readAll_1 : List UInt8 := dkwX9_readAll_1 ++ dktX9_readAll_2
def dkwX9_readAll_0 : List UInt8 := [42, 3, 181, 1, 33, 42, 7, 181, 1, 30, 42, 45, 181, 1, 13, 42, 3, 181, 1, 16, 42, 3]
abbrev dktX9_readAll_0 : List UInt8 := dkwX9_readAll_0 ++ dktX9_readAll_1
theorem dksX9_readAll_0 : cX9_readAll.data.toList.drop 0 = dktX9_readAll_0 := by decide +kernel
theorem dksX9_readAll_1 : cX9_readAll.data.toList.drop 22 = dktX9_readAll_1 := dk_seg dksX9_readAll_0 22 rfl rfl
theorem dksX9_readAll_2 : cX9_readAll.data.toList.drop 46 = dktX9_readAll_2 := dk_seg dksX9_readAll_1 24 rfl rfl
theorem dksX9_readAll_3 : cX9_readAll.data.toList.drop 70 = dktX9_readAll_3 := dk_seg dksX9_readAll_2 24 rfl rfl
theorem dX9_readAll_0 : decode cX9_readAll 0 = .ok (.aload_n 0, 1) := dk_42 (dk_at dksX9_readAll_0 0 rfl rfl)
theorem dX9_readAll_1 : decode cX9_readAll 1 = .ok (.iconst 0, 1) := dk_3 (dk_at dksX9_readAll_0 1 rfl rfl)
theorem dX9_readAll_2 : decode cX9_readAll 2 = .ok (.putfield 289, 3) := dk_181 1 33 (dk_at dksX9_readAll_0 2 rfl rfl)
theorem dX9_readAll_5 : decode cX9_readAll 5 = .ok (.aload_n 0, 1) := dk_42 (dk_at dksX9_readAll_0 5 rfl rfl)
theorem dX9_readAll_6 : decode cX9_readAll 6 = .ok (.iconst 4, 1) := dk_7 (dk_at dksX9_readAll_0 6 rfl rfl)
theorem dX9_readAll_7 : decode cX9_readAll 7 = .ok (.putfield 286, 3) := dk_181 1 30 (dk_at dksX9_readAll_0 7 rfl rfl)
theorem dX9_readAll_10 : decode cX9_readAll 10 = .ok (.aload_n 0, 1) := dk_42 (dk_at dksX9_readAll_0 10 rfl rfl)
theorem dX9_readAll_11 : decode cX9_readAll 11 = .ok (.aload_n 3, 1) := dk_45 (dk_at dksX9_readAll_0 11 rfl rfl)
theorem dX9_readAll_12 : decode cX9_readAll 12 = .ok (.putfield 269, 3) := dk_181 1 13 (dk_at dksX9_readAll_0 12 rfl rfl)
theorem dX9_readAll_15 : decode cX9_readAll 15 = .ok (.aload_n 0, 1) := dk_42 (dk_at dksX9_readAll_0 15 rfl rfl)
theorem dX9_readAll_16 : decode cX9_readAll 16 = .ok (.iconst 0, 1) := dk_3 (dk_at dksX9_readAll_0 16 rfl rfl)
theorem dX9_readAll_17 : decode cX9_readAll 17 = .ok (.putfield 272, 3) := dk_181 1 16 (dk_at dksX9_readAll_0 17 rfl rfl)
theorem dX9_readAll_20 : decode cX9_readAll 20 = .ok (.aload_n 0, 1) := dk_42 (dk_at dksX9_readAll_0 20 rfl rfl)
theorem dX9_readAll_21 : decode cX9_readAll 21 = .ok (.iconst 0, 1) := dk_3 (dk_at dksX9_readAll_0 21 rfl rfl)
theorem dX9_readAll_22 : decode cX9_readAll 22 = .ok (.putfield 314, 3) := dk_181 1 58 (dk_at dksX9_readAll_1 0 rfl rfl)
theorem dX9_readAll_25 : decode cX9_readAll 25 = .ok (.iconst 0, 1) := dk_3 (dk_at dksX9_readAll_1 3 rfl rfl)
theorem dX9_readAll_26 : decode cX9_readAll 26 = .ok (.istore 4, 2) := dk_54 4 (dk_at dksX9_readAll_1 4 rfl rfl)
theorem dX9_readAll_28 : decode cX9_readAll 28 = .ok (.iload 4, 2) := dk_21 4 (dk_at dksX9_readAll_1 6 rfl rfl)
theorem dX9_readAll_30 : decode cX9_readAll 30 = .ok (.aload_n 0, 1) := dk_42 (dk_at dksX9_readAll_1 8 rfl rfl)
theorem dX9_readAll_31 : decode cX9_readAll 31 = .ok (.getfield 255, 3) := dk_180 0 255 (dk_at dksX9_readAll_1 9 rfl rfl)
theorem dX9_readAll_34 : decode cX9_readAll 34 = .ok (.if_icmp .ge 46, 3) := dk_162 0 46 (dk_at dksX9_readAll_1 12 rfl rfl)
theorem dX9_readAll_37 : decode cX9_readAll 37 = .ok (.aload_n 0, 1) := dk_42 (dk_at dksX9_readAll_1 15 rfl rfl)
theorem dX9_readAll_38 : decode cX9_readAll 38 = .ok (.iload_n 1, 1) := dk_27 (dk_at dksX9_readAll_1 16 rfl rfl)
theorem dX9_readAll_39 : decode cX9_readAll 39 = .ok (.iload_n 2, 1) := dk_28 (dk_at dksX9_readAll_1 17 rfl rfl)
theorem dX9_readAll_40 : decode cX9_readAll 40 = .ok (.aload_n 0, 1) := dk_42 (dk_at dksX9_readAll_1 18 rfl rfl)
theorem dX9_readAll_41 : decode cX9_readAll 41 = .ok (.getfield 50, 3) := dk_180 0 50 (dk_at dksX9_readAll_1 19 rfl rfl)
theorem dX9_readAll_44 : decode cX9_readAll 44 = .ok (.iload 4, 2) := dk_21 4 (dk_at dksX9_readAll_1 22 rfl rfl)
theorem dX9_readAll_46 : decode cX9_readAll 46 = .ok (.aload_n 0, 1) := dk_42 (dk_at dksX9_readAll_2 0 rfl rfl)
theorem dX9_readAll_47 : decode cX9_readAll 47 = .ok (.getfield 255, 3) := dk_180 0 255 (dk_at dksX9_readAll_2 1 rfl rfl)
theorem dX9_readAll_50 : decode cX9_readAll 50 = .ok (.iconst 1, 1) := dk_4 (dk_at dksX9_readAll_2 4 rfl rfl)
theorem dX9_readAll_51 : decode cX9_readAll 51 = .ok (.invokevirtual 317, 3) := dk_182 1 61 (dk_at dksX9_readAll_2 5 rfl rfl)
theorem dX9_readAll_54 : decode cX9_readAll 54 = .ok (.istore 5, 2) := dk_54 5 (dk_at dksX9_readAll_2 8 rfl rfl)
theorem dX9_readAll_56 : decode cX9_readAll 56 = .ok (.iload 5, 2) := dk_21 5 (dk_at dksX9_readAll_2 10 rfl rfl)
theorem dX9_readAll_58 : decode cX9_readAll 58 = .ok (.ifCond .ge 12, 3) := dk_156 0 12 (dk_at dksX9_readAll_2 12 rfl rfl)
theorem dX9_readAll_61 : decode cX9_readAll 61 = .ok (.aload_n 0, 1) := dk_42 (dk_at dksX9_readAll_2 15 rfl rfl)
theorem dX9_readAll_62 : decode cX9_readAll 62 = .ok (.iload 4, 2) := dk_21 4 (dk_at dksX9_readAll_2 16 rfl rfl)
theorem dX9_readAll_64 : decode cX9_readAll 64 = .ok (.putfield 321, 3) := dk_181 1 65 (dk_at dksX9_readAll_2 18 rfl rfl)
theorem dX9_readAll_67 : decode cX9_readAll 67 = .ok (.iload 5, 2) := dk_21 5 (dk_at dksX9_readAll_2 21 rfl rfl)
theorem dX9_readAll_69 : decode cX9_readAll 69 = .ok (.ireturn, 1) := dk_172 (dk_at dksX9_readAll_2 23 rfl rfl)
theorem dX9_readAll_70 : decode cX9_readAll 70 = .ok (.iload 4, 2) := dk_21 4 (dk_at dksX9_readAll_3 0 rfl rfl)
theorem dX9_readAll_72 : decode cX9_readAll 72 = .ok (.iload 5, 2) := dk_21 5 (dk_at dksX9_readAll_3 2 rfl rfl)
theorem dX9_readAll_74 : decode cX9_readAll 74 = .ok (.iadd, 1) := dk_96 (dk_at dksX9_readAll_3 4 rfl rfl)
theorem dX9_readAll_75 : decode cX9_readAll 75 = .ok (.istore 4, 2) := dk_54 4 (dk_at dksX9_readAll_3 5 rfl rfl)
theorem dX9_readAll_77 : decode cX9_readAll 77 = .ok (.goto (-49), 3) := dk_167 255 207 (dk_at dksX9_readAll_3 7 rfl rfl)
theorem dX9_readAll_80 : decode cX9_readAll 80 = .ok (.aload_n 0, 1) := dk_42 (dk_at dksX9_readAll_3 10 rfl rfl)
theorem dX9_readAll_81 : decode cX9_readAll 81 = .ok (.getfield 272, 3) := dk_180 1 16 (dk_at dksX9_readAll_3 11 rfl rfl)
theorem dX9_readAll_84 : decode cX9_readAll 84 = .ok (.ireturn, 1) := dk_172 (dk_at dksX9_readAll_3 14 rfl rfl)
abbrev cX9_readOne : ByteArray := prog_17_method_45_code
def yX9_readOne : MethodName := ⟨RX9, "readOne", "(II[IIIZ)I"⟩
def dkwX9_readOne_6 : List UInt8 := [21, 4, 46, 96, 182, 1, 19, 4, 172]
abbrev dktX9_readOne_6 : List UInt8 := dkwX9_readOne_6 ++ []
def dkwX9_readOne_5 : List UInt8 := [28, 4, 160, 0, 13, 42, 42, 180, 0, 60, 3, 46, 182, 1, 55, 28, 6, 160, 0, 14, 42, 18, 160, 45]
abbrev dktX9_readOne_5 : List UInt8 := dkwX9_readOne_5 ++ dktX9_readOne_6
def dkwX9_readOne_4 : List UInt8 := [4, 172, 42, 89, 180, 1, 58, 4, 96, 181, 1, 58, 28, 154, 0, 6, 16, 247, 172, 42, 7, 181, 1, 30]
abbrev dktX9_readOne_4 : List UInt8 := dkwX9_readOne_4 ++ dktX9_readOne_5
def dkwX9_readOne_3 : List UInt8 := [42, 180, 1, 42, 46, 181, 1, 33, 167, 0, 16, 42, 42, 180, 0, 44, 42, 180, 1, 42, 46, 181, 1, 30]
abbrev dktX9_readOne_3 : List UInt8 := dkwX9_readOne_3 ++ dktX9_readOne_4
def dkwX9_readOne_2 : List UInt8 := [172, 21, 7, 6, 160, 0, 46, 42, 180, 0, 47, 42, 180, 1, 42, 51, 153, 0, 19, 42, 42, 180, 0, 44]
abbrev dktX9_readOne_2 : List UInt8 := dkwX9_readOne_2 ++ dktX9_readOne_3
def dkwX9_readOne_1 : List UInt8 := [172, 21, 7, 5, 160, 0, 21, 42, 42, 180, 1, 39, 182, 1, 55, 42, 7, 181, 1, 30, 42, 180, 1, 36]
abbrev dktX9_readOne_1 : List UInt8 := dkwX9_readOne_1 ++ dktX9_readOne_2
def dkwX9_readOne_0 : List UInt8 := [42, 27, 45, 21, 4, 21, 5, 182, 1, 51, 54, 7, 21, 7, 4, 160, 0, 10, 21, 6, 154, 0, 5, 3]
abbrev dktX9_readOne_0 : List UInt8 := dkwX9_readOne_0 ++ dktX9_readOne_1
theorem dksX9_readOne_0 : cX9_readOne.data.toList.drop 0 = dktX9_readOne_0 := by decide +kernel
theorem dksX9_readOne_1 : cX9_readOne.data.toList.drop 24 = dktX9_readOne_1 := dk_seg dksX9_readOne_0 24 rfl rfl
theorem dksX9_readOne_2 : cX9_readOne.data.toList.drop 48 = dktX9_readOne_2 := dk_seg dksX9_readOne_1 24 rfl rfl
theorem dksX9_readOne_3 : cX9_readOne.data.toList.drop 72 = dktX9_readOne_3 := dk_seg dksX9_readOne_2 24 rfl rfl
theorem dksX9_readOne_4 : cX9_readOne.data.toList.drop 96 = dktX9_readOne_4 := dk_seg dksX9_readOne_3 24 rfl rfl
theorem dksX9_readOne_5 : cX9_readOne.data.toList.drop 120 = dktX9_readOne_5 := dk_seg dksX9_readOne_4 24 rfl rfl
theorem dksX9_readOne_6 : cX9_readOne.data.toList.drop 144 = dktX9_readOne_6 := dk_seg dksX9_readOne_5 24 rfl rfl
theorem dX9_readOne_0 : decode cX9_readOne 0 = .ok (.aload_n 0, 1) := dk_42 (dk_at dksX9_readOne_0 0 rfl rfl)
theorem dX9_readOne_1 : decode cX9_readOne 1 = .ok (.iload_n 1, 1) := dk_27 (dk_at dksX9_readOne_0 1 rfl rfl)
theorem dX9_readOne_2 : decode cX9_readOne 2 = .ok (.aload_n 3, 1) := dk_45 (dk_at dksX9_readOne_0 2 rfl rfl)
theorem dX9_readOne_3 : decode cX9_readOne 3 = .ok (.iload 4, 2) := dk_21 4 (dk_at dksX9_readOne_0 3 rfl rfl)
theorem dX9_readOne_5 : decode cX9_readOne 5 = .ok (.iload 5, 2) := dk_21 5 (dk_at dksX9_readOne_0 5 rfl rfl)
theorem dX9_readOne_7 : decode cX9_readOne 7 = .ok (.invokevirtual 307, 3) := dk_182 1 51 (dk_at dksX9_readOne_0 7 rfl rfl)
theorem dX9_readOne_10 : decode cX9_readOne 10 = .ok (.istore 7, 2) := dk_54 7 (dk_at dksX9_readOne_0 10 rfl rfl)
theorem dX9_readOne_12 : decode cX9_readOne 12 = .ok (.iload 7, 2) := dk_21 7 (dk_at dksX9_readOne_0 12 rfl rfl)
theorem dX9_readOne_14 : decode cX9_readOne 14 = .ok (.iconst 1, 1) := dk_4 (dk_at dksX9_readOne_0 14 rfl rfl)
theorem dX9_readOne_15 : decode cX9_readOne 15 = .ok (.if_icmp .ne 10, 3) := dk_160 0 10 (dk_at dksX9_readOne_0 15 rfl rfl)
theorem dX9_readOne_18 : decode cX9_readOne 18 = .ok (.iload 6, 2) := dk_21 6 (dk_at dksX9_readOne_0 18 rfl rfl)
theorem dX9_readOne_20 : decode cX9_readOne 20 = .ok (.ifCond .ne 5, 3) := dk_154 0 5 (dk_at dksX9_readOne_0 20 rfl rfl)
theorem dX9_readOne_23 : decode cX9_readOne 23 = .ok (.iconst 0, 1) := dk_3 (dk_at dksX9_readOne_0 23 rfl rfl)
theorem dX9_readOne_24 : decode cX9_readOne 24 = .ok (.ireturn, 1) := dk_172 (dk_at dksX9_readOne_1 0 rfl rfl)
theorem dX9_readOne_25 : decode cX9_readOne 25 = .ok (.iload 7, 2) := dk_21 7 (dk_at dksX9_readOne_1 1 rfl rfl)
theorem dX9_readOne_27 : decode cX9_readOne 27 = .ok (.iconst 2, 1) := dk_5 (dk_at dksX9_readOne_1 3 rfl rfl)
theorem dX9_readOne_28 : decode cX9_readOne 28 = .ok (.if_icmp .ne 21, 3) := dk_160 0 21 (dk_at dksX9_readOne_1 4 rfl rfl)
theorem dX9_readOne_31 : decode cX9_readOne 31 = .ok (.aload_n 0, 1) := dk_42 (dk_at dksX9_readOne_1 7 rfl rfl)
theorem dX9_readOne_32 : decode cX9_readOne 32 = .ok (.aload_n 0, 1) := dk_42 (dk_at dksX9_readOne_1 8 rfl rfl)
theorem dX9_readOne_33 : decode cX9_readOne 33 = .ok (.getfield 295, 3) := dk_180 1 39 (dk_at dksX9_readOne_1 9 rfl rfl)
theorem dX9_readOne_36 : decode cX9_readOne 36 = .ok (.invokevirtual 311, 3) := dk_182 1 55 (dk_at dksX9_readOne_1 12 rfl rfl)
theorem dX9_readOne_39 : decode cX9_readOne 39 = .ok (.aload_n 0, 1) := dk_42 (dk_at dksX9_readOne_1 15 rfl rfl)
theorem dX9_readOne_40 : decode cX9_readOne 40 = .ok (.iconst 4, 1) := dk_7 (dk_at dksX9_readOne_1 16 rfl rfl)
theorem dX9_readOne_41 : decode cX9_readOne 41 = .ok (.putfield 286, 3) := dk_181 1 30 (dk_at dksX9_readOne_1 17 rfl rfl)
theorem dX9_readOne_44 : decode cX9_readOne 44 = .ok (.aload_n 0, 1) := dk_42 (dk_at dksX9_readOne_1 20 rfl rfl)
theorem dX9_readOne_45 : decode cX9_readOne 45 = .ok (.getfield 292, 3) := dk_180 1 36 (dk_at dksX9_readOne_1 21 rfl rfl)
theorem dX9_readOne_48 : decode cX9_readOne 48 = .ok (.ireturn, 1) := dk_172 (dk_at dksX9_readOne_2 0 rfl rfl)
theorem dX9_readOne_49 : decode cX9_readOne 49 = .ok (.iload 7, 2) := dk_21 7 (dk_at dksX9_readOne_2 1 rfl rfl)
theorem dX9_readOne_51 : decode cX9_readOne 51 = .ok (.iconst 3, 1) := dk_6 (dk_at dksX9_readOne_2 3 rfl rfl)
theorem dX9_readOne_52 : decode cX9_readOne 52 = .ok (.if_icmp .ne 46, 3) := dk_160 0 46 (dk_at dksX9_readOne_2 4 rfl rfl)
theorem dX9_readOne_55 : decode cX9_readOne 55 = .ok (.aload_n 0, 1) := dk_42 (dk_at dksX9_readOne_2 7 rfl rfl)
theorem dX9_readOne_56 : decode cX9_readOne 56 = .ok (.getfield 47, 3) := dk_180 0 47 (dk_at dksX9_readOne_2 8 rfl rfl)
theorem dX9_readOne_59 : decode cX9_readOne 59 = .ok (.aload_n 0, 1) := dk_42 (dk_at dksX9_readOne_2 11 rfl rfl)
theorem dX9_readOne_60 : decode cX9_readOne 60 = .ok (.getfield 298, 3) := dk_180 1 42 (dk_at dksX9_readOne_2 12 rfl rfl)
theorem dX9_readOne_63 : decode cX9_readOne 63 = .ok (.baload, 1) := dk_51 (dk_at dksX9_readOne_2 15 rfl rfl)
theorem dX9_readOne_64 : decode cX9_readOne 64 = .ok (.ifCond .eq 19, 3) := dk_153 0 19 (dk_at dksX9_readOne_2 16 rfl rfl)
theorem dX9_readOne_67 : decode cX9_readOne 67 = .ok (.aload_n 0, 1) := dk_42 (dk_at dksX9_readOne_2 19 rfl rfl)
theorem dX9_readOne_68 : decode cX9_readOne 68 = .ok (.aload_n 0, 1) := dk_42 (dk_at dksX9_readOne_2 20 rfl rfl)
theorem dX9_readOne_69 : decode cX9_readOne 69 = .ok (.getfield 44, 3) := dk_180 0 44 (dk_at dksX9_readOne_2 21 rfl rfl)
theorem dX9_readOne_72 : decode cX9_readOne 72 = .ok (.aload_n 0, 1) := dk_42 (dk_at dksX9_readOne_3 0 rfl rfl)
theorem dX9_readOne_73 : decode cX9_readOne 73 = .ok (.getfield 298, 3) := dk_180 1 42 (dk_at dksX9_readOne_3 1 rfl rfl)
theorem dX9_readOne_76 : decode cX9_readOne 76 = .ok (.iaload, 1) := dk_46 (dk_at dksX9_readOne_3 4 rfl rfl)
theorem dX9_readOne_77 : decode cX9_readOne 77 = .ok (.putfield 289, 3) := dk_181 1 33 (dk_at dksX9_readOne_3 5 rfl rfl)
theorem dX9_readOne_80 : decode cX9_readOne 80 = .ok (.goto 16, 3) := dk_167 0 16 (dk_at dksX9_readOne_3 8 rfl rfl)
theorem dX9_readOne_83 : decode cX9_readOne 83 = .ok (.aload_n 0, 1) := dk_42 (dk_at dksX9_readOne_3 11 rfl rfl)
theorem dX9_readOne_84 : decode cX9_readOne 84 = .ok (.aload_n 0, 1) := dk_42 (dk_at dksX9_readOne_3 12 rfl rfl)
theorem dX9_readOne_85 : decode cX9_readOne 85 = .ok (.getfield 44, 3) := dk_180 0 44 (dk_at dksX9_readOne_3 13 rfl rfl)
theorem dX9_readOne_88 : decode cX9_readOne 88 = .ok (.aload_n 0, 1) := dk_42 (dk_at dksX9_readOne_3 16 rfl rfl)
theorem dX9_readOne_89 : decode cX9_readOne 89 = .ok (.getfield 298, 3) := dk_180 1 42 (dk_at dksX9_readOne_3 17 rfl rfl)
theorem dX9_readOne_92 : decode cX9_readOne 92 = .ok (.iaload, 1) := dk_46 (dk_at dksX9_readOne_3 20 rfl rfl)
theorem dX9_readOne_93 : decode cX9_readOne 93 = .ok (.putfield 286, 3) := dk_181 1 30 (dk_at dksX9_readOne_3 21 rfl rfl)
theorem dX9_readOne_96 : decode cX9_readOne 96 = .ok (.iconst 1, 1) := dk_4 (dk_at dksX9_readOne_4 0 rfl rfl)
theorem dX9_readOne_97 : decode cX9_readOne 97 = .ok (.ireturn, 1) := dk_172 (dk_at dksX9_readOne_4 1 rfl rfl)
theorem dX9_readOne_98 : decode cX9_readOne 98 = .ok (.aload_n 0, 1) := dk_42 (dk_at dksX9_readOne_4 2 rfl rfl)
theorem dX9_readOne_99 : decode cX9_readOne 99 = .ok (.dup, 1) := dk_89 (dk_at dksX9_readOne_4 3 rfl rfl)
theorem dX9_readOne_100 : decode cX9_readOne 100 = .ok (.getfield 314, 3) := dk_180 1 58 (dk_at dksX9_readOne_4 4 rfl rfl)
theorem dX9_readOne_103 : decode cX9_readOne 103 = .ok (.iconst 1, 1) := dk_4 (dk_at dksX9_readOne_4 7 rfl rfl)
theorem dX9_readOne_104 : decode cX9_readOne 104 = .ok (.iadd, 1) := dk_96 (dk_at dksX9_readOne_4 8 rfl rfl)
theorem dX9_readOne_105 : decode cX9_readOne 105 = .ok (.putfield 314, 3) := dk_181 1 58 (dk_at dksX9_readOne_4 9 rfl rfl)
theorem dX9_readOne_108 : decode cX9_readOne 108 = .ok (.iload_n 2, 1) := dk_28 (dk_at dksX9_readOne_4 12 rfl rfl)
theorem dX9_readOne_109 : decode cX9_readOne 109 = .ok (.ifCond .ne 6, 3) := dk_154 0 6 (dk_at dksX9_readOne_4 13 rfl rfl)
theorem dX9_readOne_112 : decode cX9_readOne 112 = .ok (.bipush (-9), 2) := dk_16 247 (dk_at dksX9_readOne_4 16 rfl rfl)
theorem dX9_readOne_114 : decode cX9_readOne 114 = .ok (.ireturn, 1) := dk_172 (dk_at dksX9_readOne_4 18 rfl rfl)
theorem dX9_readOne_115 : decode cX9_readOne 115 = .ok (.aload_n 0, 1) := dk_42 (dk_at dksX9_readOne_4 19 rfl rfl)
theorem dX9_readOne_116 : decode cX9_readOne 116 = .ok (.iconst 4, 1) := dk_7 (dk_at dksX9_readOne_4 20 rfl rfl)
theorem dX9_readOne_117 : decode cX9_readOne 117 = .ok (.putfield 286, 3) := dk_181 1 30 (dk_at dksX9_readOne_4 21 rfl rfl)
theorem dX9_readOne_120 : decode cX9_readOne 120 = .ok (.iload_n 2, 1) := dk_28 (dk_at dksX9_readOne_5 0 rfl rfl)
theorem dX9_readOne_121 : decode cX9_readOne 121 = .ok (.iconst 1, 1) := dk_4 (dk_at dksX9_readOne_5 1 rfl rfl)
theorem dX9_readOne_122 : decode cX9_readOne 122 = .ok (.if_icmp .ne 13, 3) := dk_160 0 13 (dk_at dksX9_readOne_5 2 rfl rfl)
theorem dX9_readOne_125 : decode cX9_readOne 125 = .ok (.aload_n 0, 1) := dk_42 (dk_at dksX9_readOne_5 5 rfl rfl)
theorem dX9_readOne_126 : decode cX9_readOne 126 = .ok (.aload_n 0, 1) := dk_42 (dk_at dksX9_readOne_5 6 rfl rfl)
theorem dX9_readOne_127 : decode cX9_readOne 127 = .ok (.getfield 60, 3) := dk_180 0 60 (dk_at dksX9_readOne_5 7 rfl rfl)
theorem dX9_readOne_130 : decode cX9_readOne 130 = .ok (.iconst 0, 1) := dk_3 (dk_at dksX9_readOne_5 10 rfl rfl)
theorem dX9_readOne_131 : decode cX9_readOne 131 = .ok (.iaload, 1) := dk_46 (dk_at dksX9_readOne_5 11 rfl rfl)
theorem dX9_readOne_132 : decode cX9_readOne 132 = .ok (.invokevirtual 311, 3) := dk_182 1 55 (dk_at dksX9_readOne_5 12 rfl rfl)
theorem dX9_readOne_135 : decode cX9_readOne 135 = .ok (.iload_n 2, 1) := dk_28 (dk_at dksX9_readOne_5 15 rfl rfl)
theorem dX9_readOne_136 : decode cX9_readOne 136 = .ok (.iconst 3, 1) := dk_6 (dk_at dksX9_readOne_5 16 rfl rfl)
theorem dX9_readOne_137 : decode cX9_readOne 137 = .ok (.if_icmp .ne 14, 3) := dk_160 0 14 (dk_at dksX9_readOne_5 17 rfl rfl)
theorem dX9_readOne_140 : decode cX9_readOne 140 = .ok (.aload_n 0, 1) := dk_42 (dk_at dksX9_readOne_5 20 rfl rfl)
theorem dX9_readOne_141 : decode cX9_readOne 141 = .ok (.ldc 160, 2) := dk_18 160 (dk_at dksX9_readOne_5 21 rfl rfl)
theorem dX9_readOne_143 : decode cX9_readOne 143 = .ok (.aload_n 3, 1) := dk_45 (dk_at dksX9_readOne_5 23 rfl rfl)
theorem dX9_readOne_144 : decode cX9_readOne 144 = .ok (.iload 4, 2) := dk_21 4 (dk_at dksX9_readOne_6 0 rfl rfl)
theorem dX9_readOne_146 : decode cX9_readOne 146 = .ok (.iaload, 1) := dk_46 (dk_at dksX9_readOne_6 2 rfl rfl)
theorem dX9_readOne_147 : decode cX9_readOne 147 = .ok (.iadd, 1) := dk_96 (dk_at dksX9_readOne_6 3 rfl rfl)
theorem dX9_readOne_148 : decode cX9_readOne 148 = .ok (.invokevirtual 275, 3) := dk_182 1 19 (dk_at dksX9_readOne_6 4 rfl rfl)
theorem dX9_readOne_151 : decode cX9_readOne 151 = .ok (.iconst 1, 1) := dk_4 (dk_at dksX9_readOne_6 7 rfl rfl)
theorem dX9_readOne_152 : decode cX9_readOne 152 = .ok (.ireturn, 1) := dk_172 (dk_at dksX9_readOne_6 8 rfl rfl)
abbrev cX9_look : ByteArray := prog_17_method_42_code
def yX9_look : MethodName := ⟨RX9, "look", "(I[III)I"⟩
def dkwX9_look_12 : List UInt8 := [172]
abbrev dktX9_look_12 : List UInt8 := dkwX9_look_12 ++ []
def dkwX9_look_11 : List UInt8 := [181, 1, 42, 42, 180, 1, 42, 155, 0, 7, 6, 167, 0, 13, 21, 6, 153, 0, 7, 4, 167, 0, 4, 3]
abbrev dktX9_look_11 : List UInt8 := dkwX9_look_11 ++ dktX9_look_12
def dkwX9_look_10 : List UInt8 := [7, 160, 0, 22, 29, 21, 4, 162, 0, 16, 42, 27, 21, 5, 44, 29, 46, 182, 0, 194, 167, 0, 4, 2]
abbrev dktX9_look_10 : List UInt8 := dkwX9_look_10 ++ dktX9_look_11
def dkwX9_look_9 : List UInt8 := [96, 21, 4, 160, 0, 7, 4, 167, 0, 4, 3, 54, 6, 132, 7, 1, 167, 255, 110, 42, 42, 180, 1, 30]
abbrev dktX9_look_9 : List UInt8 := dkwX9_look_9 ++ dktX9_look_10
def dkwX9_look_8 : List UInt8 := [181, 1, 36, 42, 42, 180, 0, 32, 21, 7, 46, 181, 1, 39, 5, 172, 21, 6, 154, 0, 12, 29, 21, 9]
abbrev dktX9_look_8 : List UInt8 := dkwX9_look_8 ++ dktX9_look_9
def dkwX9_look_7 : List UInt8 := [17, 0, 255, 126, 160, 0, 9, 132, 9, 1, 167, 255, 206, 21, 9, 21, 8, 160, 0, 22, 42, 21, 8]
abbrev dktX9_look_7 : List UInt8 := dkwX9_look_7 ++ dktX9_look_8
def dkwX9_look_6 : List UInt8 := [21, 9, 96, 46, 42, 180, 0, 29, 21, 7, 46, 16, 8, 21, 8, 4, 100, 21, 9, 100, 104, 122]
abbrev dktX9_look_6 : List UInt8 := dkwX9_look_6 ++ dktX9_look_7
def dkwX9_look_5 : List UInt8 := [46, 54, 8, 3, 54, 9, 21, 9, 21, 8, 162, 0, 49, 29, 21, 9, 96, 21, 4, 162, 0, 40, 44, 29]
abbrev dktX9_look_5 : List UInt8 := dkwX9_look_5 ++ dktX9_look_6
def dkwX9_look_4 : List UInt8 := [162, 0, 136, 42, 180, 0, 23, 21, 7, 46, 21, 5, 159, 0, 6, 167, 0, 115, 42, 180, 0, 26, 21, 7]
abbrev dktX9_look_4 : List UInt8 := dkwX9_look_4 ++ dktX9_look_5
def dkwX9_look_3 : List UInt8 := [54, 5, 3, 54, 6, 16, 100, 27, 104, 54, 7, 21, 7, 16, 100, 27, 104, 42, 180, 0, 17, 27, 46, 96]
abbrev dktX9_look_3 : List UInt8 := dkwX9_look_3 ++ dktX9_look_4
def dkwX9_look_2 : List UInt8 := [182, 1, 26, 172, 42, 180, 1, 30, 7, 160, 0, 10, 42, 180, 1, 33, 167, 0, 7, 42, 180, 1, 30]
abbrev dktX9_look_2 : List UInt8 := dkwX9_look_2 ++ dktX9_look_3
def dkwX9_look_1 : List UInt8 := [46, 153, 0, 27, 42, 42, 180, 0, 9, 27, 46, 4, 160, 0, 7, 4, 167, 0, 4, 3, 44, 29, 21, 4]
abbrev dktX9_look_1 : List UInt8 := dkwX9_look_1 ++ dktX9_look_2
def dkwX9_look_0 : List UInt8 := [42, 180, 0, 9, 27, 46, 6, 160, 0, 12, 42, 44, 29, 21, 4, 182, 1, 22, 172, 42, 180, 0, 9, 27]
abbrev dktX9_look_0 : List UInt8 := dkwX9_look_0 ++ dktX9_look_1
theorem dksX9_look_0 : cX9_look.data.toList.drop 0 = dktX9_look_0 := by decide +kernel
theorem dksX9_look_1 : cX9_look.data.toList.drop 24 = dktX9_look_1 := dk_seg dksX9_look_0 24 rfl rfl
theorem dksX9_look_2 : cX9_look.data.toList.drop 48 = dktX9_look_2 := dk_seg dksX9_look_1 24 rfl rfl
theorem dksX9_look_3 : cX9_look.data.toList.drop 71 = dktX9_look_3 := dk_seg dksX9_look_2 23 rfl rfl
theorem dksX9_look_4 : cX9_look.data.toList.drop 95 = dktX9_look_4 := dk_seg dksX9_look_3 24 rfl rfl
theorem dksX9_look_5 : cX9_look.data.toList.drop 119 = dktX9_look_5 := dk_seg dksX9_look_4 24 rfl rfl
theorem dksX9_look_6 : cX9_look.data.toList.drop 143 = dktX9_look_6 := dk_seg dksX9_look_5 24 rfl rfl
theorem dksX9_look_7 : cX9_look.data.toList.drop 165 = dktX9_look_7 := dk_seg dksX9_look_6 22 rfl rfl
theorem dksX9_look_8 : cX9_look.data.toList.drop 188 = dktX9_look_8 := dk_seg dksX9_look_7 23 rfl rfl
theorem dksX9_look_9 : cX9_look.data.toList.drop 212 = dktX9_look_9 := dk_seg dksX9_look_8 24 rfl rfl
theorem dksX9_look_10 : cX9_look.data.toList.drop 236 = dktX9_look_10 := dk_seg dksX9_look_9 24 rfl rfl
theorem dksX9_look_11 : cX9_look.data.toList.drop 260 = dktX9_look_11 := dk_seg dksX9_look_10 24 rfl rfl
theorem dksX9_look_12 : cX9_look.data.toList.drop 284 = dktX9_look_12 := dk_seg dksX9_look_11 24 rfl rfl
theorem dX9_look_0 : decode cX9_look 0 = .ok (.aload_n 0, 1) := dk_42 (dk_at dksX9_look_0 0 rfl rfl)
theorem dX9_look_1 : decode cX9_look 1 = .ok (.getfield 9, 3) := dk_180 0 9 (dk_at dksX9_look_0 1 rfl rfl)
theorem dX9_look_4 : decode cX9_look 4 = .ok (.iload_n 1, 1) := dk_27 (dk_at dksX9_look_0 4 rfl rfl)
theorem dX9_look_5 : decode cX9_look 5 = .ok (.iaload, 1) := dk_46 (dk_at dksX9_look_0 5 rfl rfl)
theorem dX9_look_6 : decode cX9_look 6 = .ok (.iconst 3, 1) := dk_6 (dk_at dksX9_look_0 6 rfl rfl)
theorem dX9_look_7 : decode cX9_look 7 = .ok (.if_icmp .ne 12, 3) := dk_160 0 12 (dk_at dksX9_look_0 7 rfl rfl)
theorem dX9_look_10 : decode cX9_look 10 = .ok (.aload_n 0, 1) := dk_42 (dk_at dksX9_look_0 10 rfl rfl)
theorem dX9_look_11 : decode cX9_look 11 = .ok (.aload_n 2, 1) := dk_44 (dk_at dksX9_look_0 11 rfl rfl)
theorem dX9_look_12 : decode cX9_look 12 = .ok (.iload_n 3, 1) := dk_29 (dk_at dksX9_look_0 12 rfl rfl)
theorem dX9_look_13 : decode cX9_look 13 = .ok (.iload 4, 2) := dk_21 4 (dk_at dksX9_look_0 13 rfl rfl)
theorem dX9_look_15 : decode cX9_look 15 = .ok (.invokevirtual 278, 3) := dk_182 1 22 (dk_at dksX9_look_0 15 rfl rfl)
theorem dX9_look_18 : decode cX9_look 18 = .ok (.ireturn, 1) := dk_172 (dk_at dksX9_look_0 18 rfl rfl)
theorem dX9_look_19 : decode cX9_look 19 = .ok (.aload_n 0, 1) := dk_42 (dk_at dksX9_look_0 19 rfl rfl)
theorem dX9_look_20 : decode cX9_look 20 = .ok (.getfield 9, 3) := dk_180 0 9 (dk_at dksX9_look_0 20 rfl rfl)
theorem dX9_look_23 : decode cX9_look 23 = .ok (.iload_n 1, 1) := dk_27 (dk_at dksX9_look_0 23 rfl rfl)
theorem dX9_look_24 : decode cX9_look 24 = .ok (.iaload, 1) := dk_46 (dk_at dksX9_look_1 0 rfl rfl)
theorem dX9_look_25 : decode cX9_look 25 = .ok (.ifCond .eq 27, 3) := dk_153 0 27 (dk_at dksX9_look_1 1 rfl rfl)
theorem dX9_look_28 : decode cX9_look 28 = .ok (.aload_n 0, 1) := dk_42 (dk_at dksX9_look_1 4 rfl rfl)
theorem dX9_look_29 : decode cX9_look 29 = .ok (.aload_n 0, 1) := dk_42 (dk_at dksX9_look_1 5 rfl rfl)
theorem dX9_look_30 : decode cX9_look 30 = .ok (.getfield 9, 3) := dk_180 0 9 (dk_at dksX9_look_1 6 rfl rfl)
theorem dX9_look_33 : decode cX9_look 33 = .ok (.iload_n 1, 1) := dk_27 (dk_at dksX9_look_1 9 rfl rfl)
theorem dX9_look_34 : decode cX9_look 34 = .ok (.iaload, 1) := dk_46 (dk_at dksX9_look_1 10 rfl rfl)
theorem dX9_look_35 : decode cX9_look 35 = .ok (.iconst 1, 1) := dk_4 (dk_at dksX9_look_1 11 rfl rfl)
theorem dX9_look_36 : decode cX9_look 36 = .ok (.if_icmp .ne 7, 3) := dk_160 0 7 (dk_at dksX9_look_1 12 rfl rfl)
theorem dX9_look_39 : decode cX9_look 39 = .ok (.iconst 1, 1) := dk_4 (dk_at dksX9_look_1 15 rfl rfl)
theorem dX9_look_40 : decode cX9_look 40 = .ok (.goto 4, 3) := dk_167 0 4 (dk_at dksX9_look_1 16 rfl rfl)
theorem dX9_look_43 : decode cX9_look 43 = .ok (.iconst 0, 1) := dk_3 (dk_at dksX9_look_1 19 rfl rfl)
theorem dX9_look_44 : decode cX9_look 44 = .ok (.aload_n 2, 1) := dk_44 (dk_at dksX9_look_1 20 rfl rfl)
theorem dX9_look_45 : decode cX9_look 45 = .ok (.iload_n 3, 1) := dk_29 (dk_at dksX9_look_1 21 rfl rfl)
theorem dX9_look_46 : decode cX9_look 46 = .ok (.iload 4, 2) := dk_21 4 (dk_at dksX9_look_1 22 rfl rfl)
theorem dX9_look_48 : decode cX9_look 48 = .ok (.invokevirtual 282, 3) := dk_182 1 26 (dk_at dksX9_look_2 0 rfl rfl)
theorem dX9_look_51 : decode cX9_look 51 = .ok (.ireturn, 1) := dk_172 (dk_at dksX9_look_2 3 rfl rfl)
theorem dX9_look_52 : decode cX9_look 52 = .ok (.aload_n 0, 1) := dk_42 (dk_at dksX9_look_2 4 rfl rfl)
theorem dX9_look_53 : decode cX9_look 53 = .ok (.getfield 286, 3) := dk_180 1 30 (dk_at dksX9_look_2 5 rfl rfl)
theorem dX9_look_56 : decode cX9_look 56 = .ok (.iconst 4, 1) := dk_7 (dk_at dksX9_look_2 8 rfl rfl)
theorem dX9_look_57 : decode cX9_look 57 = .ok (.if_icmp .ne 10, 3) := dk_160 0 10 (dk_at dksX9_look_2 9 rfl rfl)
theorem dX9_look_60 : decode cX9_look 60 = .ok (.aload_n 0, 1) := dk_42 (dk_at dksX9_look_2 12 rfl rfl)
theorem dX9_look_61 : decode cX9_look 61 = .ok (.getfield 289, 3) := dk_180 1 33 (dk_at dksX9_look_2 13 rfl rfl)
theorem dX9_look_64 : decode cX9_look 64 = .ok (.goto 7, 3) := dk_167 0 7 (dk_at dksX9_look_2 16 rfl rfl)
theorem dX9_look_67 : decode cX9_look 67 = .ok (.aload_n 0, 1) := dk_42 (dk_at dksX9_look_2 19 rfl rfl)
theorem dX9_look_68 : decode cX9_look 68 = .ok (.getfield 286, 3) := dk_180 1 30 (dk_at dksX9_look_2 20 rfl rfl)
theorem dX9_look_71 : decode cX9_look 71 = .ok (.istore 5, 2) := dk_54 5 (dk_at dksX9_look_3 0 rfl rfl)
theorem dX9_look_73 : decode cX9_look 73 = .ok (.iconst 0, 1) := dk_3 (dk_at dksX9_look_3 2 rfl rfl)
theorem dX9_look_74 : decode cX9_look 74 = .ok (.istore 6, 2) := dk_54 6 (dk_at dksX9_look_3 3 rfl rfl)
theorem dX9_look_76 : decode cX9_look 76 = .ok (.bipush 100, 2) := dk_16 100 (dk_at dksX9_look_3 5 rfl rfl)
theorem dX9_look_78 : decode cX9_look 78 = .ok (.iload_n 1, 1) := dk_27 (dk_at dksX9_look_3 7 rfl rfl)
theorem dX9_look_79 : decode cX9_look 79 = .ok (.imul, 1) := dk_104 (dk_at dksX9_look_3 8 rfl rfl)
theorem dX9_look_80 : decode cX9_look 80 = .ok (.istore 7, 2) := dk_54 7 (dk_at dksX9_look_3 9 rfl rfl)
theorem dX9_look_82 : decode cX9_look 82 = .ok (.iload 7, 2) := dk_21 7 (dk_at dksX9_look_3 11 rfl rfl)
theorem dX9_look_84 : decode cX9_look 84 = .ok (.bipush 100, 2) := dk_16 100 (dk_at dksX9_look_3 13 rfl rfl)
theorem dX9_look_86 : decode cX9_look 86 = .ok (.iload_n 1, 1) := dk_27 (dk_at dksX9_look_3 15 rfl rfl)
theorem dX9_look_87 : decode cX9_look 87 = .ok (.imul, 1) := dk_104 (dk_at dksX9_look_3 16 rfl rfl)
theorem dX9_look_88 : decode cX9_look 88 = .ok (.aload_n 0, 1) := dk_42 (dk_at dksX9_look_3 17 rfl rfl)
theorem dX9_look_89 : decode cX9_look 89 = .ok (.getfield 17, 3) := dk_180 0 17 (dk_at dksX9_look_3 18 rfl rfl)
theorem dX9_look_92 : decode cX9_look 92 = .ok (.iload_n 1, 1) := dk_27 (dk_at dksX9_look_3 21 rfl rfl)
theorem dX9_look_93 : decode cX9_look 93 = .ok (.iaload, 1) := dk_46 (dk_at dksX9_look_3 22 rfl rfl)
theorem dX9_look_94 : decode cX9_look 94 = .ok (.iadd, 1) := dk_96 (dk_at dksX9_look_3 23 rfl rfl)
theorem dX9_look_95 : decode cX9_look 95 = .ok (.if_icmp .ge 136, 3) := dk_162 0 136 (dk_at dksX9_look_4 0 rfl rfl)
theorem dX9_look_98 : decode cX9_look 98 = .ok (.aload_n 0, 1) := dk_42 (dk_at dksX9_look_4 3 rfl rfl)
theorem dX9_look_99 : decode cX9_look 99 = .ok (.getfield 23, 3) := dk_180 0 23 (dk_at dksX9_look_4 4 rfl rfl)
theorem dX9_look_102 : decode cX9_look 102 = .ok (.iload 7, 2) := dk_21 7 (dk_at dksX9_look_4 7 rfl rfl)
theorem dX9_look_104 : decode cX9_look 104 = .ok (.iaload, 1) := dk_46 (dk_at dksX9_look_4 9 rfl rfl)
theorem dX9_look_105 : decode cX9_look 105 = .ok (.iload 5, 2) := dk_21 5 (dk_at dksX9_look_4 10 rfl rfl)
theorem dX9_look_107 : decode cX9_look 107 = .ok (.if_icmp .eq 6, 3) := dk_159 0 6 (dk_at dksX9_look_4 12 rfl rfl)
theorem dX9_look_110 : decode cX9_look 110 = .ok (.goto 115, 3) := dk_167 0 115 (dk_at dksX9_look_4 15 rfl rfl)
theorem dX9_look_113 : decode cX9_look 113 = .ok (.aload_n 0, 1) := dk_42 (dk_at dksX9_look_4 18 rfl rfl)
theorem dX9_look_114 : decode cX9_look 114 = .ok (.getfield 26, 3) := dk_180 0 26 (dk_at dksX9_look_4 19 rfl rfl)
theorem dX9_look_117 : decode cX9_look 117 = .ok (.iload 7, 2) := dk_21 7 (dk_at dksX9_look_4 22 rfl rfl)
theorem dX9_look_119 : decode cX9_look 119 = .ok (.iaload, 1) := dk_46 (dk_at dksX9_look_5 0 rfl rfl)
theorem dX9_look_120 : decode cX9_look 120 = .ok (.istore 8, 2) := dk_54 8 (dk_at dksX9_look_5 1 rfl rfl)
theorem dX9_look_122 : decode cX9_look 122 = .ok (.iconst 0, 1) := dk_3 (dk_at dksX9_look_5 3 rfl rfl)
theorem dX9_look_123 : decode cX9_look 123 = .ok (.istore 9, 2) := dk_54 9 (dk_at dksX9_look_5 4 rfl rfl)
theorem dX9_look_125 : decode cX9_look 125 = .ok (.iload 9, 2) := dk_21 9 (dk_at dksX9_look_5 6 rfl rfl)
theorem dX9_look_127 : decode cX9_look 127 = .ok (.iload 8, 2) := dk_21 8 (dk_at dksX9_look_5 8 rfl rfl)
theorem dX9_look_129 : decode cX9_look 129 = .ok (.if_icmp .ge 49, 3) := dk_162 0 49 (dk_at dksX9_look_5 10 rfl rfl)
theorem dX9_look_132 : decode cX9_look 132 = .ok (.iload_n 3, 1) := dk_29 (dk_at dksX9_look_5 13 rfl rfl)
theorem dX9_look_133 : decode cX9_look 133 = .ok (.iload 9, 2) := dk_21 9 (dk_at dksX9_look_5 14 rfl rfl)
theorem dX9_look_135 : decode cX9_look 135 = .ok (.iadd, 1) := dk_96 (dk_at dksX9_look_5 16 rfl rfl)
theorem dX9_look_136 : decode cX9_look 136 = .ok (.iload 4, 2) := dk_21 4 (dk_at dksX9_look_5 17 rfl rfl)
theorem dX9_look_138 : decode cX9_look 138 = .ok (.if_icmp .ge 40, 3) := dk_162 0 40 (dk_at dksX9_look_5 19 rfl rfl)
theorem dX9_look_141 : decode cX9_look 141 = .ok (.aload_n 2, 1) := dk_44 (dk_at dksX9_look_5 22 rfl rfl)
theorem dX9_look_142 : decode cX9_look 142 = .ok (.iload_n 3, 1) := dk_29 (dk_at dksX9_look_5 23 rfl rfl)
theorem dX9_look_143 : decode cX9_look 143 = .ok (.iload 9, 2) := dk_21 9 (dk_at dksX9_look_6 0 rfl rfl)
theorem dX9_look_145 : decode cX9_look 145 = .ok (.iadd, 1) := dk_96 (dk_at dksX9_look_6 2 rfl rfl)
theorem dX9_look_146 : decode cX9_look 146 = .ok (.iaload, 1) := dk_46 (dk_at dksX9_look_6 3 rfl rfl)
theorem dX9_look_147 : decode cX9_look 147 = .ok (.aload_n 0, 1) := dk_42 (dk_at dksX9_look_6 4 rfl rfl)
theorem dX9_look_148 : decode cX9_look 148 = .ok (.getfield 29, 3) := dk_180 0 29 (dk_at dksX9_look_6 5 rfl rfl)
theorem dX9_look_151 : decode cX9_look 151 = .ok (.iload 7, 2) := dk_21 7 (dk_at dksX9_look_6 8 rfl rfl)
theorem dX9_look_153 : decode cX9_look 153 = .ok (.iaload, 1) := dk_46 (dk_at dksX9_look_6 10 rfl rfl)
theorem dX9_look_154 : decode cX9_look 154 = .ok (.bipush 8, 2) := dk_16 8 (dk_at dksX9_look_6 11 rfl rfl)
theorem dX9_look_156 : decode cX9_look 156 = .ok (.iload 8, 2) := dk_21 8 (dk_at dksX9_look_6 13 rfl rfl)
theorem dX9_look_158 : decode cX9_look 158 = .ok (.iconst 1, 1) := dk_4 (dk_at dksX9_look_6 15 rfl rfl)
theorem dX9_look_159 : decode cX9_look 159 = .ok (.isub, 1) := dk_100 (dk_at dksX9_look_6 16 rfl rfl)
theorem dX9_look_160 : decode cX9_look 160 = .ok (.iload 9, 2) := dk_21 9 (dk_at dksX9_look_6 17 rfl rfl)
theorem dX9_look_162 : decode cX9_look 162 = .ok (.isub, 1) := dk_100 (dk_at dksX9_look_6 19 rfl rfl)
theorem dX9_look_163 : decode cX9_look 163 = .ok (.imul, 1) := dk_104 (dk_at dksX9_look_6 20 rfl rfl)
theorem dX9_look_164 : decode cX9_look 164 = .ok (.ishr, 1) := dk_122 (dk_at dksX9_look_6 21 rfl rfl)
theorem dX9_look_165 : decode cX9_look 165 = .ok (.sipush 255, 3) := dk_17 0 255 (dk_at dksX9_look_7 0 rfl rfl)
theorem dX9_look_168 : decode cX9_look 168 = .ok (.iand, 1) := dk_126 (dk_at dksX9_look_7 3 rfl rfl)
theorem dX9_look_169 : decode cX9_look 169 = .ok (.if_icmp .ne 9, 3) := dk_160 0 9 (dk_at dksX9_look_7 4 rfl rfl)
theorem dX9_look_172 : decode cX9_look 172 = .ok (.iinc 9 1, 3) := dk_132 9 1 (dk_at dksX9_look_7 7 rfl rfl)
theorem dX9_look_175 : decode cX9_look 175 = .ok (.goto (-50), 3) := dk_167 255 206 (dk_at dksX9_look_7 10 rfl rfl)
theorem dX9_look_178 : decode cX9_look 178 = .ok (.iload 9, 2) := dk_21 9 (dk_at dksX9_look_7 13 rfl rfl)
theorem dX9_look_180 : decode cX9_look 180 = .ok (.iload 8, 2) := dk_21 8 (dk_at dksX9_look_7 15 rfl rfl)
theorem dX9_look_182 : decode cX9_look 182 = .ok (.if_icmp .ne 22, 3) := dk_160 0 22 (dk_at dksX9_look_7 17 rfl rfl)
theorem dX9_look_185 : decode cX9_look 185 = .ok (.aload_n 0, 1) := dk_42 (dk_at dksX9_look_7 20 rfl rfl)
theorem dX9_look_186 : decode cX9_look 186 = .ok (.iload 8, 2) := dk_21 8 (dk_at dksX9_look_7 21 rfl rfl)
theorem dX9_look_188 : decode cX9_look 188 = .ok (.putfield 292, 3) := dk_181 1 36 (dk_at dksX9_look_8 0 rfl rfl)
theorem dX9_look_191 : decode cX9_look 191 = .ok (.aload_n 0, 1) := dk_42 (dk_at dksX9_look_8 3 rfl rfl)
theorem dX9_look_192 : decode cX9_look 192 = .ok (.aload_n 0, 1) := dk_42 (dk_at dksX9_look_8 4 rfl rfl)
theorem dX9_look_193 : decode cX9_look 193 = .ok (.getfield 32, 3) := dk_180 0 32 (dk_at dksX9_look_8 5 rfl rfl)
theorem dX9_look_196 : decode cX9_look 196 = .ok (.iload 7, 2) := dk_21 7 (dk_at dksX9_look_8 8 rfl rfl)
theorem dX9_look_198 : decode cX9_look 198 = .ok (.iaload, 1) := dk_46 (dk_at dksX9_look_8 10 rfl rfl)
theorem dX9_look_199 : decode cX9_look 199 = .ok (.putfield 295, 3) := dk_181 1 39 (dk_at dksX9_look_8 11 rfl rfl)
theorem dX9_look_202 : decode cX9_look 202 = .ok (.iconst 2, 1) := dk_5 (dk_at dksX9_look_8 14 rfl rfl)
theorem dX9_look_203 : decode cX9_look 203 = .ok (.ireturn, 1) := dk_172 (dk_at dksX9_look_8 15 rfl rfl)
theorem dX9_look_204 : decode cX9_look 204 = .ok (.iload 6, 2) := dk_21 6 (dk_at dksX9_look_8 16 rfl rfl)
theorem dX9_look_206 : decode cX9_look 206 = .ok (.ifCond .ne 12, 3) := dk_154 0 12 (dk_at dksX9_look_8 18 rfl rfl)
theorem dX9_look_209 : decode cX9_look 209 = .ok (.iload_n 3, 1) := dk_29 (dk_at dksX9_look_8 21 rfl rfl)
theorem dX9_look_210 : decode cX9_look 210 = .ok (.iload 9, 2) := dk_21 9 (dk_at dksX9_look_8 22 rfl rfl)
theorem dX9_look_212 : decode cX9_look 212 = .ok (.iadd, 1) := dk_96 (dk_at dksX9_look_9 0 rfl rfl)
theorem dX9_look_213 : decode cX9_look 213 = .ok (.iload 4, 2) := dk_21 4 (dk_at dksX9_look_9 1 rfl rfl)
theorem dX9_look_215 : decode cX9_look 215 = .ok (.if_icmp .ne 7, 3) := dk_160 0 7 (dk_at dksX9_look_9 3 rfl rfl)
theorem dX9_look_218 : decode cX9_look 218 = .ok (.iconst 1, 1) := dk_4 (dk_at dksX9_look_9 6 rfl rfl)
theorem dX9_look_219 : decode cX9_look 219 = .ok (.goto 4, 3) := dk_167 0 4 (dk_at dksX9_look_9 7 rfl rfl)
theorem dX9_look_222 : decode cX9_look 222 = .ok (.iconst 0, 1) := dk_3 (dk_at dksX9_look_9 10 rfl rfl)
theorem dX9_look_223 : decode cX9_look 223 = .ok (.istore 6, 2) := dk_54 6 (dk_at dksX9_look_9 11 rfl rfl)
theorem dX9_look_225 : decode cX9_look 225 = .ok (.iinc 7 1, 3) := dk_132 7 1 (dk_at dksX9_look_9 13 rfl rfl)
theorem dX9_look_228 : decode cX9_look 228 = .ok (.goto (-146), 3) := dk_167 255 110 (dk_at dksX9_look_9 16 rfl rfl)
theorem dX9_look_231 : decode cX9_look 231 = .ok (.aload_n 0, 1) := dk_42 (dk_at dksX9_look_9 19 rfl rfl)
theorem dX9_look_232 : decode cX9_look 232 = .ok (.aload_n 0, 1) := dk_42 (dk_at dksX9_look_9 20 rfl rfl)
theorem dX9_look_233 : decode cX9_look 233 = .ok (.getfield 286, 3) := dk_180 1 30 (dk_at dksX9_look_9 21 rfl rfl)
theorem dX9_look_236 : decode cX9_look 236 = .ok (.iconst 4, 1) := dk_7 (dk_at dksX9_look_10 0 rfl rfl)
theorem dX9_look_237 : decode cX9_look 237 = .ok (.if_icmp .ne 22, 3) := dk_160 0 22 (dk_at dksX9_look_10 1 rfl rfl)
theorem dX9_look_240 : decode cX9_look 240 = .ok (.iload_n 3, 1) := dk_29 (dk_at dksX9_look_10 4 rfl rfl)
theorem dX9_look_241 : decode cX9_look 241 = .ok (.iload 4, 2) := dk_21 4 (dk_at dksX9_look_10 5 rfl rfl)
theorem dX9_look_243 : decode cX9_look 243 = .ok (.if_icmp .ge 16, 3) := dk_162 0 16 (dk_at dksX9_look_10 7 rfl rfl)
theorem dX9_look_246 : decode cX9_look 246 = .ok (.aload_n 0, 1) := dk_42 (dk_at dksX9_look_10 10 rfl rfl)
theorem dX9_look_247 : decode cX9_look 247 = .ok (.iload_n 1, 1) := dk_27 (dk_at dksX9_look_10 11 rfl rfl)
theorem dX9_look_248 : decode cX9_look 248 = .ok (.iload 5, 2) := dk_21 5 (dk_at dksX9_look_10 12 rfl rfl)
theorem dX9_look_250 : decode cX9_look 250 = .ok (.aload_n 2, 1) := dk_44 (dk_at dksX9_look_10 14 rfl rfl)
theorem dX9_look_251 : decode cX9_look 251 = .ok (.iload_n 3, 1) := dk_29 (dk_at dksX9_look_10 15 rfl rfl)
theorem dX9_look_252 : decode cX9_look 252 = .ok (.iaload, 1) := dk_46 (dk_at dksX9_look_10 16 rfl rfl)
theorem dX9_look_253 : decode cX9_look 253 = .ok (.invokevirtual 194, 3) := dk_182 0 194 (dk_at dksX9_look_10 17 rfl rfl)
theorem dX9_look_256 : decode cX9_look 256 = .ok (.goto 4, 3) := dk_167 0 4 (dk_at dksX9_look_10 20 rfl rfl)
theorem dX9_look_259 : decode cX9_look 259 = .ok (.iconst (-1), 1) := dk_2 (dk_at dksX9_look_10 23 rfl rfl)
theorem dX9_look_260 : decode cX9_look 260 = .ok (.putfield 298, 3) := dk_181 1 42 (dk_at dksX9_look_11 0 rfl rfl)
theorem dX9_look_263 : decode cX9_look 263 = .ok (.aload_n 0, 1) := dk_42 (dk_at dksX9_look_11 3 rfl rfl)
theorem dX9_look_264 : decode cX9_look 264 = .ok (.getfield 298, 3) := dk_180 1 42 (dk_at dksX9_look_11 4 rfl rfl)
theorem dX9_look_267 : decode cX9_look 267 = .ok (.ifCond .lt 7, 3) := dk_155 0 7 (dk_at dksX9_look_11 7 rfl rfl)
theorem dX9_look_270 : decode cX9_look 270 = .ok (.iconst 3, 1) := dk_6 (dk_at dksX9_look_11 10 rfl rfl)
theorem dX9_look_271 : decode cX9_look 271 = .ok (.goto 13, 3) := dk_167 0 13 (dk_at dksX9_look_11 11 rfl rfl)
theorem dX9_look_274 : decode cX9_look 274 = .ok (.iload 6, 2) := dk_21 6 (dk_at dksX9_look_11 14 rfl rfl)
theorem dX9_look_276 : decode cX9_look 276 = .ok (.ifCond .eq 7, 3) := dk_153 0 7 (dk_at dksX9_look_11 16 rfl rfl)
theorem dX9_look_279 : decode cX9_look 279 = .ok (.iconst 1, 1) := dk_4 (dk_at dksX9_look_11 19 rfl rfl)
theorem dX9_look_280 : decode cX9_look 280 = .ok (.goto 4, 3) := dk_167 0 4 (dk_at dksX9_look_11 20 rfl rfl)
theorem dX9_look_283 : decode cX9_look 283 = .ok (.iconst 0, 1) := dk_3 (dk_at dksX9_look_11 23 rfl rfl)
theorem dX9_look_284 : decode cX9_look 284 = .ok (.ireturn, 1) := dk_172 (dk_at dksX9_look_12 0 rfl rfl)
abbrev cX9_lookFew : ByteArray := prog_17_method_44_code
def yX9_lookFew : MethodName := ⟨RX9, "lookFew", "([III)I"⟩
def dkwX9_lookFew_12 : List UInt8 := [181, 1, 36, 42, 21, 6, 181, 1, 39, 5, 172]
abbrev dktX9_lookFew_12 : List UInt8 := dkwX9_lookFew_12 ++ []
def dkwX9_lookFew_11 : List UInt8 := [18, 154, 161, 0, 12, 21, 10, 18, 161, 163, 0, 5, 3, 172, 132, 7, 1, 167, 255, 111, 42, 21, 5]
abbrev dktX9_lookFew_11 : List UInt8 := dkwX9_lookFew_11 ++ dktX9_lookFew_12
def dkwX9_lookFew_10 : List UInt8 := [6, 160, 0, 9, 17, 8, 0, 167, 0, 5, 18, 236, 161, 0, 24, 21, 9, 18, 162, 163, 0, 17, 21, 9]
abbrev dktX9_lookFew_10 : List UInt8 := dkwX9_lookFew_10 ++ dktX9_lookFew_11
def dkwX9_lookFew_9 : List UInt8 := [100, 104, 120, 96, 4, 100, 54, 10, 21, 10, 21, 5, 5, 160, 0, 9, 17, 0, 128, 167, 0, 17, 21, 5]
abbrev dktX9_lookFew_9 : List UInt8 := dkwX9_lookFew_9 ++ dktX9_lookFew_10
def dkwX9_lookFew_8 : List UInt8 := [16, 6, 21, 5, 4, 100, 21, 7, 100, 104, 120, 54, 9, 21, 9, 4, 16, 6, 21, 5, 4, 100, 21, 7]
abbrev dktX9_lookFew_8 : List UInt8 := dkwX9_lookFew_8 ++ dktX9_lookFew_9
def dkwX9_lookFew_7 : List UInt8 := [184, 0, 156, 154, 0, 5, 3, 172, 21, 6, 16, 6, 120, 21, 8, 16, 63, 126, 128, 54, 6, 21, 6]
abbrev dktX9_lookFew_7 : List UInt8 := dkwX9_lookFew_7 ++ dktX9_lookFew_8
def dkwX9_lookFew_6 : List UInt8 := [29, 161, 0, 5, 4, 172, 43, 28, 21, 7, 96, 46, 54, 8, 21, 8, 17, 0, 128, 17, 0, 191]
abbrev dktX9_lookFew_6 : List UInt8 := dkwX9_lookFew_6 ++ dktX9_lookFew_7
def dkwX9_lookFew_5 : List UInt8 := [16, 15, 167, 0, 5, 16, 7, 126, 54, 6, 4, 54, 7, 21, 7, 21, 5, 162, 0, 144, 28, 21, 7, 96]
abbrev dktX9_lookFew_5 : List UInt8 := dkwX9_lookFew_5 ++ dktX9_lookFew_6
def dkwX9_lookFew_4 : List UInt8 := [21, 4, 167, 0, 30, 21, 4, 21, 5, 5, 160, 0, 8, 16, 31, 167, 0, 16, 21, 5, 6, 160, 0, 8]
abbrev dktX9_lookFew_4 : List UInt8 := dkwX9_lookFew_4 ++ dktX9_lookFew_5
def dkwX9_lookFew_3 : List UInt8 := [153, 0, 7, 7, 167, 0, 4, 3, 54, 5, 21, 5, 154, 0, 5, 3, 172, 21, 5, 4, 160, 0, 8]
abbrev dktX9_lookFew_3 : List UInt8 := dkwX9_lookFew_3 ++ dktX9_lookFew_4
def dkwX9_lookFew_2 : List UInt8 := [17, 0, 239, 184, 0, 156, 153, 0, 7, 6, 167, 0, 22, 21, 4, 17, 0, 240, 17, 0, 244, 184, 0, 156]
abbrev dktX9_lookFew_2 : List UInt8 := dkwX9_lookFew_2 ++ dktX9_lookFew_3
def dkwX9_lookFew_1 : List UInt8 := [21, 4, 17, 0, 194, 17, 0, 223, 184, 0, 156, 153, 0, 7, 5, 167, 0, 40, 21, 4, 17, 0, 224]
abbrev dktX9_lookFew_1 : List UInt8 := dkwX9_lookFew_1 ++ dktX9_lookFew_2
def dkwX9_lookFew_0 : List UInt8 := [28, 29, 161, 0, 5, 4, 172, 43, 28, 46, 54, 4, 21, 4, 17, 0, 128, 162, 0, 7, 4, 167, 0, 58]
abbrev dktX9_lookFew_0 : List UInt8 := dkwX9_lookFew_0 ++ dktX9_lookFew_1
theorem dksX9_lookFew_0 : cX9_lookFew.data.toList.drop 0 = dktX9_lookFew_0 := by decide +kernel
theorem dksX9_lookFew_1 : cX9_lookFew.data.toList.drop 24 = dktX9_lookFew_1 := dk_seg dksX9_lookFew_0 24 rfl rfl
theorem dksX9_lookFew_2 : cX9_lookFew.data.toList.drop 47 = dktX9_lookFew_2 := dk_seg dksX9_lookFew_1 23 rfl rfl
theorem dksX9_lookFew_3 : cX9_lookFew.data.toList.drop 71 = dktX9_lookFew_3 := dk_seg dksX9_lookFew_2 24 rfl rfl
theorem dksX9_lookFew_4 : cX9_lookFew.data.toList.drop 94 = dktX9_lookFew_4 := dk_seg dksX9_lookFew_3 23 rfl rfl
theorem dksX9_lookFew_5 : cX9_lookFew.data.toList.drop 118 = dktX9_lookFew_5 := dk_seg dksX9_lookFew_4 24 rfl rfl
theorem dksX9_lookFew_6 : cX9_lookFew.data.toList.drop 142 = dktX9_lookFew_6 := dk_seg dksX9_lookFew_5 24 rfl rfl
theorem dksX9_lookFew_7 : cX9_lookFew.data.toList.drop 164 = dktX9_lookFew_7 := dk_seg dksX9_lookFew_6 22 rfl rfl
theorem dksX9_lookFew_8 : cX9_lookFew.data.toList.drop 187 = dktX9_lookFew_8 := dk_seg dksX9_lookFew_7 23 rfl rfl
theorem dksX9_lookFew_9 : cX9_lookFew.data.toList.drop 211 = dktX9_lookFew_9 := dk_seg dksX9_lookFew_8 24 rfl rfl
theorem dksX9_lookFew_10 : cX9_lookFew.data.toList.drop 235 = dktX9_lookFew_10 := dk_seg dksX9_lookFew_9 24 rfl rfl
theorem dksX9_lookFew_11 : cX9_lookFew.data.toList.drop 259 = dktX9_lookFew_11 := dk_seg dksX9_lookFew_10 24 rfl rfl
theorem dksX9_lookFew_12 : cX9_lookFew.data.toList.drop 282 = dktX9_lookFew_12 := dk_seg dksX9_lookFew_11 23 rfl rfl
theorem dX9_lookFew_0 : decode cX9_lookFew 0 = .ok (.iload_n 2, 1) := dk_28 (dk_at dksX9_lookFew_0 0 rfl rfl)
theorem dX9_lookFew_1 : decode cX9_lookFew 1 = .ok (.iload_n 3, 1) := dk_29 (dk_at dksX9_lookFew_0 1 rfl rfl)
theorem dX9_lookFew_2 : decode cX9_lookFew 2 = .ok (.if_icmp .lt 5, 3) := dk_161 0 5 (dk_at dksX9_lookFew_0 2 rfl rfl)
theorem dX9_lookFew_5 : decode cX9_lookFew 5 = .ok (.iconst 1, 1) := dk_4 (dk_at dksX9_lookFew_0 5 rfl rfl)
theorem dX9_lookFew_6 : decode cX9_lookFew 6 = .ok (.ireturn, 1) := dk_172 (dk_at dksX9_lookFew_0 6 rfl rfl)
theorem dX9_lookFew_7 : decode cX9_lookFew 7 = .ok (.aload_n 1, 1) := dk_43 (dk_at dksX9_lookFew_0 7 rfl rfl)
theorem dX9_lookFew_8 : decode cX9_lookFew 8 = .ok (.iload_n 2, 1) := dk_28 (dk_at dksX9_lookFew_0 8 rfl rfl)
theorem dX9_lookFew_9 : decode cX9_lookFew 9 = .ok (.iaload, 1) := dk_46 (dk_at dksX9_lookFew_0 9 rfl rfl)
theorem dX9_lookFew_10 : decode cX9_lookFew 10 = .ok (.istore 4, 2) := dk_54 4 (dk_at dksX9_lookFew_0 10 rfl rfl)
theorem dX9_lookFew_12 : decode cX9_lookFew 12 = .ok (.iload 4, 2) := dk_21 4 (dk_at dksX9_lookFew_0 12 rfl rfl)
theorem dX9_lookFew_14 : decode cX9_lookFew 14 = .ok (.sipush 128, 3) := dk_17 0 128 (dk_at dksX9_lookFew_0 14 rfl rfl)
theorem dX9_lookFew_17 : decode cX9_lookFew 17 = .ok (.if_icmp .ge 7, 3) := dk_162 0 7 (dk_at dksX9_lookFew_0 17 rfl rfl)
theorem dX9_lookFew_20 : decode cX9_lookFew 20 = .ok (.iconst 1, 1) := dk_4 (dk_at dksX9_lookFew_0 20 rfl rfl)
theorem dX9_lookFew_21 : decode cX9_lookFew 21 = .ok (.goto 58, 3) := dk_167 0 58 (dk_at dksX9_lookFew_0 21 rfl rfl)
theorem dX9_lookFew_24 : decode cX9_lookFew 24 = .ok (.iload 4, 2) := dk_21 4 (dk_at dksX9_lookFew_1 0 rfl rfl)
theorem dX9_lookFew_26 : decode cX9_lookFew 26 = .ok (.sipush 194, 3) := dk_17 0 194 (dk_at dksX9_lookFew_1 2 rfl rfl)
theorem dX9_lookFew_29 : decode cX9_lookFew 29 = .ok (.sipush 223, 3) := dk_17 0 223 (dk_at dksX9_lookFew_1 5 rfl rfl)
theorem dX9_lookFew_32 : decode cX9_lookFew 32 = .ok (.invokestatic 156, 3) := dk_184 0 156 (dk_at dksX9_lookFew_1 8 rfl rfl)
theorem dX9_lookFew_35 : decode cX9_lookFew 35 = .ok (.ifCond .eq 7, 3) := dk_153 0 7 (dk_at dksX9_lookFew_1 11 rfl rfl)
theorem dX9_lookFew_38 : decode cX9_lookFew 38 = .ok (.iconst 2, 1) := dk_5 (dk_at dksX9_lookFew_1 14 rfl rfl)
theorem dX9_lookFew_39 : decode cX9_lookFew 39 = .ok (.goto 40, 3) := dk_167 0 40 (dk_at dksX9_lookFew_1 15 rfl rfl)
theorem dX9_lookFew_42 : decode cX9_lookFew 42 = .ok (.iload 4, 2) := dk_21 4 (dk_at dksX9_lookFew_1 18 rfl rfl)
theorem dX9_lookFew_44 : decode cX9_lookFew 44 = .ok (.sipush 224, 3) := dk_17 0 224 (dk_at dksX9_lookFew_1 20 rfl rfl)
theorem dX9_lookFew_47 : decode cX9_lookFew 47 = .ok (.sipush 239, 3) := dk_17 0 239 (dk_at dksX9_lookFew_2 0 rfl rfl)
theorem dX9_lookFew_50 : decode cX9_lookFew 50 = .ok (.invokestatic 156, 3) := dk_184 0 156 (dk_at dksX9_lookFew_2 3 rfl rfl)
theorem dX9_lookFew_53 : decode cX9_lookFew 53 = .ok (.ifCond .eq 7, 3) := dk_153 0 7 (dk_at dksX9_lookFew_2 6 rfl rfl)
theorem dX9_lookFew_56 : decode cX9_lookFew 56 = .ok (.iconst 3, 1) := dk_6 (dk_at dksX9_lookFew_2 9 rfl rfl)
theorem dX9_lookFew_57 : decode cX9_lookFew 57 = .ok (.goto 22, 3) := dk_167 0 22 (dk_at dksX9_lookFew_2 10 rfl rfl)
theorem dX9_lookFew_60 : decode cX9_lookFew 60 = .ok (.iload 4, 2) := dk_21 4 (dk_at dksX9_lookFew_2 13 rfl rfl)
theorem dX9_lookFew_62 : decode cX9_lookFew 62 = .ok (.sipush 240, 3) := dk_17 0 240 (dk_at dksX9_lookFew_2 15 rfl rfl)
theorem dX9_lookFew_65 : decode cX9_lookFew 65 = .ok (.sipush 244, 3) := dk_17 0 244 (dk_at dksX9_lookFew_2 18 rfl rfl)
theorem dX9_lookFew_68 : decode cX9_lookFew 68 = .ok (.invokestatic 156, 3) := dk_184 0 156 (dk_at dksX9_lookFew_2 21 rfl rfl)
theorem dX9_lookFew_71 : decode cX9_lookFew 71 = .ok (.ifCond .eq 7, 3) := dk_153 0 7 (dk_at dksX9_lookFew_3 0 rfl rfl)
theorem dX9_lookFew_74 : decode cX9_lookFew 74 = .ok (.iconst 4, 1) := dk_7 (dk_at dksX9_lookFew_3 3 rfl rfl)
theorem dX9_lookFew_75 : decode cX9_lookFew 75 = .ok (.goto 4, 3) := dk_167 0 4 (dk_at dksX9_lookFew_3 4 rfl rfl)
theorem dX9_lookFew_78 : decode cX9_lookFew 78 = .ok (.iconst 0, 1) := dk_3 (dk_at dksX9_lookFew_3 7 rfl rfl)
theorem dX9_lookFew_79 : decode cX9_lookFew 79 = .ok (.istore 5, 2) := dk_54 5 (dk_at dksX9_lookFew_3 8 rfl rfl)
theorem dX9_lookFew_81 : decode cX9_lookFew 81 = .ok (.iload 5, 2) := dk_21 5 (dk_at dksX9_lookFew_3 10 rfl rfl)
theorem dX9_lookFew_83 : decode cX9_lookFew 83 = .ok (.ifCond .ne 5, 3) := dk_154 0 5 (dk_at dksX9_lookFew_3 12 rfl rfl)
theorem dX9_lookFew_86 : decode cX9_lookFew 86 = .ok (.iconst 0, 1) := dk_3 (dk_at dksX9_lookFew_3 15 rfl rfl)
theorem dX9_lookFew_87 : decode cX9_lookFew 87 = .ok (.ireturn, 1) := dk_172 (dk_at dksX9_lookFew_3 16 rfl rfl)
theorem dX9_lookFew_88 : decode cX9_lookFew 88 = .ok (.iload 5, 2) := dk_21 5 (dk_at dksX9_lookFew_3 17 rfl rfl)
theorem dX9_lookFew_90 : decode cX9_lookFew 90 = .ok (.iconst 1, 1) := dk_4 (dk_at dksX9_lookFew_3 19 rfl rfl)
theorem dX9_lookFew_91 : decode cX9_lookFew 91 = .ok (.if_icmp .ne 8, 3) := dk_160 0 8 (dk_at dksX9_lookFew_3 20 rfl rfl)
theorem dX9_lookFew_94 : decode cX9_lookFew 94 = .ok (.iload 4, 2) := dk_21 4 (dk_at dksX9_lookFew_4 0 rfl rfl)
theorem dX9_lookFew_96 : decode cX9_lookFew 96 = .ok (.goto 30, 3) := dk_167 0 30 (dk_at dksX9_lookFew_4 2 rfl rfl)
theorem dX9_lookFew_99 : decode cX9_lookFew 99 = .ok (.iload 4, 2) := dk_21 4 (dk_at dksX9_lookFew_4 5 rfl rfl)
theorem dX9_lookFew_101 : decode cX9_lookFew 101 = .ok (.iload 5, 2) := dk_21 5 (dk_at dksX9_lookFew_4 7 rfl rfl)
theorem dX9_lookFew_103 : decode cX9_lookFew 103 = .ok (.iconst 2, 1) := dk_5 (dk_at dksX9_lookFew_4 9 rfl rfl)
theorem dX9_lookFew_104 : decode cX9_lookFew 104 = .ok (.if_icmp .ne 8, 3) := dk_160 0 8 (dk_at dksX9_lookFew_4 10 rfl rfl)
theorem dX9_lookFew_107 : decode cX9_lookFew 107 = .ok (.bipush 31, 2) := dk_16 31 (dk_at dksX9_lookFew_4 13 rfl rfl)
theorem dX9_lookFew_109 : decode cX9_lookFew 109 = .ok (.goto 16, 3) := dk_167 0 16 (dk_at dksX9_lookFew_4 15 rfl rfl)
theorem dX9_lookFew_112 : decode cX9_lookFew 112 = .ok (.iload 5, 2) := dk_21 5 (dk_at dksX9_lookFew_4 18 rfl rfl)
theorem dX9_lookFew_114 : decode cX9_lookFew 114 = .ok (.iconst 3, 1) := dk_6 (dk_at dksX9_lookFew_4 20 rfl rfl)
theorem dX9_lookFew_115 : decode cX9_lookFew 115 = .ok (.if_icmp .ne 8, 3) := dk_160 0 8 (dk_at dksX9_lookFew_4 21 rfl rfl)
theorem dX9_lookFew_118 : decode cX9_lookFew 118 = .ok (.bipush 15, 2) := dk_16 15 (dk_at dksX9_lookFew_5 0 rfl rfl)
theorem dX9_lookFew_120 : decode cX9_lookFew 120 = .ok (.goto 5, 3) := dk_167 0 5 (dk_at dksX9_lookFew_5 2 rfl rfl)
theorem dX9_lookFew_123 : decode cX9_lookFew 123 = .ok (.bipush 7, 2) := dk_16 7 (dk_at dksX9_lookFew_5 5 rfl rfl)
theorem dX9_lookFew_125 : decode cX9_lookFew 125 = .ok (.iand, 1) := dk_126 (dk_at dksX9_lookFew_5 7 rfl rfl)
theorem dX9_lookFew_126 : decode cX9_lookFew 126 = .ok (.istore 6, 2) := dk_54 6 (dk_at dksX9_lookFew_5 8 rfl rfl)
theorem dX9_lookFew_128 : decode cX9_lookFew 128 = .ok (.iconst 1, 1) := dk_4 (dk_at dksX9_lookFew_5 10 rfl rfl)
theorem dX9_lookFew_129 : decode cX9_lookFew 129 = .ok (.istore 7, 2) := dk_54 7 (dk_at dksX9_lookFew_5 11 rfl rfl)
theorem dX9_lookFew_131 : decode cX9_lookFew 131 = .ok (.iload 7, 2) := dk_21 7 (dk_at dksX9_lookFew_5 13 rfl rfl)
theorem dX9_lookFew_133 : decode cX9_lookFew 133 = .ok (.iload 5, 2) := dk_21 5 (dk_at dksX9_lookFew_5 15 rfl rfl)
theorem dX9_lookFew_135 : decode cX9_lookFew 135 = .ok (.if_icmp .ge 144, 3) := dk_162 0 144 (dk_at dksX9_lookFew_5 17 rfl rfl)
theorem dX9_lookFew_138 : decode cX9_lookFew 138 = .ok (.iload_n 2, 1) := dk_28 (dk_at dksX9_lookFew_5 20 rfl rfl)
theorem dX9_lookFew_139 : decode cX9_lookFew 139 = .ok (.iload 7, 2) := dk_21 7 (dk_at dksX9_lookFew_5 21 rfl rfl)
theorem dX9_lookFew_141 : decode cX9_lookFew 141 = .ok (.iadd, 1) := dk_96 (dk_at dksX9_lookFew_5 23 rfl rfl)
theorem dX9_lookFew_142 : decode cX9_lookFew 142 = .ok (.iload_n 3, 1) := dk_29 (dk_at dksX9_lookFew_6 0 rfl rfl)
theorem dX9_lookFew_143 : decode cX9_lookFew 143 = .ok (.if_icmp .lt 5, 3) := dk_161 0 5 (dk_at dksX9_lookFew_6 1 rfl rfl)
theorem dX9_lookFew_146 : decode cX9_lookFew 146 = .ok (.iconst 1, 1) := dk_4 (dk_at dksX9_lookFew_6 4 rfl rfl)
theorem dX9_lookFew_147 : decode cX9_lookFew 147 = .ok (.ireturn, 1) := dk_172 (dk_at dksX9_lookFew_6 5 rfl rfl)
theorem dX9_lookFew_148 : decode cX9_lookFew 148 = .ok (.aload_n 1, 1) := dk_43 (dk_at dksX9_lookFew_6 6 rfl rfl)
theorem dX9_lookFew_149 : decode cX9_lookFew 149 = .ok (.iload_n 2, 1) := dk_28 (dk_at dksX9_lookFew_6 7 rfl rfl)
theorem dX9_lookFew_150 : decode cX9_lookFew 150 = .ok (.iload 7, 2) := dk_21 7 (dk_at dksX9_lookFew_6 8 rfl rfl)
theorem dX9_lookFew_152 : decode cX9_lookFew 152 = .ok (.iadd, 1) := dk_96 (dk_at dksX9_lookFew_6 10 rfl rfl)
theorem dX9_lookFew_153 : decode cX9_lookFew 153 = .ok (.iaload, 1) := dk_46 (dk_at dksX9_lookFew_6 11 rfl rfl)
theorem dX9_lookFew_154 : decode cX9_lookFew 154 = .ok (.istore 8, 2) := dk_54 8 (dk_at dksX9_lookFew_6 12 rfl rfl)
theorem dX9_lookFew_156 : decode cX9_lookFew 156 = .ok (.iload 8, 2) := dk_21 8 (dk_at dksX9_lookFew_6 14 rfl rfl)
theorem dX9_lookFew_158 : decode cX9_lookFew 158 = .ok (.sipush 128, 3) := dk_17 0 128 (dk_at dksX9_lookFew_6 16 rfl rfl)
theorem dX9_lookFew_161 : decode cX9_lookFew 161 = .ok (.sipush 191, 3) := dk_17 0 191 (dk_at dksX9_lookFew_6 19 rfl rfl)
theorem dX9_lookFew_164 : decode cX9_lookFew 164 = .ok (.invokestatic 156, 3) := dk_184 0 156 (dk_at dksX9_lookFew_7 0 rfl rfl)
theorem dX9_lookFew_167 : decode cX9_lookFew 167 = .ok (.ifCond .ne 5, 3) := dk_154 0 5 (dk_at dksX9_lookFew_7 3 rfl rfl)
theorem dX9_lookFew_170 : decode cX9_lookFew 170 = .ok (.iconst 0, 1) := dk_3 (dk_at dksX9_lookFew_7 6 rfl rfl)
theorem dX9_lookFew_171 : decode cX9_lookFew 171 = .ok (.ireturn, 1) := dk_172 (dk_at dksX9_lookFew_7 7 rfl rfl)
theorem dX9_lookFew_172 : decode cX9_lookFew 172 = .ok (.iload 6, 2) := dk_21 6 (dk_at dksX9_lookFew_7 8 rfl rfl)
theorem dX9_lookFew_174 : decode cX9_lookFew 174 = .ok (.bipush 6, 2) := dk_16 6 (dk_at dksX9_lookFew_7 10 rfl rfl)
theorem dX9_lookFew_176 : decode cX9_lookFew 176 = .ok (.ishl, 1) := dk_120 (dk_at dksX9_lookFew_7 12 rfl rfl)
theorem dX9_lookFew_177 : decode cX9_lookFew 177 = .ok (.iload 8, 2) := dk_21 8 (dk_at dksX9_lookFew_7 13 rfl rfl)
theorem dX9_lookFew_179 : decode cX9_lookFew 179 = .ok (.bipush 63, 2) := dk_16 63 (dk_at dksX9_lookFew_7 15 rfl rfl)
theorem dX9_lookFew_181 : decode cX9_lookFew 181 = .ok (.iand, 1) := dk_126 (dk_at dksX9_lookFew_7 17 rfl rfl)
theorem dX9_lookFew_182 : decode cX9_lookFew 182 = .ok (.ior, 1) := dk_128 (dk_at dksX9_lookFew_7 18 rfl rfl)
theorem dX9_lookFew_183 : decode cX9_lookFew 183 = .ok (.istore 6, 2) := dk_54 6 (dk_at dksX9_lookFew_7 19 rfl rfl)
theorem dX9_lookFew_185 : decode cX9_lookFew 185 = .ok (.iload 6, 2) := dk_21 6 (dk_at dksX9_lookFew_7 21 rfl rfl)
theorem dX9_lookFew_187 : decode cX9_lookFew 187 = .ok (.bipush 6, 2) := dk_16 6 (dk_at dksX9_lookFew_8 0 rfl rfl)
theorem dX9_lookFew_189 : decode cX9_lookFew 189 = .ok (.iload 5, 2) := dk_21 5 (dk_at dksX9_lookFew_8 2 rfl rfl)
theorem dX9_lookFew_191 : decode cX9_lookFew 191 = .ok (.iconst 1, 1) := dk_4 (dk_at dksX9_lookFew_8 4 rfl rfl)
theorem dX9_lookFew_192 : decode cX9_lookFew 192 = .ok (.isub, 1) := dk_100 (dk_at dksX9_lookFew_8 5 rfl rfl)
theorem dX9_lookFew_193 : decode cX9_lookFew 193 = .ok (.iload 7, 2) := dk_21 7 (dk_at dksX9_lookFew_8 6 rfl rfl)
theorem dX9_lookFew_195 : decode cX9_lookFew 195 = .ok (.isub, 1) := dk_100 (dk_at dksX9_lookFew_8 8 rfl rfl)
theorem dX9_lookFew_196 : decode cX9_lookFew 196 = .ok (.imul, 1) := dk_104 (dk_at dksX9_lookFew_8 9 rfl rfl)
theorem dX9_lookFew_197 : decode cX9_lookFew 197 = .ok (.ishl, 1) := dk_120 (dk_at dksX9_lookFew_8 10 rfl rfl)
theorem dX9_lookFew_198 : decode cX9_lookFew 198 = .ok (.istore 9, 2) := dk_54 9 (dk_at dksX9_lookFew_8 11 rfl rfl)
theorem dX9_lookFew_200 : decode cX9_lookFew 200 = .ok (.iload 9, 2) := dk_21 9 (dk_at dksX9_lookFew_8 13 rfl rfl)
theorem dX9_lookFew_202 : decode cX9_lookFew 202 = .ok (.iconst 1, 1) := dk_4 (dk_at dksX9_lookFew_8 15 rfl rfl)
theorem dX9_lookFew_203 : decode cX9_lookFew 203 = .ok (.bipush 6, 2) := dk_16 6 (dk_at dksX9_lookFew_8 16 rfl rfl)
theorem dX9_lookFew_205 : decode cX9_lookFew 205 = .ok (.iload 5, 2) := dk_21 5 (dk_at dksX9_lookFew_8 18 rfl rfl)
theorem dX9_lookFew_207 : decode cX9_lookFew 207 = .ok (.iconst 1, 1) := dk_4 (dk_at dksX9_lookFew_8 20 rfl rfl)
theorem dX9_lookFew_208 : decode cX9_lookFew 208 = .ok (.isub, 1) := dk_100 (dk_at dksX9_lookFew_8 21 rfl rfl)
theorem dX9_lookFew_209 : decode cX9_lookFew 209 = .ok (.iload 7, 2) := dk_21 7 (dk_at dksX9_lookFew_8 22 rfl rfl)
theorem dX9_lookFew_211 : decode cX9_lookFew 211 = .ok (.isub, 1) := dk_100 (dk_at dksX9_lookFew_9 0 rfl rfl)
theorem dX9_lookFew_212 : decode cX9_lookFew 212 = .ok (.imul, 1) := dk_104 (dk_at dksX9_lookFew_9 1 rfl rfl)
theorem dX9_lookFew_213 : decode cX9_lookFew 213 = .ok (.ishl, 1) := dk_120 (dk_at dksX9_lookFew_9 2 rfl rfl)
theorem dX9_lookFew_214 : decode cX9_lookFew 214 = .ok (.iadd, 1) := dk_96 (dk_at dksX9_lookFew_9 3 rfl rfl)
theorem dX9_lookFew_215 : decode cX9_lookFew 215 = .ok (.iconst 1, 1) := dk_4 (dk_at dksX9_lookFew_9 4 rfl rfl)
theorem dX9_lookFew_216 : decode cX9_lookFew 216 = .ok (.isub, 1) := dk_100 (dk_at dksX9_lookFew_9 5 rfl rfl)
theorem dX9_lookFew_217 : decode cX9_lookFew 217 = .ok (.istore 10, 2) := dk_54 10 (dk_at dksX9_lookFew_9 6 rfl rfl)
theorem dX9_lookFew_219 : decode cX9_lookFew 219 = .ok (.iload 10, 2) := dk_21 10 (dk_at dksX9_lookFew_9 8 rfl rfl)
theorem dX9_lookFew_221 : decode cX9_lookFew 221 = .ok (.iload 5, 2) := dk_21 5 (dk_at dksX9_lookFew_9 10 rfl rfl)
theorem dX9_lookFew_223 : decode cX9_lookFew 223 = .ok (.iconst 2, 1) := dk_5 (dk_at dksX9_lookFew_9 12 rfl rfl)
theorem dX9_lookFew_224 : decode cX9_lookFew 224 = .ok (.if_icmp .ne 9, 3) := dk_160 0 9 (dk_at dksX9_lookFew_9 13 rfl rfl)
theorem dX9_lookFew_227 : decode cX9_lookFew 227 = .ok (.sipush 128, 3) := dk_17 0 128 (dk_at dksX9_lookFew_9 16 rfl rfl)
theorem dX9_lookFew_230 : decode cX9_lookFew 230 = .ok (.goto 17, 3) := dk_167 0 17 (dk_at dksX9_lookFew_9 19 rfl rfl)
theorem dX9_lookFew_233 : decode cX9_lookFew 233 = .ok (.iload 5, 2) := dk_21 5 (dk_at dksX9_lookFew_9 22 rfl rfl)
theorem dX9_lookFew_235 : decode cX9_lookFew 235 = .ok (.iconst 3, 1) := dk_6 (dk_at dksX9_lookFew_10 0 rfl rfl)
theorem dX9_lookFew_236 : decode cX9_lookFew 236 = .ok (.if_icmp .ne 9, 3) := dk_160 0 9 (dk_at dksX9_lookFew_10 1 rfl rfl)
theorem dX9_lookFew_239 : decode cX9_lookFew 239 = .ok (.sipush 2048, 3) := dk_17 8 0 (dk_at dksX9_lookFew_10 4 rfl rfl)
theorem dX9_lookFew_242 : decode cX9_lookFew 242 = .ok (.goto 5, 3) := dk_167 0 5 (dk_at dksX9_lookFew_10 7 rfl rfl)
theorem dX9_lookFew_245 : decode cX9_lookFew 245 = .ok (.ldc 236, 2) := dk_18 236 (dk_at dksX9_lookFew_10 10 rfl rfl)
theorem dX9_lookFew_247 : decode cX9_lookFew 247 = .ok (.if_icmp .lt 24, 3) := dk_161 0 24 (dk_at dksX9_lookFew_10 12 rfl rfl)
theorem dX9_lookFew_250 : decode cX9_lookFew 250 = .ok (.iload 9, 2) := dk_21 9 (dk_at dksX9_lookFew_10 15 rfl rfl)
theorem dX9_lookFew_252 : decode cX9_lookFew 252 = .ok (.ldc 162, 2) := dk_18 162 (dk_at dksX9_lookFew_10 17 rfl rfl)
theorem dX9_lookFew_254 : decode cX9_lookFew 254 = .ok (.if_icmp .gt 17, 3) := dk_163 0 17 (dk_at dksX9_lookFew_10 19 rfl rfl)
theorem dX9_lookFew_257 : decode cX9_lookFew 257 = .ok (.iload 9, 2) := dk_21 9 (dk_at dksX9_lookFew_10 22 rfl rfl)
theorem dX9_lookFew_259 : decode cX9_lookFew 259 = .ok (.ldc 154, 2) := dk_18 154 (dk_at dksX9_lookFew_11 0 rfl rfl)
theorem dX9_lookFew_261 : decode cX9_lookFew 261 = .ok (.if_icmp .lt 12, 3) := dk_161 0 12 (dk_at dksX9_lookFew_11 2 rfl rfl)
theorem dX9_lookFew_264 : decode cX9_lookFew 264 = .ok (.iload 10, 2) := dk_21 10 (dk_at dksX9_lookFew_11 5 rfl rfl)
theorem dX9_lookFew_266 : decode cX9_lookFew 266 = .ok (.ldc 161, 2) := dk_18 161 (dk_at dksX9_lookFew_11 7 rfl rfl)
theorem dX9_lookFew_268 : decode cX9_lookFew 268 = .ok (.if_icmp .gt 5, 3) := dk_163 0 5 (dk_at dksX9_lookFew_11 9 rfl rfl)
theorem dX9_lookFew_271 : decode cX9_lookFew 271 = .ok (.iconst 0, 1) := dk_3 (dk_at dksX9_lookFew_11 12 rfl rfl)
theorem dX9_lookFew_272 : decode cX9_lookFew 272 = .ok (.ireturn, 1) := dk_172 (dk_at dksX9_lookFew_11 13 rfl rfl)
theorem dX9_lookFew_273 : decode cX9_lookFew 273 = .ok (.iinc 7 1, 3) := dk_132 7 1 (dk_at dksX9_lookFew_11 14 rfl rfl)
theorem dX9_lookFew_276 : decode cX9_lookFew 276 = .ok (.goto (-145), 3) := dk_167 255 111 (dk_at dksX9_lookFew_11 17 rfl rfl)
theorem dX9_lookFew_279 : decode cX9_lookFew 279 = .ok (.aload_n 0, 1) := dk_42 (dk_at dksX9_lookFew_11 20 rfl rfl)
theorem dX9_lookFew_280 : decode cX9_lookFew 280 = .ok (.iload 5, 2) := dk_21 5 (dk_at dksX9_lookFew_11 21 rfl rfl)
theorem dX9_lookFew_282 : decode cX9_lookFew 282 = .ok (.putfield 292, 3) := dk_181 1 36 (dk_at dksX9_lookFew_12 0 rfl rfl)
theorem dX9_lookFew_285 : decode cX9_lookFew 285 = .ok (.aload_n 0, 1) := dk_42 (dk_at dksX9_lookFew_12 3 rfl rfl)
theorem dX9_lookFew_286 : decode cX9_lookFew 286 = .ok (.iload 6, 2) := dk_21 6 (dk_at dksX9_lookFew_12 4 rfl rfl)
theorem dX9_lookFew_288 : decode cX9_lookFew 288 = .ok (.putfield 295, 3) := dk_181 1 39 (dk_at dksX9_lookFew_12 6 rfl rfl)
theorem dX9_lookFew_291 : decode cX9_lookFew 291 = .ok (.iconst 2, 1) := dk_5 (dk_at dksX9_lookFew_12 9 rfl rfl)
theorem dX9_lookFew_292 : decode cX9_lookFew 292 = .ok (.ireturn, 1) := dk_172 (dk_at dksX9_lookFew_12 10 rfl rfl)
abbrev cX9_lookUnits : ByteArray := prog_17_method_43_code
def yX9_lookUnits : MethodName := ⟨RX9, "lookUnits", "(Z[III)I"⟩
def dkwX9_lookUnits_10 : List UInt8 := [16, 10, 120, 96, 21, 7, 96, 18, 160, 100, 181, 1, 39, 5, 172]
abbrev dktX9_lookUnits_10 : List UInt8 := dkwX9_lookUnits_10 ++ []
def dkwX9_lookUnits_9 : List UInt8 := [21, 7, 184, 1, 45, 154, 0, 5, 3, 172, 42, 7, 181, 1, 36, 42, 18, 236, 21, 6, 18, 154, 100]
abbrev dktX9_lookUnits_9 : List UInt8 := dkwX9_lookUnits_9 ++ dktX9_lookUnits_10
def dkwX9_lookUnits_8 : List UInt8 := [6, 96, 46, 128, 167, 0, 17, 44, 29, 5, 96, 46, 44, 29, 6, 96, 46, 16, 8, 120, 128, 54, 7]
abbrev dktX9_lookUnits_8 : List UInt8 := dkwX9_lookUnits_8 ++ dktX9_lookUnits_9
def dkwX9_lookUnits_7 : List UInt8 := [3, 172, 21, 5, 7, 162, 0, 5, 4, 172, 27, 153, 0, 20, 44, 29, 5, 96, 46, 16, 8, 120, 44, 29]
abbrev dktX9_lookUnits_7 : List UInt8 := dkwX9_lookUnits_7 ++ dktX9_lookUnits_8
def dkwX9_lookUnits_6 : List UInt8 := [7, 162, 0, 5, 4, 172, 27, 153, 0, 19, 44, 29, 5, 96, 46, 16, 8, 120, 184, 1, 45, 154, 0, 5]
abbrev dktX9_lookUnits_6 : List UInt8 := dkwX9_lookUnits_6 ++ dktX9_lookUnits_7
def dkwX9_lookUnits_5 : List UInt8 := [5, 181, 1, 36, 42, 21, 6, 181, 1, 39, 5, 172, 21, 5, 6, 161, 0, 13, 27, 154, 0, 11, 21, 5]
abbrev dktX9_lookUnits_5 : List UInt8 := dkwX9_lookUnits_5 ++ dktX9_lookUnits_6
def dkwX9_lookUnits_4 : List UInt8 := [162, 0, 5, 4, 172, 21, 6, 184, 1, 45, 153, 0, 5, 3, 172, 21, 6, 184, 1, 48, 154, 0, 16, 42]
abbrev dktX9_lookUnits_4 : List UInt8 := dkwX9_lookUnits_4 ++ dktX9_lookUnits_5
def dkwX9_lookUnits_3 : List UInt8 := [162, 0, 7, 2, 167, 0, 15, 44, 29, 46, 16, 8, 120, 44, 29, 4, 96, 46, 128, 54, 6, 21, 5, 5]
abbrev dktX9_lookUnits_3 : List UInt8 := dkwX9_lookUnits_3 ++ dktX9_lookUnits_4
def dkwX9_lookUnits_2 : List UInt8 := [16, 8, 120, 184, 1, 45, 153, 0, 15, 21, 5, 4, 162, 0, 7, 4, 167, 0, 4, 3, 172, 21, 5, 5]
abbrev dktX9_lookUnits_2 : List UInt8 := dkwX9_lookUnits_2 ++ dktX9_lookUnits_3
def dkwX9_lookUnits_1 : List UInt8 := [29, 4, 96, 46, 16, 8, 120, 128, 54, 6, 27, 153, 0, 57, 21, 5, 4, 161, 0, 15, 44, 29, 46]
abbrev dktX9_lookUnits_1 : List UInt8 := dkwX9_lookUnits_1 ++ dktX9_lookUnits_2
def dkwX9_lookUnits_0 : List UInt8 := [21, 4, 29, 100, 54, 5, 27, 154, 0, 9, 21, 5, 5, 162, 0, 7, 2, 167, 0, 15, 44, 29, 46, 44]
abbrev dktX9_lookUnits_0 : List UInt8 := dkwX9_lookUnits_0 ++ dktX9_lookUnits_1
theorem dksX9_lookUnits_0 : cX9_lookUnits.data.toList.drop 0 = dktX9_lookUnits_0 := by decide +kernel
theorem dksX9_lookUnits_1 : cX9_lookUnits.data.toList.drop 24 = dktX9_lookUnits_1 := dk_seg dksX9_lookUnits_0 24 rfl rfl
theorem dksX9_lookUnits_2 : cX9_lookUnits.data.toList.drop 47 = dktX9_lookUnits_2 := dk_seg dksX9_lookUnits_1 23 rfl rfl
theorem dksX9_lookUnits_3 : cX9_lookUnits.data.toList.drop 71 = dktX9_lookUnits_3 := dk_seg dksX9_lookUnits_2 24 rfl rfl
theorem dksX9_lookUnits_4 : cX9_lookUnits.data.toList.drop 95 = dktX9_lookUnits_4 := dk_seg dksX9_lookUnits_3 24 rfl rfl
theorem dksX9_lookUnits_5 : cX9_lookUnits.data.toList.drop 119 = dktX9_lookUnits_5 := dk_seg dksX9_lookUnits_4 24 rfl rfl
theorem dksX9_lookUnits_6 : cX9_lookUnits.data.toList.drop 143 = dktX9_lookUnits_6 := dk_seg dksX9_lookUnits_5 24 rfl rfl
theorem dksX9_lookUnits_7 : cX9_lookUnits.data.toList.drop 167 = dktX9_lookUnits_7 := dk_seg dksX9_lookUnits_6 24 rfl rfl
theorem dksX9_lookUnits_8 : cX9_lookUnits.data.toList.drop 191 = dktX9_lookUnits_8 := dk_seg dksX9_lookUnits_7 24 rfl rfl
theorem dksX9_lookUnits_9 : cX9_lookUnits.data.toList.drop 214 = dktX9_lookUnits_9 := dk_seg dksX9_lookUnits_8 23 rfl rfl
theorem dksX9_lookUnits_10 : cX9_lookUnits.data.toList.drop 237 = dktX9_lookUnits_10 := dk_seg dksX9_lookUnits_9 23 rfl rfl
theorem dX9_lookUnits_0 : decode cX9_lookUnits 0 = .ok (.iload 4, 2) := dk_21 4 (dk_at dksX9_lookUnits_0 0 rfl rfl)
theorem dX9_lookUnits_2 : decode cX9_lookUnits 2 = .ok (.iload_n 3, 1) := dk_29 (dk_at dksX9_lookUnits_0 2 rfl rfl)
theorem dX9_lookUnits_3 : decode cX9_lookUnits 3 = .ok (.isub, 1) := dk_100 (dk_at dksX9_lookUnits_0 3 rfl rfl)
theorem dX9_lookUnits_4 : decode cX9_lookUnits 4 = .ok (.istore 5, 2) := dk_54 5 (dk_at dksX9_lookUnits_0 4 rfl rfl)
theorem dX9_lookUnits_6 : decode cX9_lookUnits 6 = .ok (.iload_n 1, 1) := dk_27 (dk_at dksX9_lookUnits_0 6 rfl rfl)
theorem dX9_lookUnits_7 : decode cX9_lookUnits 7 = .ok (.ifCond .ne 9, 3) := dk_154 0 9 (dk_at dksX9_lookUnits_0 7 rfl rfl)
theorem dX9_lookUnits_10 : decode cX9_lookUnits 10 = .ok (.iload 5, 2) := dk_21 5 (dk_at dksX9_lookUnits_0 10 rfl rfl)
theorem dX9_lookUnits_12 : decode cX9_lookUnits 12 = .ok (.iconst 2, 1) := dk_5 (dk_at dksX9_lookUnits_0 12 rfl rfl)
theorem dX9_lookUnits_13 : decode cX9_lookUnits 13 = .ok (.if_icmp .ge 7, 3) := dk_162 0 7 (dk_at dksX9_lookUnits_0 13 rfl rfl)
theorem dX9_lookUnits_16 : decode cX9_lookUnits 16 = .ok (.iconst (-1), 1) := dk_2 (dk_at dksX9_lookUnits_0 16 rfl rfl)
theorem dX9_lookUnits_17 : decode cX9_lookUnits 17 = .ok (.goto 15, 3) := dk_167 0 15 (dk_at dksX9_lookUnits_0 17 rfl rfl)
theorem dX9_lookUnits_20 : decode cX9_lookUnits 20 = .ok (.aload_n 2, 1) := dk_44 (dk_at dksX9_lookUnits_0 20 rfl rfl)
theorem dX9_lookUnits_21 : decode cX9_lookUnits 21 = .ok (.iload_n 3, 1) := dk_29 (dk_at dksX9_lookUnits_0 21 rfl rfl)
theorem dX9_lookUnits_22 : decode cX9_lookUnits 22 = .ok (.iaload, 1) := dk_46 (dk_at dksX9_lookUnits_0 22 rfl rfl)
theorem dX9_lookUnits_23 : decode cX9_lookUnits 23 = .ok (.aload_n 2, 1) := dk_44 (dk_at dksX9_lookUnits_0 23 rfl rfl)
theorem dX9_lookUnits_24 : decode cX9_lookUnits 24 = .ok (.iload_n 3, 1) := dk_29 (dk_at dksX9_lookUnits_1 0 rfl rfl)
theorem dX9_lookUnits_25 : decode cX9_lookUnits 25 = .ok (.iconst 1, 1) := dk_4 (dk_at dksX9_lookUnits_1 1 rfl rfl)
theorem dX9_lookUnits_26 : decode cX9_lookUnits 26 = .ok (.iadd, 1) := dk_96 (dk_at dksX9_lookUnits_1 2 rfl rfl)
theorem dX9_lookUnits_27 : decode cX9_lookUnits 27 = .ok (.iaload, 1) := dk_46 (dk_at dksX9_lookUnits_1 3 rfl rfl)
theorem dX9_lookUnits_28 : decode cX9_lookUnits 28 = .ok (.bipush 8, 2) := dk_16 8 (dk_at dksX9_lookUnits_1 4 rfl rfl)
theorem dX9_lookUnits_30 : decode cX9_lookUnits 30 = .ok (.ishl, 1) := dk_120 (dk_at dksX9_lookUnits_1 6 rfl rfl)
theorem dX9_lookUnits_31 : decode cX9_lookUnits 31 = .ok (.ior, 1) := dk_128 (dk_at dksX9_lookUnits_1 7 rfl rfl)
theorem dX9_lookUnits_32 : decode cX9_lookUnits 32 = .ok (.istore 6, 2) := dk_54 6 (dk_at dksX9_lookUnits_1 8 rfl rfl)
theorem dX9_lookUnits_34 : decode cX9_lookUnits 34 = .ok (.iload_n 1, 1) := dk_27 (dk_at dksX9_lookUnits_1 10 rfl rfl)
theorem dX9_lookUnits_35 : decode cX9_lookUnits 35 = .ok (.ifCond .eq 57, 3) := dk_153 0 57 (dk_at dksX9_lookUnits_1 11 rfl rfl)
theorem dX9_lookUnits_38 : decode cX9_lookUnits 38 = .ok (.iload 5, 2) := dk_21 5 (dk_at dksX9_lookUnits_1 14 rfl rfl)
theorem dX9_lookUnits_40 : decode cX9_lookUnits 40 = .ok (.iconst 1, 1) := dk_4 (dk_at dksX9_lookUnits_1 16 rfl rfl)
theorem dX9_lookUnits_41 : decode cX9_lookUnits 41 = .ok (.if_icmp .lt 15, 3) := dk_161 0 15 (dk_at dksX9_lookUnits_1 17 rfl rfl)
theorem dX9_lookUnits_44 : decode cX9_lookUnits 44 = .ok (.aload_n 2, 1) := dk_44 (dk_at dksX9_lookUnits_1 20 rfl rfl)
theorem dX9_lookUnits_45 : decode cX9_lookUnits 45 = .ok (.iload_n 3, 1) := dk_29 (dk_at dksX9_lookUnits_1 21 rfl rfl)
theorem dX9_lookUnits_46 : decode cX9_lookUnits 46 = .ok (.iaload, 1) := dk_46 (dk_at dksX9_lookUnits_1 22 rfl rfl)
theorem dX9_lookUnits_47 : decode cX9_lookUnits 47 = .ok (.bipush 8, 2) := dk_16 8 (dk_at dksX9_lookUnits_2 0 rfl rfl)
theorem dX9_lookUnits_49 : decode cX9_lookUnits 49 = .ok (.ishl, 1) := dk_120 (dk_at dksX9_lookUnits_2 2 rfl rfl)
theorem dX9_lookUnits_50 : decode cX9_lookUnits 50 = .ok (.invokestatic 301, 3) := dk_184 1 45 (dk_at dksX9_lookUnits_2 3 rfl rfl)
theorem dX9_lookUnits_53 : decode cX9_lookUnits 53 = .ok (.ifCond .eq 15, 3) := dk_153 0 15 (dk_at dksX9_lookUnits_2 6 rfl rfl)
theorem dX9_lookUnits_56 : decode cX9_lookUnits 56 = .ok (.iload 5, 2) := dk_21 5 (dk_at dksX9_lookUnits_2 9 rfl rfl)
theorem dX9_lookUnits_58 : decode cX9_lookUnits 58 = .ok (.iconst 1, 1) := dk_4 (dk_at dksX9_lookUnits_2 11 rfl rfl)
theorem dX9_lookUnits_59 : decode cX9_lookUnits 59 = .ok (.if_icmp .ge 7, 3) := dk_162 0 7 (dk_at dksX9_lookUnits_2 12 rfl rfl)
theorem dX9_lookUnits_62 : decode cX9_lookUnits 62 = .ok (.iconst 1, 1) := dk_4 (dk_at dksX9_lookUnits_2 15 rfl rfl)
theorem dX9_lookUnits_63 : decode cX9_lookUnits 63 = .ok (.goto 4, 3) := dk_167 0 4 (dk_at dksX9_lookUnits_2 16 rfl rfl)
theorem dX9_lookUnits_66 : decode cX9_lookUnits 66 = .ok (.iconst 0, 1) := dk_3 (dk_at dksX9_lookUnits_2 19 rfl rfl)
theorem dX9_lookUnits_67 : decode cX9_lookUnits 67 = .ok (.ireturn, 1) := dk_172 (dk_at dksX9_lookUnits_2 20 rfl rfl)
theorem dX9_lookUnits_68 : decode cX9_lookUnits 68 = .ok (.iload 5, 2) := dk_21 5 (dk_at dksX9_lookUnits_2 21 rfl rfl)
theorem dX9_lookUnits_70 : decode cX9_lookUnits 70 = .ok (.iconst 2, 1) := dk_5 (dk_at dksX9_lookUnits_2 23 rfl rfl)
theorem dX9_lookUnits_71 : decode cX9_lookUnits 71 = .ok (.if_icmp .ge 7, 3) := dk_162 0 7 (dk_at dksX9_lookUnits_3 0 rfl rfl)
theorem dX9_lookUnits_74 : decode cX9_lookUnits 74 = .ok (.iconst (-1), 1) := dk_2 (dk_at dksX9_lookUnits_3 3 rfl rfl)
theorem dX9_lookUnits_75 : decode cX9_lookUnits 75 = .ok (.goto 15, 3) := dk_167 0 15 (dk_at dksX9_lookUnits_3 4 rfl rfl)
theorem dX9_lookUnits_78 : decode cX9_lookUnits 78 = .ok (.aload_n 2, 1) := dk_44 (dk_at dksX9_lookUnits_3 7 rfl rfl)
theorem dX9_lookUnits_79 : decode cX9_lookUnits 79 = .ok (.iload_n 3, 1) := dk_29 (dk_at dksX9_lookUnits_3 8 rfl rfl)
theorem dX9_lookUnits_80 : decode cX9_lookUnits 80 = .ok (.iaload, 1) := dk_46 (dk_at dksX9_lookUnits_3 9 rfl rfl)
theorem dX9_lookUnits_81 : decode cX9_lookUnits 81 = .ok (.bipush 8, 2) := dk_16 8 (dk_at dksX9_lookUnits_3 10 rfl rfl)
theorem dX9_lookUnits_83 : decode cX9_lookUnits 83 = .ok (.ishl, 1) := dk_120 (dk_at dksX9_lookUnits_3 12 rfl rfl)
theorem dX9_lookUnits_84 : decode cX9_lookUnits 84 = .ok (.aload_n 2, 1) := dk_44 (dk_at dksX9_lookUnits_3 13 rfl rfl)
theorem dX9_lookUnits_85 : decode cX9_lookUnits 85 = .ok (.iload_n 3, 1) := dk_29 (dk_at dksX9_lookUnits_3 14 rfl rfl)
theorem dX9_lookUnits_86 : decode cX9_lookUnits 86 = .ok (.iconst 1, 1) := dk_4 (dk_at dksX9_lookUnits_3 15 rfl rfl)
theorem dX9_lookUnits_87 : decode cX9_lookUnits 87 = .ok (.iadd, 1) := dk_96 (dk_at dksX9_lookUnits_3 16 rfl rfl)
theorem dX9_lookUnits_88 : decode cX9_lookUnits 88 = .ok (.iaload, 1) := dk_46 (dk_at dksX9_lookUnits_3 17 rfl rfl)
theorem dX9_lookUnits_89 : decode cX9_lookUnits 89 = .ok (.ior, 1) := dk_128 (dk_at dksX9_lookUnits_3 18 rfl rfl)
theorem dX9_lookUnits_90 : decode cX9_lookUnits 90 = .ok (.istore 6, 2) := dk_54 6 (dk_at dksX9_lookUnits_3 19 rfl rfl)
theorem dX9_lookUnits_92 : decode cX9_lookUnits 92 = .ok (.iload 5, 2) := dk_21 5 (dk_at dksX9_lookUnits_3 21 rfl rfl)
theorem dX9_lookUnits_94 : decode cX9_lookUnits 94 = .ok (.iconst 2, 1) := dk_5 (dk_at dksX9_lookUnits_3 23 rfl rfl)
theorem dX9_lookUnits_95 : decode cX9_lookUnits 95 = .ok (.if_icmp .ge 5, 3) := dk_162 0 5 (dk_at dksX9_lookUnits_4 0 rfl rfl)
theorem dX9_lookUnits_98 : decode cX9_lookUnits 98 = .ok (.iconst 1, 1) := dk_4 (dk_at dksX9_lookUnits_4 3 rfl rfl)
theorem dX9_lookUnits_99 : decode cX9_lookUnits 99 = .ok (.ireturn, 1) := dk_172 (dk_at dksX9_lookUnits_4 4 rfl rfl)
theorem dX9_lookUnits_100 : decode cX9_lookUnits 100 = .ok (.iload 6, 2) := dk_21 6 (dk_at dksX9_lookUnits_4 5 rfl rfl)
theorem dX9_lookUnits_102 : decode cX9_lookUnits 102 = .ok (.invokestatic 301, 3) := dk_184 1 45 (dk_at dksX9_lookUnits_4 7 rfl rfl)
theorem dX9_lookUnits_105 : decode cX9_lookUnits 105 = .ok (.ifCond .eq 5, 3) := dk_153 0 5 (dk_at dksX9_lookUnits_4 10 rfl rfl)
theorem dX9_lookUnits_108 : decode cX9_lookUnits 108 = .ok (.iconst 0, 1) := dk_3 (dk_at dksX9_lookUnits_4 13 rfl rfl)
theorem dX9_lookUnits_109 : decode cX9_lookUnits 109 = .ok (.ireturn, 1) := dk_172 (dk_at dksX9_lookUnits_4 14 rfl rfl)
theorem dX9_lookUnits_110 : decode cX9_lookUnits 110 = .ok (.iload 6, 2) := dk_21 6 (dk_at dksX9_lookUnits_4 15 rfl rfl)
theorem dX9_lookUnits_112 : decode cX9_lookUnits 112 = .ok (.invokestatic 304, 3) := dk_184 1 48 (dk_at dksX9_lookUnits_4 17 rfl rfl)
theorem dX9_lookUnits_115 : decode cX9_lookUnits 115 = .ok (.ifCond .ne 16, 3) := dk_154 0 16 (dk_at dksX9_lookUnits_4 20 rfl rfl)
theorem dX9_lookUnits_118 : decode cX9_lookUnits 118 = .ok (.aload_n 0, 1) := dk_42 (dk_at dksX9_lookUnits_4 23 rfl rfl)
theorem dX9_lookUnits_119 : decode cX9_lookUnits 119 = .ok (.iconst 2, 1) := dk_5 (dk_at dksX9_lookUnits_5 0 rfl rfl)
theorem dX9_lookUnits_120 : decode cX9_lookUnits 120 = .ok (.putfield 292, 3) := dk_181 1 36 (dk_at dksX9_lookUnits_5 1 rfl rfl)
theorem dX9_lookUnits_123 : decode cX9_lookUnits 123 = .ok (.aload_n 0, 1) := dk_42 (dk_at dksX9_lookUnits_5 4 rfl rfl)
theorem dX9_lookUnits_124 : decode cX9_lookUnits 124 = .ok (.iload 6, 2) := dk_21 6 (dk_at dksX9_lookUnits_5 5 rfl rfl)
theorem dX9_lookUnits_126 : decode cX9_lookUnits 126 = .ok (.putfield 295, 3) := dk_181 1 39 (dk_at dksX9_lookUnits_5 7 rfl rfl)
theorem dX9_lookUnits_129 : decode cX9_lookUnits 129 = .ok (.iconst 2, 1) := dk_5 (dk_at dksX9_lookUnits_5 10 rfl rfl)
theorem dX9_lookUnits_130 : decode cX9_lookUnits 130 = .ok (.ireturn, 1) := dk_172 (dk_at dksX9_lookUnits_5 11 rfl rfl)
theorem dX9_lookUnits_131 : decode cX9_lookUnits 131 = .ok (.iload 5, 2) := dk_21 5 (dk_at dksX9_lookUnits_5 12 rfl rfl)
theorem dX9_lookUnits_133 : decode cX9_lookUnits 133 = .ok (.iconst 3, 1) := dk_6 (dk_at dksX9_lookUnits_5 14 rfl rfl)
theorem dX9_lookUnits_134 : decode cX9_lookUnits 134 = .ok (.if_icmp .lt 13, 3) := dk_161 0 13 (dk_at dksX9_lookUnits_5 15 rfl rfl)
theorem dX9_lookUnits_137 : decode cX9_lookUnits 137 = .ok (.iload_n 1, 1) := dk_27 (dk_at dksX9_lookUnits_5 18 rfl rfl)
theorem dX9_lookUnits_138 : decode cX9_lookUnits 138 = .ok (.ifCond .ne 11, 3) := dk_154 0 11 (dk_at dksX9_lookUnits_5 19 rfl rfl)
theorem dX9_lookUnits_141 : decode cX9_lookUnits 141 = .ok (.iload 5, 2) := dk_21 5 (dk_at dksX9_lookUnits_5 22 rfl rfl)
theorem dX9_lookUnits_143 : decode cX9_lookUnits 143 = .ok (.iconst 4, 1) := dk_7 (dk_at dksX9_lookUnits_6 0 rfl rfl)
theorem dX9_lookUnits_144 : decode cX9_lookUnits 144 = .ok (.if_icmp .ge 5, 3) := dk_162 0 5 (dk_at dksX9_lookUnits_6 1 rfl rfl)
theorem dX9_lookUnits_147 : decode cX9_lookUnits 147 = .ok (.iconst 1, 1) := dk_4 (dk_at dksX9_lookUnits_6 4 rfl rfl)
theorem dX9_lookUnits_148 : decode cX9_lookUnits 148 = .ok (.ireturn, 1) := dk_172 (dk_at dksX9_lookUnits_6 5 rfl rfl)
theorem dX9_lookUnits_149 : decode cX9_lookUnits 149 = .ok (.iload_n 1, 1) := dk_27 (dk_at dksX9_lookUnits_6 6 rfl rfl)
theorem dX9_lookUnits_150 : decode cX9_lookUnits 150 = .ok (.ifCond .eq 19, 3) := dk_153 0 19 (dk_at dksX9_lookUnits_6 7 rfl rfl)
theorem dX9_lookUnits_153 : decode cX9_lookUnits 153 = .ok (.aload_n 2, 1) := dk_44 (dk_at dksX9_lookUnits_6 10 rfl rfl)
theorem dX9_lookUnits_154 : decode cX9_lookUnits 154 = .ok (.iload_n 3, 1) := dk_29 (dk_at dksX9_lookUnits_6 11 rfl rfl)
theorem dX9_lookUnits_155 : decode cX9_lookUnits 155 = .ok (.iconst 2, 1) := dk_5 (dk_at dksX9_lookUnits_6 12 rfl rfl)
theorem dX9_lookUnits_156 : decode cX9_lookUnits 156 = .ok (.iadd, 1) := dk_96 (dk_at dksX9_lookUnits_6 13 rfl rfl)
theorem dX9_lookUnits_157 : decode cX9_lookUnits 157 = .ok (.iaload, 1) := dk_46 (dk_at dksX9_lookUnits_6 14 rfl rfl)
theorem dX9_lookUnits_158 : decode cX9_lookUnits 158 = .ok (.bipush 8, 2) := dk_16 8 (dk_at dksX9_lookUnits_6 15 rfl rfl)
theorem dX9_lookUnits_160 : decode cX9_lookUnits 160 = .ok (.ishl, 1) := dk_120 (dk_at dksX9_lookUnits_6 17 rfl rfl)
theorem dX9_lookUnits_161 : decode cX9_lookUnits 161 = .ok (.invokestatic 301, 3) := dk_184 1 45 (dk_at dksX9_lookUnits_6 18 rfl rfl)
theorem dX9_lookUnits_164 : decode cX9_lookUnits 164 = .ok (.ifCond .ne 5, 3) := dk_154 0 5 (dk_at dksX9_lookUnits_6 21 rfl rfl)
theorem dX9_lookUnits_167 : decode cX9_lookUnits 167 = .ok (.iconst 0, 1) := dk_3 (dk_at dksX9_lookUnits_7 0 rfl rfl)
theorem dX9_lookUnits_168 : decode cX9_lookUnits 168 = .ok (.ireturn, 1) := dk_172 (dk_at dksX9_lookUnits_7 1 rfl rfl)
theorem dX9_lookUnits_169 : decode cX9_lookUnits 169 = .ok (.iload 5, 2) := dk_21 5 (dk_at dksX9_lookUnits_7 2 rfl rfl)
theorem dX9_lookUnits_171 : decode cX9_lookUnits 171 = .ok (.iconst 4, 1) := dk_7 (dk_at dksX9_lookUnits_7 4 rfl rfl)
theorem dX9_lookUnits_172 : decode cX9_lookUnits 172 = .ok (.if_icmp .ge 5, 3) := dk_162 0 5 (dk_at dksX9_lookUnits_7 5 rfl rfl)
theorem dX9_lookUnits_175 : decode cX9_lookUnits 175 = .ok (.iconst 1, 1) := dk_4 (dk_at dksX9_lookUnits_7 8 rfl rfl)
theorem dX9_lookUnits_176 : decode cX9_lookUnits 176 = .ok (.ireturn, 1) := dk_172 (dk_at dksX9_lookUnits_7 9 rfl rfl)
theorem dX9_lookUnits_177 : decode cX9_lookUnits 177 = .ok (.iload_n 1, 1) := dk_27 (dk_at dksX9_lookUnits_7 10 rfl rfl)
theorem dX9_lookUnits_178 : decode cX9_lookUnits 178 = .ok (.ifCond .eq 20, 3) := dk_153 0 20 (dk_at dksX9_lookUnits_7 11 rfl rfl)
theorem dX9_lookUnits_181 : decode cX9_lookUnits 181 = .ok (.aload_n 2, 1) := dk_44 (dk_at dksX9_lookUnits_7 14 rfl rfl)
theorem dX9_lookUnits_182 : decode cX9_lookUnits 182 = .ok (.iload_n 3, 1) := dk_29 (dk_at dksX9_lookUnits_7 15 rfl rfl)
theorem dX9_lookUnits_183 : decode cX9_lookUnits 183 = .ok (.iconst 2, 1) := dk_5 (dk_at dksX9_lookUnits_7 16 rfl rfl)
theorem dX9_lookUnits_184 : decode cX9_lookUnits 184 = .ok (.iadd, 1) := dk_96 (dk_at dksX9_lookUnits_7 17 rfl rfl)
theorem dX9_lookUnits_185 : decode cX9_lookUnits 185 = .ok (.iaload, 1) := dk_46 (dk_at dksX9_lookUnits_7 18 rfl rfl)
theorem dX9_lookUnits_186 : decode cX9_lookUnits 186 = .ok (.bipush 8, 2) := dk_16 8 (dk_at dksX9_lookUnits_7 19 rfl rfl)
theorem dX9_lookUnits_188 : decode cX9_lookUnits 188 = .ok (.ishl, 1) := dk_120 (dk_at dksX9_lookUnits_7 21 rfl rfl)
theorem dX9_lookUnits_189 : decode cX9_lookUnits 189 = .ok (.aload_n 2, 1) := dk_44 (dk_at dksX9_lookUnits_7 22 rfl rfl)
theorem dX9_lookUnits_190 : decode cX9_lookUnits 190 = .ok (.iload_n 3, 1) := dk_29 (dk_at dksX9_lookUnits_7 23 rfl rfl)
theorem dX9_lookUnits_191 : decode cX9_lookUnits 191 = .ok (.iconst 3, 1) := dk_6 (dk_at dksX9_lookUnits_8 0 rfl rfl)
theorem dX9_lookUnits_192 : decode cX9_lookUnits 192 = .ok (.iadd, 1) := dk_96 (dk_at dksX9_lookUnits_8 1 rfl rfl)
theorem dX9_lookUnits_193 : decode cX9_lookUnits 193 = .ok (.iaload, 1) := dk_46 (dk_at dksX9_lookUnits_8 2 rfl rfl)
theorem dX9_lookUnits_194 : decode cX9_lookUnits 194 = .ok (.ior, 1) := dk_128 (dk_at dksX9_lookUnits_8 3 rfl rfl)
theorem dX9_lookUnits_195 : decode cX9_lookUnits 195 = .ok (.goto 17, 3) := dk_167 0 17 (dk_at dksX9_lookUnits_8 4 rfl rfl)
theorem dX9_lookUnits_198 : decode cX9_lookUnits 198 = .ok (.aload_n 2, 1) := dk_44 (dk_at dksX9_lookUnits_8 7 rfl rfl)
theorem dX9_lookUnits_199 : decode cX9_lookUnits 199 = .ok (.iload_n 3, 1) := dk_29 (dk_at dksX9_lookUnits_8 8 rfl rfl)
theorem dX9_lookUnits_200 : decode cX9_lookUnits 200 = .ok (.iconst 2, 1) := dk_5 (dk_at dksX9_lookUnits_8 9 rfl rfl)
theorem dX9_lookUnits_201 : decode cX9_lookUnits 201 = .ok (.iadd, 1) := dk_96 (dk_at dksX9_lookUnits_8 10 rfl rfl)
theorem dX9_lookUnits_202 : decode cX9_lookUnits 202 = .ok (.iaload, 1) := dk_46 (dk_at dksX9_lookUnits_8 11 rfl rfl)
theorem dX9_lookUnits_203 : decode cX9_lookUnits 203 = .ok (.aload_n 2, 1) := dk_44 (dk_at dksX9_lookUnits_8 12 rfl rfl)
theorem dX9_lookUnits_204 : decode cX9_lookUnits 204 = .ok (.iload_n 3, 1) := dk_29 (dk_at dksX9_lookUnits_8 13 rfl rfl)
theorem dX9_lookUnits_205 : decode cX9_lookUnits 205 = .ok (.iconst 3, 1) := dk_6 (dk_at dksX9_lookUnits_8 14 rfl rfl)
theorem dX9_lookUnits_206 : decode cX9_lookUnits 206 = .ok (.iadd, 1) := dk_96 (dk_at dksX9_lookUnits_8 15 rfl rfl)
theorem dX9_lookUnits_207 : decode cX9_lookUnits 207 = .ok (.iaload, 1) := dk_46 (dk_at dksX9_lookUnits_8 16 rfl rfl)
theorem dX9_lookUnits_208 : decode cX9_lookUnits 208 = .ok (.bipush 8, 2) := dk_16 8 (dk_at dksX9_lookUnits_8 17 rfl rfl)
theorem dX9_lookUnits_210 : decode cX9_lookUnits 210 = .ok (.ishl, 1) := dk_120 (dk_at dksX9_lookUnits_8 19 rfl rfl)
theorem dX9_lookUnits_211 : decode cX9_lookUnits 211 = .ok (.ior, 1) := dk_128 (dk_at dksX9_lookUnits_8 20 rfl rfl)
theorem dX9_lookUnits_212 : decode cX9_lookUnits 212 = .ok (.istore 7, 2) := dk_54 7 (dk_at dksX9_lookUnits_8 21 rfl rfl)
theorem dX9_lookUnits_214 : decode cX9_lookUnits 214 = .ok (.iload 7, 2) := dk_21 7 (dk_at dksX9_lookUnits_9 0 rfl rfl)
theorem dX9_lookUnits_216 : decode cX9_lookUnits 216 = .ok (.invokestatic 301, 3) := dk_184 1 45 (dk_at dksX9_lookUnits_9 2 rfl rfl)
theorem dX9_lookUnits_219 : decode cX9_lookUnits 219 = .ok (.ifCond .ne 5, 3) := dk_154 0 5 (dk_at dksX9_lookUnits_9 5 rfl rfl)
theorem dX9_lookUnits_222 : decode cX9_lookUnits 222 = .ok (.iconst 0, 1) := dk_3 (dk_at dksX9_lookUnits_9 8 rfl rfl)
theorem dX9_lookUnits_223 : decode cX9_lookUnits 223 = .ok (.ireturn, 1) := dk_172 (dk_at dksX9_lookUnits_9 9 rfl rfl)
theorem dX9_lookUnits_224 : decode cX9_lookUnits 224 = .ok (.aload_n 0, 1) := dk_42 (dk_at dksX9_lookUnits_9 10 rfl rfl)
theorem dX9_lookUnits_225 : decode cX9_lookUnits 225 = .ok (.iconst 4, 1) := dk_7 (dk_at dksX9_lookUnits_9 11 rfl rfl)
theorem dX9_lookUnits_226 : decode cX9_lookUnits 226 = .ok (.putfield 292, 3) := dk_181 1 36 (dk_at dksX9_lookUnits_9 12 rfl rfl)
theorem dX9_lookUnits_229 : decode cX9_lookUnits 229 = .ok (.aload_n 0, 1) := dk_42 (dk_at dksX9_lookUnits_9 15 rfl rfl)
theorem dX9_lookUnits_230 : decode cX9_lookUnits 230 = .ok (.ldc 236, 2) := dk_18 236 (dk_at dksX9_lookUnits_9 16 rfl rfl)
theorem dX9_lookUnits_232 : decode cX9_lookUnits 232 = .ok (.iload 6, 2) := dk_21 6 (dk_at dksX9_lookUnits_9 18 rfl rfl)
theorem dX9_lookUnits_234 : decode cX9_lookUnits 234 = .ok (.ldc 154, 2) := dk_18 154 (dk_at dksX9_lookUnits_9 20 rfl rfl)
theorem dX9_lookUnits_236 : decode cX9_lookUnits 236 = .ok (.isub, 1) := dk_100 (dk_at dksX9_lookUnits_9 22 rfl rfl)
theorem dX9_lookUnits_237 : decode cX9_lookUnits 237 = .ok (.bipush 10, 2) := dk_16 10 (dk_at dksX9_lookUnits_10 0 rfl rfl)
theorem dX9_lookUnits_239 : decode cX9_lookUnits 239 = .ok (.ishl, 1) := dk_120 (dk_at dksX9_lookUnits_10 2 rfl rfl)
theorem dX9_lookUnits_240 : decode cX9_lookUnits 240 = .ok (.iadd, 1) := dk_96 (dk_at dksX9_lookUnits_10 3 rfl rfl)
theorem dX9_lookUnits_241 : decode cX9_lookUnits 241 = .ok (.iload 7, 2) := dk_21 7 (dk_at dksX9_lookUnits_10 4 rfl rfl)
theorem dX9_lookUnits_243 : decode cX9_lookUnits 243 = .ok (.iadd, 1) := dk_96 (dk_at dksX9_lookUnits_10 6 rfl rfl)
theorem dX9_lookUnits_244 : decode cX9_lookUnits 244 = .ok (.ldc 160, 2) := dk_18 160 (dk_at dksX9_lookUnits_10 7 rfl rfl)
theorem dX9_lookUnits_246 : decode cX9_lookUnits 246 = .ok (.isub, 1) := dk_100 (dk_at dksX9_lookUnits_10 9 rfl rfl)
theorem dX9_lookUnits_247 : decode cX9_lookUnits 247 = .ok (.putfield 295, 3) := dk_181 1 39 (dk_at dksX9_lookUnits_10 10 rfl rfl)
theorem dX9_lookUnits_250 : decode cX9_lookUnits 250 = .ok (.iconst 2, 1) := dk_5 (dk_at dksX9_lookUnits_10 13 rfl rfl)
theorem dX9_lookUnits_251 : decode cX9_lookUnits 251 = .ok (.ireturn, 1) := dk_172 (dk_at dksX9_lookUnits_10 14 rfl rfl)
abbrev cX9_isLow : ByteArray := prog_17_method_5_code
def yX9_isLow : MethodName := ⟨RX9, "isLow", "(I)Z"⟩
def dkwX9_isLow_0 : List UInt8 := [26, 18, 160, 18, 161, 184, 0, 156, 172]
abbrev dktX9_isLow_0 : List UInt8 := dkwX9_isLow_0 ++ []
theorem dksX9_isLow_0 : cX9_isLow.data.toList.drop 0 = dktX9_isLow_0 := by decide +kernel
theorem dX9_isLow_0 : decode cX9_isLow 0 = .ok (.iload_n 0, 1) := dk_26 (dk_at dksX9_isLow_0 0 rfl rfl)
theorem dX9_isLow_1 : decode cX9_isLow 1 = .ok (.ldc 160, 2) := dk_18 160 (dk_at dksX9_isLow_0 1 rfl rfl)
theorem dX9_isLow_3 : decode cX9_isLow 3 = .ok (.ldc 161, 2) := dk_18 161 (dk_at dksX9_isLow_0 3 rfl rfl)
theorem dX9_isLow_5 : decode cX9_isLow 5 = .ok (.invokestatic 156, 3) := dk_184 0 156 (dk_at dksX9_isLow_0 5 rfl rfl)
theorem dX9_isLow_8 : decode cX9_isLow 8 = .ok (.ireturn, 1) := dk_172 (dk_at dksX9_isLow_0 8 rfl rfl)
abbrev cX9_isHigh : ByteArray := prog_17_method_4_code
def yX9_isHigh : MethodName := ⟨RX9, "isHigh", "(I)Z"⟩
def dkwX9_isHigh_0 : List UInt8 := [26, 18, 154, 18, 155, 184, 0, 156, 172]
abbrev dktX9_isHigh_0 : List UInt8 := dkwX9_isHigh_0 ++ []
theorem dksX9_isHigh_0 : cX9_isHigh.data.toList.drop 0 = dktX9_isHigh_0 := by decide +kernel
theorem dX9_isHigh_0 : decode cX9_isHigh 0 = .ok (.iload_n 0, 1) := dk_26 (dk_at dksX9_isHigh_0 0 rfl rfl)
theorem dX9_isHigh_1 : decode cX9_isHigh 1 = .ok (.ldc 154, 2) := dk_18 154 (dk_at dksX9_isHigh_0 1 rfl rfl)
theorem dX9_isHigh_3 : decode cX9_isHigh 3 = .ok (.ldc 155, 2) := dk_18 155 (dk_at dksX9_isHigh_0 3 rfl rfl)
theorem dX9_isHigh_5 : decode cX9_isHigh 5 = .ok (.invokestatic 156, 3) := dk_184 0 156 (dk_at dksX9_isHigh_0 5 rfl rfl)
theorem dX9_isHigh_8 : decode cX9_isHigh 8 = .ok (.ireturn, 1) := dk_172 (dk_at dksX9_isHigh_0 8 rfl rfl)
abbrev cX9_putUnits : ByteArray := prog_17_method_41_code
def yX9_putUnits : MethodName := ⟨RX9, "putUnits", "(I)V"⟩
def dkwX9_putUnits_1 : List UInt8 := [184, 0, 243, 182, 1, 19, 177]
abbrev dktX9_putUnits_1 : List UInt8 := dkwX9_putUnits_1 ++ []
def dkwX9_putUnits_0 : List UInt8 := [27, 18, 236, 162, 0, 9, 42, 27, 182, 1, 19, 177, 42, 27, 184, 0, 240, 182, 1, 19, 42, 27]
abbrev dktX9_putUnits_0 : List UInt8 := dkwX9_putUnits_0 ++ dktX9_putUnits_1
theorem dksX9_putUnits_0 : cX9_putUnits.data.toList.drop 0 = dktX9_putUnits_0 := by decide +kernel
theorem dksX9_putUnits_1 : cX9_putUnits.data.toList.drop 22 = dktX9_putUnits_1 := dk_seg dksX9_putUnits_0 22 rfl rfl
theorem dX9_putUnits_0 : decode cX9_putUnits 0 = .ok (.iload_n 1, 1) := dk_27 (dk_at dksX9_putUnits_0 0 rfl rfl)
theorem dX9_putUnits_1 : decode cX9_putUnits 1 = .ok (.ldc 236, 2) := dk_18 236 (dk_at dksX9_putUnits_0 1 rfl rfl)
theorem dX9_putUnits_3 : decode cX9_putUnits 3 = .ok (.if_icmp .ge 9, 3) := dk_162 0 9 (dk_at dksX9_putUnits_0 3 rfl rfl)
theorem dX9_putUnits_6 : decode cX9_putUnits 6 = .ok (.aload_n 0, 1) := dk_42 (dk_at dksX9_putUnits_0 6 rfl rfl)
theorem dX9_putUnits_7 : decode cX9_putUnits 7 = .ok (.iload_n 1, 1) := dk_27 (dk_at dksX9_putUnits_0 7 rfl rfl)
theorem dX9_putUnits_8 : decode cX9_putUnits 8 = .ok (.invokevirtual 275, 3) := dk_182 1 19 (dk_at dksX9_putUnits_0 8 rfl rfl)
theorem dX9_putUnits_11 : decode cX9_putUnits 11 = .ok (.return_, 1) := dk_177 (dk_at dksX9_putUnits_0 11 rfl rfl)
theorem dX9_putUnits_12 : decode cX9_putUnits 12 = .ok (.aload_n 0, 1) := dk_42 (dk_at dksX9_putUnits_0 12 rfl rfl)
theorem dX9_putUnits_13 : decode cX9_putUnits 13 = .ok (.iload_n 1, 1) := dk_27 (dk_at dksX9_putUnits_0 13 rfl rfl)
theorem dX9_putUnits_14 : decode cX9_putUnits 14 = .ok (.invokestatic 240, 3) := dk_184 0 240 (dk_at dksX9_putUnits_0 14 rfl rfl)
theorem dX9_putUnits_17 : decode cX9_putUnits 17 = .ok (.invokevirtual 275, 3) := dk_182 1 19 (dk_at dksX9_putUnits_0 17 rfl rfl)
theorem dX9_putUnits_20 : decode cX9_putUnits 20 = .ok (.aload_n 0, 1) := dk_42 (dk_at dksX9_putUnits_0 20 rfl rfl)
theorem dX9_putUnits_21 : decode cX9_putUnits 21 = .ok (.iload_n 1, 1) := dk_27 (dk_at dksX9_putUnits_0 21 rfl rfl)
theorem dX9_putUnits_22 : decode cX9_putUnits 22 = .ok (.invokestatic 243, 3) := dk_184 0 243 (dk_at dksX9_putUnits_1 0 rfl rfl)
theorem dX9_putUnits_25 : decode cX9_putUnits 25 = .ok (.invokevirtual 275, 3) := dk_182 1 19 (dk_at dksX9_putUnits_1 3 rfl rfl)
theorem dX9_putUnits_28 : decode cX9_putUnits 28 = .ok (.return_, 1) := dk_177 (dk_at dksX9_putUnits_1 6 rfl rfl)
abbrev cX9_put : ByteArray := prog_17_method_40_code
def yX9_put : MethodName := ⟨RX9, "put", "(I)V"⟩
def dkwX9_put_0 : List UInt8 := [42, 180, 1, 13, 42, 180, 1, 16, 27, 79, 42, 89, 180, 1, 16, 4, 96, 181, 1, 16, 177]
abbrev dktX9_put_0 : List UInt8 := dkwX9_put_0 ++ []
theorem dksX9_put_0 : cX9_put.data.toList.drop 0 = dktX9_put_0 := by decide +kernel
theorem dX9_put_0 : decode cX9_put 0 = .ok (.aload_n 0, 1) := dk_42 (dk_at dksX9_put_0 0 rfl rfl)
theorem dX9_put_1 : decode cX9_put 1 = .ok (.getfield 269, 3) := dk_180 1 13 (dk_at dksX9_put_0 1 rfl rfl)
theorem dX9_put_4 : decode cX9_put 4 = .ok (.aload_n 0, 1) := dk_42 (dk_at dksX9_put_0 4 rfl rfl)
theorem dX9_put_5 : decode cX9_put 5 = .ok (.getfield 272, 3) := dk_180 1 16 (dk_at dksX9_put_0 5 rfl rfl)
theorem dX9_put_8 : decode cX9_put 8 = .ok (.iload_n 1, 1) := dk_27 (dk_at dksX9_put_0 8 rfl rfl)
theorem dX9_put_9 : decode cX9_put 9 = .ok (.iastore, 1) := dk_79 (dk_at dksX9_put_0 9 rfl rfl)
theorem dX9_put_10 : decode cX9_put 10 = .ok (.aload_n 0, 1) := dk_42 (dk_at dksX9_put_0 10 rfl rfl)
theorem dX9_put_11 : decode cX9_put 11 = .ok (.dup, 1) := dk_89 (dk_at dksX9_put_0 11 rfl rfl)
theorem dX9_put_12 : decode cX9_put 12 = .ok (.getfield 272, 3) := dk_180 1 16 (dk_at dksX9_put_0 12 rfl rfl)
theorem dX9_put_15 : decode cX9_put 15 = .ok (.iconst 1, 1) := dk_4 (dk_at dksX9_put_0 15 rfl rfl)
theorem dX9_put_16 : decode cX9_put 16 = .ok (.iadd, 1) := dk_96 (dk_at dksX9_put_0 16 rfl rfl)
theorem dX9_put_17 : decode cX9_put 17 = .ok (.putfield 272, 3) := dk_181 1 16 (dk_at dksX9_put_0 17 rfl rfl)
theorem dX9_put_20 : decode cX9_put 20 = .ok (.return_, 1) := dk_177 (dk_at dksX9_put_0 20 rfl rfl)
abbrev cX9_resultOf : ByteArray := prog_17_method_58_code
def yX9_resultOf : MethodName := ⟨RX9, "resultOf", "([III)I"⟩
def dkwX9_resultOf_1 : List UInt8 := [167, 255, 236, 42, 28, 181, 1, 10, 42, 29, 181, 1, 7, 28, 172]
abbrev dktX9_resultOf_1 : List UInt8 := dkwX9_resultOf_1 ++ []
def dkwX9_resultOf_0 : List UInt8 := [3, 54, 4, 21, 4, 28, 162, 0, 20, 42, 180, 0, 56, 21, 4, 43, 21, 4, 46, 79, 132, 4, 1]
abbrev dktX9_resultOf_0 : List UInt8 := dkwX9_resultOf_0 ++ dktX9_resultOf_1
theorem dksX9_resultOf_0 : cX9_resultOf.data.toList.drop 0 = dktX9_resultOf_0 := by decide +kernel
theorem dksX9_resultOf_1 : cX9_resultOf.data.toList.drop 23 = dktX9_resultOf_1 := dk_seg dksX9_resultOf_0 23 rfl rfl
theorem dX9_resultOf_0 : decode cX9_resultOf 0 = .ok (.iconst 0, 1) := dk_3 (dk_at dksX9_resultOf_0 0 rfl rfl)
theorem dX9_resultOf_1 : decode cX9_resultOf 1 = .ok (.istore 4, 2) := dk_54 4 (dk_at dksX9_resultOf_0 1 rfl rfl)
theorem dX9_resultOf_3 : decode cX9_resultOf 3 = .ok (.iload 4, 2) := dk_21 4 (dk_at dksX9_resultOf_0 3 rfl rfl)
theorem dX9_resultOf_5 : decode cX9_resultOf 5 = .ok (.iload_n 2, 1) := dk_28 (dk_at dksX9_resultOf_0 5 rfl rfl)
theorem dX9_resultOf_6 : decode cX9_resultOf 6 = .ok (.if_icmp .ge 20, 3) := dk_162 0 20 (dk_at dksX9_resultOf_0 6 rfl rfl)
theorem dX9_resultOf_9 : decode cX9_resultOf 9 = .ok (.aload_n 0, 1) := dk_42 (dk_at dksX9_resultOf_0 9 rfl rfl)
theorem dX9_resultOf_10 : decode cX9_resultOf 10 = .ok (.getfield 56, 3) := dk_180 0 56 (dk_at dksX9_resultOf_0 10 rfl rfl)
theorem dX9_resultOf_13 : decode cX9_resultOf 13 = .ok (.iload 4, 2) := dk_21 4 (dk_at dksX9_resultOf_0 13 rfl rfl)
theorem dX9_resultOf_15 : decode cX9_resultOf 15 = .ok (.aload_n 1, 1) := dk_43 (dk_at dksX9_resultOf_0 15 rfl rfl)
theorem dX9_resultOf_16 : decode cX9_resultOf 16 = .ok (.iload 4, 2) := dk_21 4 (dk_at dksX9_resultOf_0 16 rfl rfl)
theorem dX9_resultOf_18 : decode cX9_resultOf 18 = .ok (.iaload, 1) := dk_46 (dk_at dksX9_resultOf_0 18 rfl rfl)
theorem dX9_resultOf_19 : decode cX9_resultOf 19 = .ok (.iastore, 1) := dk_79 (dk_at dksX9_resultOf_0 19 rfl rfl)
theorem dX9_resultOf_20 : decode cX9_resultOf 20 = .ok (.iinc 4 1, 3) := dk_132 4 1 (dk_at dksX9_resultOf_0 20 rfl rfl)
theorem dX9_resultOf_23 : decode cX9_resultOf 23 = .ok (.goto (-20), 3) := dk_167 255 236 (dk_at dksX9_resultOf_1 0 rfl rfl)
theorem dX9_resultOf_26 : decode cX9_resultOf 26 = .ok (.aload_n 0, 1) := dk_42 (dk_at dksX9_resultOf_1 3 rfl rfl)
theorem dX9_resultOf_27 : decode cX9_resultOf 27 = .ok (.iload_n 2, 1) := dk_28 (dk_at dksX9_resultOf_1 4 rfl rfl)
theorem dX9_resultOf_28 : decode cX9_resultOf 28 = .ok (.putfield 266, 3) := dk_181 1 10 (dk_at dksX9_resultOf_1 5 rfl rfl)
theorem dX9_resultOf_31 : decode cX9_resultOf 31 = .ok (.aload_n 0, 1) := dk_42 (dk_at dksX9_resultOf_1 8 rfl rfl)
theorem dX9_resultOf_32 : decode cX9_resultOf 32 = .ok (.iload_n 3, 1) := dk_29 (dk_at dksX9_resultOf_1 9 rfl rfl)
theorem dX9_resultOf_33 : decode cX9_resultOf 33 = .ok (.putfield 263, 3) := dk_181 1 7 (dk_at dksX9_resultOf_1 10 rfl rfl)
theorem dX9_resultOf_36 : decode cX9_resultOf 36 = .ok (.iload_n 2, 1) := dk_28 (dk_at dksX9_resultOf_1 13 rfl rfl)
theorem dX9_resultOf_37 : decode cX9_resultOf 37 = .ok (.ireturn, 1) := dk_172 (dk_at dksX9_resultOf_1 14 rfl rfl)
abbrev cX9_encode : ByteArray := prog_17_method_60_code
def yX9_encode : MethodName := ⟨RX9, "encode", "(II)I"⟩
def dkwX9_encode_3 : List UInt8 := [182, 0, 166, 167, 0, 13, 42, 42, 180, 0, 90, 29, 5, 182, 1, 118, 172]
abbrev dktX9_encode_3 : List UInt8 := dkwX9_encode_3 ++ []
def dkwX9_encode_2 : List UInt8 := [42, 180, 0, 53, 42, 180, 1, 2, 3, 17, 23, 112, 182, 1, 121, 62, 29, 156, 0, 11, 42, 29]
abbrev dktX9_encode_2 : List UInt8 := dkwX9_encode_2 ++ dktX9_encode_3
def dkwX9_encode_1 : List UInt8 := [16, 251, 182, 0, 166, 172, 28, 3, 7, 184, 0, 156, 154, 0, 9, 42, 2, 182, 0, 166, 172, 42, 27, 28]
abbrev dktX9_encode_1 : List UInt8 := dkwX9_encode_1 ++ dktX9_encode_2
def dkwX9_encode_0 : List UInt8 := [42, 27, 182, 0, 170, 154, 0, 9, 42, 2, 182, 0, 166, 172, 42, 180, 0, 13, 27, 51, 154, 0, 10, 42]
abbrev dktX9_encode_0 : List UInt8 := dkwX9_encode_0 ++ dktX9_encode_1
theorem dksX9_encode_0 : cX9_encode.data.toList.drop 0 = dktX9_encode_0 := by decide +kernel
theorem dksX9_encode_1 : cX9_encode.data.toList.drop 24 = dktX9_encode_1 := dk_seg dksX9_encode_0 24 rfl rfl
theorem dksX9_encode_2 : cX9_encode.data.toList.drop 48 = dktX9_encode_2 := dk_seg dksX9_encode_1 24 rfl rfl
theorem dksX9_encode_3 : cX9_encode.data.toList.drop 70 = dktX9_encode_3 := dk_seg dksX9_encode_2 22 rfl rfl
theorem dX9_encode_0 : decode cX9_encode 0 = .ok (.aload_n 0, 1) := dk_42 (dk_at dksX9_encode_0 0 rfl rfl)
theorem dX9_encode_1 : decode cX9_encode 1 = .ok (.iload_n 1, 1) := dk_27 (dk_at dksX9_encode_0 1 rfl rfl)
theorem dX9_encode_2 : decode cX9_encode 2 = .ok (.invokevirtual 170, 3) := dk_182 0 170 (dk_at dksX9_encode_0 2 rfl rfl)
theorem dX9_encode_5 : decode cX9_encode 5 = .ok (.ifCond .ne 9, 3) := dk_154 0 9 (dk_at dksX9_encode_0 5 rfl rfl)
theorem dX9_encode_8 : decode cX9_encode 8 = .ok (.aload_n 0, 1) := dk_42 (dk_at dksX9_encode_0 8 rfl rfl)
theorem dX9_encode_9 : decode cX9_encode 9 = .ok (.iconst (-1), 1) := dk_2 (dk_at dksX9_encode_0 9 rfl rfl)
theorem dX9_encode_10 : decode cX9_encode 10 = .ok (.invokevirtual 166, 3) := dk_182 0 166 (dk_at dksX9_encode_0 10 rfl rfl)
theorem dX9_encode_13 : decode cX9_encode 13 = .ok (.ireturn, 1) := dk_172 (dk_at dksX9_encode_0 13 rfl rfl)
theorem dX9_encode_14 : decode cX9_encode 14 = .ok (.aload_n 0, 1) := dk_42 (dk_at dksX9_encode_0 14 rfl rfl)
theorem dX9_encode_15 : decode cX9_encode 15 = .ok (.getfield 13, 3) := dk_180 0 13 (dk_at dksX9_encode_0 15 rfl rfl)
theorem dX9_encode_18 : decode cX9_encode 18 = .ok (.iload_n 1, 1) := dk_27 (dk_at dksX9_encode_0 18 rfl rfl)
theorem dX9_encode_19 : decode cX9_encode 19 = .ok (.baload, 1) := dk_51 (dk_at dksX9_encode_0 19 rfl rfl)
theorem dX9_encode_20 : decode cX9_encode 20 = .ok (.ifCond .ne 10, 3) := dk_154 0 10 (dk_at dksX9_encode_0 20 rfl rfl)
theorem dX9_encode_23 : decode cX9_encode 23 = .ok (.aload_n 0, 1) := dk_42 (dk_at dksX9_encode_0 23 rfl rfl)
theorem dX9_encode_24 : decode cX9_encode 24 = .ok (.bipush (-5), 2) := dk_16 251 (dk_at dksX9_encode_1 0 rfl rfl)
theorem dX9_encode_26 : decode cX9_encode 26 = .ok (.invokevirtual 166, 3) := dk_182 0 166 (dk_at dksX9_encode_1 2 rfl rfl)
theorem dX9_encode_29 : decode cX9_encode 29 = .ok (.ireturn, 1) := dk_172 (dk_at dksX9_encode_1 5 rfl rfl)
theorem dX9_encode_30 : decode cX9_encode 30 = .ok (.iload_n 2, 1) := dk_28 (dk_at dksX9_encode_1 6 rfl rfl)
theorem dX9_encode_31 : decode cX9_encode 31 = .ok (.iconst 0, 1) := dk_3 (dk_at dksX9_encode_1 7 rfl rfl)
theorem dX9_encode_32 : decode cX9_encode 32 = .ok (.iconst 4, 1) := dk_7 (dk_at dksX9_encode_1 8 rfl rfl)
theorem dX9_encode_33 : decode cX9_encode 33 = .ok (.invokestatic 156, 3) := dk_184 0 156 (dk_at dksX9_encode_1 9 rfl rfl)
theorem dX9_encode_36 : decode cX9_encode 36 = .ok (.ifCond .ne 9, 3) := dk_154 0 9 (dk_at dksX9_encode_1 12 rfl rfl)
theorem dX9_encode_39 : decode cX9_encode 39 = .ok (.aload_n 0, 1) := dk_42 (dk_at dksX9_encode_1 15 rfl rfl)
theorem dX9_encode_40 : decode cX9_encode 40 = .ok (.iconst (-1), 1) := dk_2 (dk_at dksX9_encode_1 16 rfl rfl)
theorem dX9_encode_41 : decode cX9_encode 41 = .ok (.invokevirtual 166, 3) := dk_182 0 166 (dk_at dksX9_encode_1 17 rfl rfl)
theorem dX9_encode_44 : decode cX9_encode 44 = .ok (.ireturn, 1) := dk_172 (dk_at dksX9_encode_1 20 rfl rfl)
theorem dX9_encode_45 : decode cX9_encode 45 = .ok (.aload_n 0, 1) := dk_42 (dk_at dksX9_encode_1 21 rfl rfl)
theorem dX9_encode_46 : decode cX9_encode 46 = .ok (.iload_n 1, 1) := dk_27 (dk_at dksX9_encode_1 22 rfl rfl)
theorem dX9_encode_47 : decode cX9_encode 47 = .ok (.iload_n 2, 1) := dk_28 (dk_at dksX9_encode_1 23 rfl rfl)
theorem dX9_encode_48 : decode cX9_encode 48 = .ok (.aload_n 0, 1) := dk_42 (dk_at dksX9_encode_2 0 rfl rfl)
theorem dX9_encode_49 : decode cX9_encode 49 = .ok (.getfield 53, 3) := dk_180 0 53 (dk_at dksX9_encode_2 1 rfl rfl)
theorem dX9_encode_52 : decode cX9_encode 52 = .ok (.aload_n 0, 1) := dk_42 (dk_at dksX9_encode_2 4 rfl rfl)
theorem dX9_encode_53 : decode cX9_encode 53 = .ok (.getfield 258, 3) := dk_180 1 2 (dk_at dksX9_encode_2 5 rfl rfl)
theorem dX9_encode_56 : decode cX9_encode 56 = .ok (.iconst 0, 1) := dk_3 (dk_at dksX9_encode_2 8 rfl rfl)
theorem dX9_encode_57 : decode cX9_encode 57 = .ok (.sipush 6000, 3) := dk_17 23 112 (dk_at dksX9_encode_2 9 rfl rfl)
theorem dX9_encode_60 : decode cX9_encode 60 = .ok (.invokevirtual 377, 3) := dk_182 1 121 (dk_at dksX9_encode_2 12 rfl rfl)
theorem dX9_encode_63 : decode cX9_encode 63 = .ok (.istore_n 3, 1) := dk_62 (dk_at dksX9_encode_2 15 rfl rfl)
theorem dX9_encode_64 : decode cX9_encode 64 = .ok (.iload_n 3, 1) := dk_29 (dk_at dksX9_encode_2 16 rfl rfl)
theorem dX9_encode_65 : decode cX9_encode 65 = .ok (.ifCond .ge 11, 3) := dk_156 0 11 (dk_at dksX9_encode_2 17 rfl rfl)
theorem dX9_encode_68 : decode cX9_encode 68 = .ok (.aload_n 0, 1) := dk_42 (dk_at dksX9_encode_2 20 rfl rfl)
theorem dX9_encode_69 : decode cX9_encode 69 = .ok (.iload_n 3, 1) := dk_29 (dk_at dksX9_encode_2 21 rfl rfl)
theorem dX9_encode_70 : decode cX9_encode 70 = .ok (.invokevirtual 166, 3) := dk_182 0 166 (dk_at dksX9_encode_3 0 rfl rfl)
theorem dX9_encode_73 : decode cX9_encode 73 = .ok (.goto 13, 3) := dk_167 0 13 (dk_at dksX9_encode_3 3 rfl rfl)
theorem dX9_encode_76 : decode cX9_encode 76 = .ok (.aload_n 0, 1) := dk_42 (dk_at dksX9_encode_3 6 rfl rfl)
theorem dX9_encode_77 : decode cX9_encode 77 = .ok (.aload_n 0, 1) := dk_42 (dk_at dksX9_encode_3 7 rfl rfl)
theorem dX9_encode_78 : decode cX9_encode 78 = .ok (.getfield 90, 3) := dk_180 0 90 (dk_at dksX9_encode_3 8 rfl rfl)
theorem dX9_encode_81 : decode cX9_encode 81 = .ok (.iload_n 3, 1) := dk_29 (dk_at dksX9_encode_3 11 rfl rfl)
theorem dX9_encode_82 : decode cX9_encode 82 = .ok (.iconst 2, 1) := dk_5 (dk_at dksX9_encode_3 12 rfl rfl)
theorem dX9_encode_83 : decode cX9_encode 83 = .ok (.invokevirtual 374, 3) := dk_182 1 118 (dk_at dksX9_encode_3 13 rfl rfl)
theorem dX9_encode_86 : decode cX9_encode 86 = .ok (.ireturn, 1) := dk_172 (dk_at dksX9_encode_3 16 rfl rfl)
abbrev cX9_writeAll : ByteArray := prog_17_method_57_code
def yX9_writeAll : MethodName := ⟨RX9, "writeAll", "(II[IIII)I"⟩
def dkwX9_writeAll_8 : List UInt8 := [42, 27, 182, 1, 111, 54, 8, 21, 8, 153, 0, 8, 21, 8, 167, 0, 7, 42, 180, 1, 16, 172]
abbrev dktX9_writeAll_8 : List UInt8 := dkwX9_writeAll_8 ++ []
def dkwX9_writeAll_7 : List UInt8 := [153, 0, 6, 21, 10, 172, 21, 7, 21, 9, 153, 0, 7, 5, 167, 0, 4, 4, 96, 54, 7, 167, 255, 99]
abbrev dktX9_writeAll_7 : List UInt8 := dkwX9_writeAll_7 ++ dktX9_writeAll_8
def dkwX9_writeAll_6 : List UInt8 := [28, 21, 8, 182, 1, 105, 54, 10, 21, 10, 16, 246, 160, 0, 9, 42, 21, 7, 181, 1, 65, 21, 10]
abbrev dktX9_writeAll_6 : List UInt8 := dkwX9_writeAll_6 ++ dktX9_writeAll_7
def dkwX9_writeAll_5 : List UInt8 := [154, 0, 11, 21, 8, 184, 1, 45, 153, 0, 14, 42, 27, 28, 21, 8, 182, 1, 108, 167, 0, 11, 42, 27]
abbrev dktX9_writeAll_5 : List UInt8 := dkwX9_writeAll_5 ++ dktX9_writeAll_6
def dkwX9_writeAll_4 : List UInt8 := [120, 96, 45, 21, 7, 4, 96, 46, 96, 18, 160, 100, 182, 1, 105, 167, 0, 38, 21, 8, 184, 1, 48]
abbrev dktX9_writeAll_4 : List UInt8 := dkwX9_writeAll_4 ++ dktX9_writeAll_5
def dkwX9_writeAll_3 : List UInt8 := [4, 167, 0, 4, 3, 54, 9, 21, 9, 153, 0, 33, 42, 27, 28, 18, 236, 21, 8, 18, 154, 100, 16, 10]
abbrev dktX9_writeAll_3 : List UInt8 := dkwX9_writeAll_3 ++ dktX9_writeAll_4
def dkwX9_writeAll_2 : List UInt8 := [153, 0, 28, 21, 7, 4, 96, 21, 4, 162, 0, 19, 45, 21, 7, 4, 96, 46, 184, 1, 45, 153, 0, 7]
abbrev dktX9_writeAll_2 : List UInt8 := dkwX9_writeAll_2 ++ dktX9_writeAll_3
def dkwX9_writeAll_1 : List UInt8 := [181, 1, 72, 3, 54, 7, 21, 7, 21, 4, 162, 0, 156, 45, 21, 7, 46, 54, 8, 21, 8, 184, 1, 48]
abbrev dktX9_writeAll_1 : List UInt8 := dkwX9_writeAll_1 ++ dktX9_writeAll_2
def dkwX9_writeAll_0 : List UInt8 := [42, 21, 5, 181, 1, 33, 42, 42, 180, 0, 90, 181, 1, 13, 42, 3, 181, 1, 16, 42, 21, 6]
abbrev dktX9_writeAll_0 : List UInt8 := dkwX9_writeAll_0 ++ dktX9_writeAll_1
theorem dksX9_writeAll_0 : cX9_writeAll.data.toList.drop 0 = dktX9_writeAll_0 := by decide +kernel
theorem dksX9_writeAll_1 : cX9_writeAll.data.toList.drop 22 = dktX9_writeAll_1 := dk_seg dksX9_writeAll_0 22 rfl rfl
theorem dksX9_writeAll_2 : cX9_writeAll.data.toList.drop 46 = dktX9_writeAll_2 := dk_seg dksX9_writeAll_1 24 rfl rfl
theorem dksX9_writeAll_3 : cX9_writeAll.data.toList.drop 70 = dktX9_writeAll_3 := dk_seg dksX9_writeAll_2 24 rfl rfl
theorem dksX9_writeAll_4 : cX9_writeAll.data.toList.drop 94 = dktX9_writeAll_4 := dk_seg dksX9_writeAll_3 24 rfl rfl
theorem dksX9_writeAll_5 : cX9_writeAll.data.toList.drop 117 = dktX9_writeAll_5 := dk_seg dksX9_writeAll_4 23 rfl rfl
theorem dksX9_writeAll_6 : cX9_writeAll.data.toList.drop 141 = dktX9_writeAll_6 := dk_seg dksX9_writeAll_5 24 rfl rfl
theorem dksX9_writeAll_7 : cX9_writeAll.data.toList.drop 164 = dktX9_writeAll_7 := dk_seg dksX9_writeAll_6 23 rfl rfl
theorem dksX9_writeAll_8 : cX9_writeAll.data.toList.drop 188 = dktX9_writeAll_8 := dk_seg dksX9_writeAll_7 24 rfl rfl
theorem dX9_writeAll_0 : decode cX9_writeAll 0 = .ok (.aload_n 0, 1) := dk_42 (dk_at dksX9_writeAll_0 0 rfl rfl)
theorem dX9_writeAll_1 : decode cX9_writeAll 1 = .ok (.iload 5, 2) := dk_21 5 (dk_at dksX9_writeAll_0 1 rfl rfl)
theorem dX9_writeAll_3 : decode cX9_writeAll 3 = .ok (.putfield 289, 3) := dk_181 1 33 (dk_at dksX9_writeAll_0 3 rfl rfl)
theorem dX9_writeAll_6 : decode cX9_writeAll 6 = .ok (.aload_n 0, 1) := dk_42 (dk_at dksX9_writeAll_0 6 rfl rfl)
theorem dX9_writeAll_7 : decode cX9_writeAll 7 = .ok (.aload_n 0, 1) := dk_42 (dk_at dksX9_writeAll_0 7 rfl rfl)
theorem dX9_writeAll_8 : decode cX9_writeAll 8 = .ok (.getfield 90, 3) := dk_180 0 90 (dk_at dksX9_writeAll_0 8 rfl rfl)
theorem dX9_writeAll_11 : decode cX9_writeAll 11 = .ok (.putfield 269, 3) := dk_181 1 13 (dk_at dksX9_writeAll_0 11 rfl rfl)
theorem dX9_writeAll_14 : decode cX9_writeAll 14 = .ok (.aload_n 0, 1) := dk_42 (dk_at dksX9_writeAll_0 14 rfl rfl)
theorem dX9_writeAll_15 : decode cX9_writeAll 15 = .ok (.iconst 0, 1) := dk_3 (dk_at dksX9_writeAll_0 15 rfl rfl)
theorem dX9_writeAll_16 : decode cX9_writeAll 16 = .ok (.putfield 272, 3) := dk_181 1 16 (dk_at dksX9_writeAll_0 16 rfl rfl)
theorem dX9_writeAll_19 : decode cX9_writeAll 19 = .ok (.aload_n 0, 1) := dk_42 (dk_at dksX9_writeAll_0 19 rfl rfl)
theorem dX9_writeAll_20 : decode cX9_writeAll 20 = .ok (.iload 6, 2) := dk_21 6 (dk_at dksX9_writeAll_0 20 rfl rfl)
theorem dX9_writeAll_22 : decode cX9_writeAll 22 = .ok (.putfield 328, 3) := dk_181 1 72 (dk_at dksX9_writeAll_1 0 rfl rfl)
theorem dX9_writeAll_25 : decode cX9_writeAll 25 = .ok (.iconst 0, 1) := dk_3 (dk_at dksX9_writeAll_1 3 rfl rfl)
theorem dX9_writeAll_26 : decode cX9_writeAll 26 = .ok (.istore 7, 2) := dk_54 7 (dk_at dksX9_writeAll_1 4 rfl rfl)
theorem dX9_writeAll_28 : decode cX9_writeAll 28 = .ok (.iload 7, 2) := dk_21 7 (dk_at dksX9_writeAll_1 6 rfl rfl)
theorem dX9_writeAll_30 : decode cX9_writeAll 30 = .ok (.iload 4, 2) := dk_21 4 (dk_at dksX9_writeAll_1 8 rfl rfl)
theorem dX9_writeAll_32 : decode cX9_writeAll 32 = .ok (.if_icmp .ge 156, 3) := dk_162 0 156 (dk_at dksX9_writeAll_1 10 rfl rfl)
theorem dX9_writeAll_35 : decode cX9_writeAll 35 = .ok (.aload_n 3, 1) := dk_45 (dk_at dksX9_writeAll_1 13 rfl rfl)
theorem dX9_writeAll_36 : decode cX9_writeAll 36 = .ok (.iload 7, 2) := dk_21 7 (dk_at dksX9_writeAll_1 14 rfl rfl)
theorem dX9_writeAll_38 : decode cX9_writeAll 38 = .ok (.iaload, 1) := dk_46 (dk_at dksX9_writeAll_1 16 rfl rfl)
theorem dX9_writeAll_39 : decode cX9_writeAll 39 = .ok (.istore 8, 2) := dk_54 8 (dk_at dksX9_writeAll_1 17 rfl rfl)
theorem dX9_writeAll_41 : decode cX9_writeAll 41 = .ok (.iload 8, 2) := dk_21 8 (dk_at dksX9_writeAll_1 19 rfl rfl)
theorem dX9_writeAll_43 : decode cX9_writeAll 43 = .ok (.invokestatic 304, 3) := dk_184 1 48 (dk_at dksX9_writeAll_1 21 rfl rfl)
theorem dX9_writeAll_46 : decode cX9_writeAll 46 = .ok (.ifCond .eq 28, 3) := dk_153 0 28 (dk_at dksX9_writeAll_2 0 rfl rfl)
theorem dX9_writeAll_49 : decode cX9_writeAll 49 = .ok (.iload 7, 2) := dk_21 7 (dk_at dksX9_writeAll_2 3 rfl rfl)
theorem dX9_writeAll_51 : decode cX9_writeAll 51 = .ok (.iconst 1, 1) := dk_4 (dk_at dksX9_writeAll_2 5 rfl rfl)
theorem dX9_writeAll_52 : decode cX9_writeAll 52 = .ok (.iadd, 1) := dk_96 (dk_at dksX9_writeAll_2 6 rfl rfl)
theorem dX9_writeAll_53 : decode cX9_writeAll 53 = .ok (.iload 4, 2) := dk_21 4 (dk_at dksX9_writeAll_2 7 rfl rfl)
theorem dX9_writeAll_55 : decode cX9_writeAll 55 = .ok (.if_icmp .ge 19, 3) := dk_162 0 19 (dk_at dksX9_writeAll_2 9 rfl rfl)
theorem dX9_writeAll_58 : decode cX9_writeAll 58 = .ok (.aload_n 3, 1) := dk_45 (dk_at dksX9_writeAll_2 12 rfl rfl)
theorem dX9_writeAll_59 : decode cX9_writeAll 59 = .ok (.iload 7, 2) := dk_21 7 (dk_at dksX9_writeAll_2 13 rfl rfl)
theorem dX9_writeAll_61 : decode cX9_writeAll 61 = .ok (.iconst 1, 1) := dk_4 (dk_at dksX9_writeAll_2 15 rfl rfl)
theorem dX9_writeAll_62 : decode cX9_writeAll 62 = .ok (.iadd, 1) := dk_96 (dk_at dksX9_writeAll_2 16 rfl rfl)
theorem dX9_writeAll_63 : decode cX9_writeAll 63 = .ok (.iaload, 1) := dk_46 (dk_at dksX9_writeAll_2 17 rfl rfl)
theorem dX9_writeAll_64 : decode cX9_writeAll 64 = .ok (.invokestatic 301, 3) := dk_184 1 45 (dk_at dksX9_writeAll_2 18 rfl rfl)
theorem dX9_writeAll_67 : decode cX9_writeAll 67 = .ok (.ifCond .eq 7, 3) := dk_153 0 7 (dk_at dksX9_writeAll_2 21 rfl rfl)
theorem dX9_writeAll_70 : decode cX9_writeAll 70 = .ok (.iconst 1, 1) := dk_4 (dk_at dksX9_writeAll_3 0 rfl rfl)
theorem dX9_writeAll_71 : decode cX9_writeAll 71 = .ok (.goto 4, 3) := dk_167 0 4 (dk_at dksX9_writeAll_3 1 rfl rfl)
theorem dX9_writeAll_74 : decode cX9_writeAll 74 = .ok (.iconst 0, 1) := dk_3 (dk_at dksX9_writeAll_3 4 rfl rfl)
theorem dX9_writeAll_75 : decode cX9_writeAll 75 = .ok (.istore 9, 2) := dk_54 9 (dk_at dksX9_writeAll_3 5 rfl rfl)
theorem dX9_writeAll_77 : decode cX9_writeAll 77 = .ok (.iload 9, 2) := dk_21 9 (dk_at dksX9_writeAll_3 7 rfl rfl)
theorem dX9_writeAll_79 : decode cX9_writeAll 79 = .ok (.ifCond .eq 33, 3) := dk_153 0 33 (dk_at dksX9_writeAll_3 9 rfl rfl)
theorem dX9_writeAll_82 : decode cX9_writeAll 82 = .ok (.aload_n 0, 1) := dk_42 (dk_at dksX9_writeAll_3 12 rfl rfl)
theorem dX9_writeAll_83 : decode cX9_writeAll 83 = .ok (.iload_n 1, 1) := dk_27 (dk_at dksX9_writeAll_3 13 rfl rfl)
theorem dX9_writeAll_84 : decode cX9_writeAll 84 = .ok (.iload_n 2, 1) := dk_28 (dk_at dksX9_writeAll_3 14 rfl rfl)
theorem dX9_writeAll_85 : decode cX9_writeAll 85 = .ok (.ldc 236, 2) := dk_18 236 (dk_at dksX9_writeAll_3 15 rfl rfl)
theorem dX9_writeAll_87 : decode cX9_writeAll 87 = .ok (.iload 8, 2) := dk_21 8 (dk_at dksX9_writeAll_3 17 rfl rfl)
theorem dX9_writeAll_89 : decode cX9_writeAll 89 = .ok (.ldc 154, 2) := dk_18 154 (dk_at dksX9_writeAll_3 19 rfl rfl)
theorem dX9_writeAll_91 : decode cX9_writeAll 91 = .ok (.isub, 1) := dk_100 (dk_at dksX9_writeAll_3 21 rfl rfl)
theorem dX9_writeAll_92 : decode cX9_writeAll 92 = .ok (.bipush 10, 2) := dk_16 10 (dk_at dksX9_writeAll_3 22 rfl rfl)
theorem dX9_writeAll_94 : decode cX9_writeAll 94 = .ok (.ishl, 1) := dk_120 (dk_at dksX9_writeAll_4 0 rfl rfl)
theorem dX9_writeAll_95 : decode cX9_writeAll 95 = .ok (.iadd, 1) := dk_96 (dk_at dksX9_writeAll_4 1 rfl rfl)
theorem dX9_writeAll_96 : decode cX9_writeAll 96 = .ok (.aload_n 3, 1) := dk_45 (dk_at dksX9_writeAll_4 2 rfl rfl)
theorem dX9_writeAll_97 : decode cX9_writeAll 97 = .ok (.iload 7, 2) := dk_21 7 (dk_at dksX9_writeAll_4 3 rfl rfl)
theorem dX9_writeAll_99 : decode cX9_writeAll 99 = .ok (.iconst 1, 1) := dk_4 (dk_at dksX9_writeAll_4 5 rfl rfl)
theorem dX9_writeAll_100 : decode cX9_writeAll 100 = .ok (.iadd, 1) := dk_96 (dk_at dksX9_writeAll_4 6 rfl rfl)
theorem dX9_writeAll_101 : decode cX9_writeAll 101 = .ok (.iaload, 1) := dk_46 (dk_at dksX9_writeAll_4 7 rfl rfl)
theorem dX9_writeAll_102 : decode cX9_writeAll 102 = .ok (.iadd, 1) := dk_96 (dk_at dksX9_writeAll_4 8 rfl rfl)
theorem dX9_writeAll_103 : decode cX9_writeAll 103 = .ok (.ldc 160, 2) := dk_18 160 (dk_at dksX9_writeAll_4 9 rfl rfl)
theorem dX9_writeAll_105 : decode cX9_writeAll 105 = .ok (.isub, 1) := dk_100 (dk_at dksX9_writeAll_4 11 rfl rfl)
theorem dX9_writeAll_106 : decode cX9_writeAll 106 = .ok (.invokevirtual 361, 3) := dk_182 1 105 (dk_at dksX9_writeAll_4 12 rfl rfl)
theorem dX9_writeAll_109 : decode cX9_writeAll 109 = .ok (.goto 38, 3) := dk_167 0 38 (dk_at dksX9_writeAll_4 15 rfl rfl)
theorem dX9_writeAll_112 : decode cX9_writeAll 112 = .ok (.iload 8, 2) := dk_21 8 (dk_at dksX9_writeAll_4 18 rfl rfl)
theorem dX9_writeAll_114 : decode cX9_writeAll 114 = .ok (.invokestatic 304, 3) := dk_184 1 48 (dk_at dksX9_writeAll_4 20 rfl rfl)
theorem dX9_writeAll_117 : decode cX9_writeAll 117 = .ok (.ifCond .ne 11, 3) := dk_154 0 11 (dk_at dksX9_writeAll_5 0 rfl rfl)
theorem dX9_writeAll_120 : decode cX9_writeAll 120 = .ok (.iload 8, 2) := dk_21 8 (dk_at dksX9_writeAll_5 3 rfl rfl)
theorem dX9_writeAll_122 : decode cX9_writeAll 122 = .ok (.invokestatic 301, 3) := dk_184 1 45 (dk_at dksX9_writeAll_5 5 rfl rfl)
theorem dX9_writeAll_125 : decode cX9_writeAll 125 = .ok (.ifCond .eq 14, 3) := dk_153 0 14 (dk_at dksX9_writeAll_5 8 rfl rfl)
theorem dX9_writeAll_128 : decode cX9_writeAll 128 = .ok (.aload_n 0, 1) := dk_42 (dk_at dksX9_writeAll_5 11 rfl rfl)
theorem dX9_writeAll_129 : decode cX9_writeAll 129 = .ok (.iload_n 1, 1) := dk_27 (dk_at dksX9_writeAll_5 12 rfl rfl)
theorem dX9_writeAll_130 : decode cX9_writeAll 130 = .ok (.iload_n 2, 1) := dk_28 (dk_at dksX9_writeAll_5 13 rfl rfl)
theorem dX9_writeAll_131 : decode cX9_writeAll 131 = .ok (.iload 8, 2) := dk_21 8 (dk_at dksX9_writeAll_5 14 rfl rfl)
theorem dX9_writeAll_133 : decode cX9_writeAll 133 = .ok (.invokevirtual 364, 3) := dk_182 1 108 (dk_at dksX9_writeAll_5 16 rfl rfl)
theorem dX9_writeAll_136 : decode cX9_writeAll 136 = .ok (.goto 11, 3) := dk_167 0 11 (dk_at dksX9_writeAll_5 19 rfl rfl)
theorem dX9_writeAll_139 : decode cX9_writeAll 139 = .ok (.aload_n 0, 1) := dk_42 (dk_at dksX9_writeAll_5 22 rfl rfl)
theorem dX9_writeAll_140 : decode cX9_writeAll 140 = .ok (.iload_n 1, 1) := dk_27 (dk_at dksX9_writeAll_5 23 rfl rfl)
theorem dX9_writeAll_141 : decode cX9_writeAll 141 = .ok (.iload_n 2, 1) := dk_28 (dk_at dksX9_writeAll_6 0 rfl rfl)
theorem dX9_writeAll_142 : decode cX9_writeAll 142 = .ok (.iload 8, 2) := dk_21 8 (dk_at dksX9_writeAll_6 1 rfl rfl)
theorem dX9_writeAll_144 : decode cX9_writeAll 144 = .ok (.invokevirtual 361, 3) := dk_182 1 105 (dk_at dksX9_writeAll_6 3 rfl rfl)
theorem dX9_writeAll_147 : decode cX9_writeAll 147 = .ok (.istore 10, 2) := dk_54 10 (dk_at dksX9_writeAll_6 6 rfl rfl)
theorem dX9_writeAll_149 : decode cX9_writeAll 149 = .ok (.iload 10, 2) := dk_21 10 (dk_at dksX9_writeAll_6 8 rfl rfl)
theorem dX9_writeAll_151 : decode cX9_writeAll 151 = .ok (.bipush (-10), 2) := dk_16 246 (dk_at dksX9_writeAll_6 10 rfl rfl)
theorem dX9_writeAll_153 : decode cX9_writeAll 153 = .ok (.if_icmp .ne 9, 3) := dk_160 0 9 (dk_at dksX9_writeAll_6 12 rfl rfl)
theorem dX9_writeAll_156 : decode cX9_writeAll 156 = .ok (.aload_n 0, 1) := dk_42 (dk_at dksX9_writeAll_6 15 rfl rfl)
theorem dX9_writeAll_157 : decode cX9_writeAll 157 = .ok (.iload 7, 2) := dk_21 7 (dk_at dksX9_writeAll_6 16 rfl rfl)
theorem dX9_writeAll_159 : decode cX9_writeAll 159 = .ok (.putfield 321, 3) := dk_181 1 65 (dk_at dksX9_writeAll_6 18 rfl rfl)
theorem dX9_writeAll_162 : decode cX9_writeAll 162 = .ok (.iload 10, 2) := dk_21 10 (dk_at dksX9_writeAll_6 21 rfl rfl)
theorem dX9_writeAll_164 : decode cX9_writeAll 164 = .ok (.ifCond .eq 6, 3) := dk_153 0 6 (dk_at dksX9_writeAll_7 0 rfl rfl)
theorem dX9_writeAll_167 : decode cX9_writeAll 167 = .ok (.iload 10, 2) := dk_21 10 (dk_at dksX9_writeAll_7 3 rfl rfl)
theorem dX9_writeAll_169 : decode cX9_writeAll 169 = .ok (.ireturn, 1) := dk_172 (dk_at dksX9_writeAll_7 5 rfl rfl)
theorem dX9_writeAll_170 : decode cX9_writeAll 170 = .ok (.iload 7, 2) := dk_21 7 (dk_at dksX9_writeAll_7 6 rfl rfl)
theorem dX9_writeAll_172 : decode cX9_writeAll 172 = .ok (.iload 9, 2) := dk_21 9 (dk_at dksX9_writeAll_7 8 rfl rfl)
theorem dX9_writeAll_174 : decode cX9_writeAll 174 = .ok (.ifCond .eq 7, 3) := dk_153 0 7 (dk_at dksX9_writeAll_7 10 rfl rfl)
theorem dX9_writeAll_177 : decode cX9_writeAll 177 = .ok (.iconst 2, 1) := dk_5 (dk_at dksX9_writeAll_7 13 rfl rfl)
theorem dX9_writeAll_178 : decode cX9_writeAll 178 = .ok (.goto 4, 3) := dk_167 0 4 (dk_at dksX9_writeAll_7 14 rfl rfl)
theorem dX9_writeAll_181 : decode cX9_writeAll 181 = .ok (.iconst 1, 1) := dk_4 (dk_at dksX9_writeAll_7 17 rfl rfl)
theorem dX9_writeAll_182 : decode cX9_writeAll 182 = .ok (.iadd, 1) := dk_96 (dk_at dksX9_writeAll_7 18 rfl rfl)
theorem dX9_writeAll_183 : decode cX9_writeAll 183 = .ok (.istore 7, 2) := dk_54 7 (dk_at dksX9_writeAll_7 19 rfl rfl)
theorem dX9_writeAll_185 : decode cX9_writeAll 185 = .ok (.goto (-157), 3) := dk_167 255 99 (dk_at dksX9_writeAll_7 21 rfl rfl)
theorem dX9_writeAll_188 : decode cX9_writeAll 188 = .ok (.aload_n 0, 1) := dk_42 (dk_at dksX9_writeAll_8 0 rfl rfl)
theorem dX9_writeAll_189 : decode cX9_writeAll 189 = .ok (.iload_n 1, 1) := dk_27 (dk_at dksX9_writeAll_8 1 rfl rfl)
theorem dX9_writeAll_190 : decode cX9_writeAll 190 = .ok (.invokevirtual 367, 3) := dk_182 1 111 (dk_at dksX9_writeAll_8 2 rfl rfl)
theorem dX9_writeAll_193 : decode cX9_writeAll 193 = .ok (.istore 8, 2) := dk_54 8 (dk_at dksX9_writeAll_8 5 rfl rfl)
theorem dX9_writeAll_195 : decode cX9_writeAll 195 = .ok (.iload 8, 2) := dk_21 8 (dk_at dksX9_writeAll_8 7 rfl rfl)
theorem dX9_writeAll_197 : decode cX9_writeAll 197 = .ok (.ifCond .eq 8, 3) := dk_153 0 8 (dk_at dksX9_writeAll_8 9 rfl rfl)
theorem dX9_writeAll_200 : decode cX9_writeAll 200 = .ok (.iload 8, 2) := dk_21 8 (dk_at dksX9_writeAll_8 12 rfl rfl)
theorem dX9_writeAll_202 : decode cX9_writeAll 202 = .ok (.goto 7, 3) := dk_167 0 7 (dk_at dksX9_writeAll_8 14 rfl rfl)
theorem dX9_writeAll_205 : decode cX9_writeAll 205 = .ok (.aload_n 0, 1) := dk_42 (dk_at dksX9_writeAll_8 17 rfl rfl)
theorem dX9_writeAll_206 : decode cX9_writeAll 206 = .ok (.getfield 272, 3) := dk_180 1 16 (dk_at dksX9_writeAll_8 18 rfl rfl)
theorem dX9_writeAll_209 : decode cX9_writeAll 209 = .ok (.ireturn, 1) := dk_172 (dk_at dksX9_writeAll_8 21 rfl rfl)
abbrev cX9_writePoint : ByteArray := prog_17_method_52_code
def yX9_writePoint : MethodName := ⟨RX9, "writePoint", "(III)I"⟩
def dkwX9_writePoint_3 : List UInt8 := [182, 1, 98, 167, 0, 5, 16, 246, 172]
abbrev dktX9_writePoint_3 : List UInt8 := dkwX9_writePoint_3 ++ []
def dkwX9_writePoint_2 : List UInt8 := [160, 0, 5, 3, 172, 28, 7, 160, 0, 21, 42, 27, 29, 182, 1, 95, 153, 0, 12, 42, 27, 29]
abbrev dktX9_writePoint_2 : List UInt8 := dkwX9_writePoint_2 ++ dktX9_writePoint_3
def dkwX9_writePoint_1 : List UInt8 := [180, 0, 60, 4, 46, 182, 0, 252, 153, 0, 11, 42, 27, 182, 1, 92, 167, 0, 4, 3, 172, 28, 5]
abbrev dktX9_writePoint_1 : List UInt8 := dkwX9_writePoint_1 ++ dktX9_writePoint_2
def dkwX9_writePoint_0 : List UInt8 := [42, 27, 29, 182, 0, 252, 153, 0, 9, 42, 27, 182, 1, 92, 172, 28, 4, 160, 0, 27, 42, 27, 42]
abbrev dktX9_writePoint_0 : List UInt8 := dkwX9_writePoint_0 ++ dktX9_writePoint_1
theorem dksX9_writePoint_0 : cX9_writePoint.data.toList.drop 0 = dktX9_writePoint_0 := by decide +kernel
theorem dksX9_writePoint_1 : cX9_writePoint.data.toList.drop 23 = dktX9_writePoint_1 := dk_seg dksX9_writePoint_0 23 rfl rfl
theorem dksX9_writePoint_2 : cX9_writePoint.data.toList.drop 46 = dktX9_writePoint_2 := dk_seg dksX9_writePoint_1 23 rfl rfl
theorem dksX9_writePoint_3 : cX9_writePoint.data.toList.drop 68 = dktX9_writePoint_3 := dk_seg dksX9_writePoint_2 22 rfl rfl
theorem dX9_writePoint_0 : decode cX9_writePoint 0 = .ok (.aload_n 0, 1) := dk_42 (dk_at dksX9_writePoint_0 0 rfl rfl)
theorem dX9_writePoint_1 : decode cX9_writePoint 1 = .ok (.iload_n 1, 1) := dk_27 (dk_at dksX9_writePoint_0 1 rfl rfl)
theorem dX9_writePoint_2 : decode cX9_writePoint 2 = .ok (.iload_n 3, 1) := dk_29 (dk_at dksX9_writePoint_0 2 rfl rfl)
theorem dX9_writePoint_3 : decode cX9_writePoint 3 = .ok (.invokevirtual 252, 3) := dk_182 0 252 (dk_at dksX9_writePoint_0 3 rfl rfl)
theorem dX9_writePoint_6 : decode cX9_writePoint 6 = .ok (.ifCond .eq 9, 3) := dk_153 0 9 (dk_at dksX9_writePoint_0 6 rfl rfl)
theorem dX9_writePoint_9 : decode cX9_writePoint 9 = .ok (.aload_n 0, 1) := dk_42 (dk_at dksX9_writePoint_0 9 rfl rfl)
theorem dX9_writePoint_10 : decode cX9_writePoint 10 = .ok (.iload_n 1, 1) := dk_27 (dk_at dksX9_writePoint_0 10 rfl rfl)
theorem dX9_writePoint_11 : decode cX9_writePoint 11 = .ok (.invokevirtual 348, 3) := dk_182 1 92 (dk_at dksX9_writePoint_0 11 rfl rfl)
theorem dX9_writePoint_14 : decode cX9_writePoint 14 = .ok (.ireturn, 1) := dk_172 (dk_at dksX9_writePoint_0 14 rfl rfl)
theorem dX9_writePoint_15 : decode cX9_writePoint 15 = .ok (.iload_n 2, 1) := dk_28 (dk_at dksX9_writePoint_0 15 rfl rfl)
theorem dX9_writePoint_16 : decode cX9_writePoint 16 = .ok (.iconst 1, 1) := dk_4 (dk_at dksX9_writePoint_0 16 rfl rfl)
theorem dX9_writePoint_17 : decode cX9_writePoint 17 = .ok (.if_icmp .ne 27, 3) := dk_160 0 27 (dk_at dksX9_writePoint_0 17 rfl rfl)
theorem dX9_writePoint_20 : decode cX9_writePoint 20 = .ok (.aload_n 0, 1) := dk_42 (dk_at dksX9_writePoint_0 20 rfl rfl)
theorem dX9_writePoint_21 : decode cX9_writePoint 21 = .ok (.iload_n 1, 1) := dk_27 (dk_at dksX9_writePoint_0 21 rfl rfl)
theorem dX9_writePoint_22 : decode cX9_writePoint 22 = .ok (.aload_n 0, 1) := dk_42 (dk_at dksX9_writePoint_0 22 rfl rfl)
theorem dX9_writePoint_23 : decode cX9_writePoint 23 = .ok (.getfield 60, 3) := dk_180 0 60 (dk_at dksX9_writePoint_1 0 rfl rfl)
theorem dX9_writePoint_26 : decode cX9_writePoint 26 = .ok (.iconst 1, 1) := dk_4 (dk_at dksX9_writePoint_1 3 rfl rfl)
theorem dX9_writePoint_27 : decode cX9_writePoint 27 = .ok (.iaload, 1) := dk_46 (dk_at dksX9_writePoint_1 4 rfl rfl)
theorem dX9_writePoint_28 : decode cX9_writePoint 28 = .ok (.invokevirtual 252, 3) := dk_182 0 252 (dk_at dksX9_writePoint_1 5 rfl rfl)
theorem dX9_writePoint_31 : decode cX9_writePoint 31 = .ok (.ifCond .eq 11, 3) := dk_153 0 11 (dk_at dksX9_writePoint_1 8 rfl rfl)
theorem dX9_writePoint_34 : decode cX9_writePoint 34 = .ok (.aload_n 0, 1) := dk_42 (dk_at dksX9_writePoint_1 11 rfl rfl)
theorem dX9_writePoint_35 : decode cX9_writePoint 35 = .ok (.iload_n 1, 1) := dk_27 (dk_at dksX9_writePoint_1 12 rfl rfl)
theorem dX9_writePoint_36 : decode cX9_writePoint 36 = .ok (.invokevirtual 348, 3) := dk_182 1 92 (dk_at dksX9_writePoint_1 13 rfl rfl)
theorem dX9_writePoint_39 : decode cX9_writePoint 39 = .ok (.goto 4, 3) := dk_167 0 4 (dk_at dksX9_writePoint_1 16 rfl rfl)
theorem dX9_writePoint_42 : decode cX9_writePoint 42 = .ok (.iconst 0, 1) := dk_3 (dk_at dksX9_writePoint_1 19 rfl rfl)
theorem dX9_writePoint_43 : decode cX9_writePoint 43 = .ok (.ireturn, 1) := dk_172 (dk_at dksX9_writePoint_1 20 rfl rfl)
theorem dX9_writePoint_44 : decode cX9_writePoint 44 = .ok (.iload_n 2, 1) := dk_28 (dk_at dksX9_writePoint_1 21 rfl rfl)
theorem dX9_writePoint_45 : decode cX9_writePoint 45 = .ok (.iconst 2, 1) := dk_5 (dk_at dksX9_writePoint_1 22 rfl rfl)
theorem dX9_writePoint_46 : decode cX9_writePoint 46 = .ok (.if_icmp .ne 5, 3) := dk_160 0 5 (dk_at dksX9_writePoint_2 0 rfl rfl)
theorem dX9_writePoint_49 : decode cX9_writePoint 49 = .ok (.iconst 0, 1) := dk_3 (dk_at dksX9_writePoint_2 3 rfl rfl)
theorem dX9_writePoint_50 : decode cX9_writePoint 50 = .ok (.ireturn, 1) := dk_172 (dk_at dksX9_writePoint_2 4 rfl rfl)
theorem dX9_writePoint_51 : decode cX9_writePoint 51 = .ok (.iload_n 2, 1) := dk_28 (dk_at dksX9_writePoint_2 5 rfl rfl)
theorem dX9_writePoint_52 : decode cX9_writePoint 52 = .ok (.iconst 4, 1) := dk_7 (dk_at dksX9_writePoint_2 6 rfl rfl)
theorem dX9_writePoint_53 : decode cX9_writePoint 53 = .ok (.if_icmp .ne 21, 3) := dk_160 0 21 (dk_at dksX9_writePoint_2 7 rfl rfl)
theorem dX9_writePoint_56 : decode cX9_writePoint 56 = .ok (.aload_n 0, 1) := dk_42 (dk_at dksX9_writePoint_2 10 rfl rfl)
theorem dX9_writePoint_57 : decode cX9_writePoint 57 = .ok (.iload_n 1, 1) := dk_27 (dk_at dksX9_writePoint_2 11 rfl rfl)
theorem dX9_writePoint_58 : decode cX9_writePoint 58 = .ok (.iload_n 3, 1) := dk_29 (dk_at dksX9_writePoint_2 12 rfl rfl)
theorem dX9_writePoint_59 : decode cX9_writePoint 59 = .ok (.invokevirtual 351, 3) := dk_182 1 95 (dk_at dksX9_writePoint_2 13 rfl rfl)
theorem dX9_writePoint_62 : decode cX9_writePoint 62 = .ok (.ifCond .eq 12, 3) := dk_153 0 12 (dk_at dksX9_writePoint_2 16 rfl rfl)
theorem dX9_writePoint_65 : decode cX9_writePoint 65 = .ok (.aload_n 0, 1) := dk_42 (dk_at dksX9_writePoint_2 19 rfl rfl)
theorem dX9_writePoint_66 : decode cX9_writePoint 66 = .ok (.iload_n 1, 1) := dk_27 (dk_at dksX9_writePoint_2 20 rfl rfl)
theorem dX9_writePoint_67 : decode cX9_writePoint 67 = .ok (.iload_n 3, 1) := dk_29 (dk_at dksX9_writePoint_2 21 rfl rfl)
theorem dX9_writePoint_68 : decode cX9_writePoint 68 = .ok (.invokevirtual 354, 3) := dk_182 1 98 (dk_at dksX9_writePoint_3 0 rfl rfl)
theorem dX9_writePoint_71 : decode cX9_writePoint 71 = .ok (.goto 5, 3) := dk_167 0 5 (dk_at dksX9_writePoint_3 3 rfl rfl)
theorem dX9_writePoint_74 : decode cX9_writePoint 74 = .ok (.bipush (-10), 2) := dk_16 246 (dk_at dksX9_writePoint_3 6 rfl rfl)
theorem dX9_writePoint_76 : decode cX9_writePoint 76 = .ok (.ireturn, 1) := dk_172 (dk_at dksX9_writePoint_3 8 rfl rfl)
abbrev cX9_putPoint : ByteArray := prog_17_method_50_code
def yX9_putPoint : MethodName := ⟨RX9, "putPoint", "(I)I"⟩
def dkwX9_putPoint_2 : List UInt8 := [61, 132, 3, 1, 167, 255, 230, 28, 172]
abbrev dktX9_putPoint_2 : List UInt8 := dkwX9_putPoint_2 ++ []
def dkwX9_putPoint_1 : List UInt8 := [3, 62, 29, 42, 180, 0, 228, 162, 0, 24, 28, 154, 0, 20, 42, 42, 180, 0, 81, 29, 46, 182, 1, 82]
abbrev dktX9_putPoint_1 : List UInt8 := dkwX9_putPoint_1 ++ dktX9_putPoint_2
def dkwX9_putPoint_0 : List UInt8 := [42, 180, 0, 9, 27, 46, 154, 0, 16, 42, 27, 42, 180, 0, 233, 4, 182, 1, 85, 167, 0, 4, 3, 61]
abbrev dktX9_putPoint_0 : List UInt8 := dkwX9_putPoint_0 ++ dktX9_putPoint_1
theorem dksX9_putPoint_0 : cX9_putPoint.data.toList.drop 0 = dktX9_putPoint_0 := by decide +kernel
theorem dksX9_putPoint_1 : cX9_putPoint.data.toList.drop 24 = dktX9_putPoint_1 := dk_seg dksX9_putPoint_0 24 rfl rfl
theorem dksX9_putPoint_2 : cX9_putPoint.data.toList.drop 48 = dktX9_putPoint_2 := dk_seg dksX9_putPoint_1 24 rfl rfl
theorem dX9_putPoint_0 : decode cX9_putPoint 0 = .ok (.aload_n 0, 1) := dk_42 (dk_at dksX9_putPoint_0 0 rfl rfl)
theorem dX9_putPoint_1 : decode cX9_putPoint 1 = .ok (.getfield 9, 3) := dk_180 0 9 (dk_at dksX9_putPoint_0 1 rfl rfl)
theorem dX9_putPoint_4 : decode cX9_putPoint 4 = .ok (.iload_n 1, 1) := dk_27 (dk_at dksX9_putPoint_0 4 rfl rfl)
theorem dX9_putPoint_5 : decode cX9_putPoint 5 = .ok (.iaload, 1) := dk_46 (dk_at dksX9_putPoint_0 5 rfl rfl)
theorem dX9_putPoint_6 : decode cX9_putPoint 6 = .ok (.ifCond .ne 16, 3) := dk_154 0 16 (dk_at dksX9_putPoint_0 6 rfl rfl)
theorem dX9_putPoint_9 : decode cX9_putPoint 9 = .ok (.aload_n 0, 1) := dk_42 (dk_at dksX9_putPoint_0 9 rfl rfl)
theorem dX9_putPoint_10 : decode cX9_putPoint 10 = .ok (.iload_n 1, 1) := dk_27 (dk_at dksX9_putPoint_0 10 rfl rfl)
theorem dX9_putPoint_11 : decode cX9_putPoint 11 = .ok (.aload_n 0, 1) := dk_42 (dk_at dksX9_putPoint_0 11 rfl rfl)
theorem dX9_putPoint_12 : decode cX9_putPoint 12 = .ok (.getfield 233, 3) := dk_180 0 233 (dk_at dksX9_putPoint_0 12 rfl rfl)
theorem dX9_putPoint_15 : decode cX9_putPoint 15 = .ok (.iconst 1, 1) := dk_4 (dk_at dksX9_putPoint_0 15 rfl rfl)
theorem dX9_putPoint_16 : decode cX9_putPoint 16 = .ok (.invokevirtual 341, 3) := dk_182 1 85 (dk_at dksX9_putPoint_0 16 rfl rfl)
theorem dX9_putPoint_19 : decode cX9_putPoint 19 = .ok (.goto 4, 3) := dk_167 0 4 (dk_at dksX9_putPoint_0 19 rfl rfl)
theorem dX9_putPoint_22 : decode cX9_putPoint 22 = .ok (.iconst 0, 1) := dk_3 (dk_at dksX9_putPoint_0 22 rfl rfl)
theorem dX9_putPoint_23 : decode cX9_putPoint 23 = .ok (.istore_n 2, 1) := dk_61 (dk_at dksX9_putPoint_0 23 rfl rfl)
theorem dX9_putPoint_24 : decode cX9_putPoint 24 = .ok (.iconst 0, 1) := dk_3 (dk_at dksX9_putPoint_1 0 rfl rfl)
theorem dX9_putPoint_25 : decode cX9_putPoint 25 = .ok (.istore_n 3, 1) := dk_62 (dk_at dksX9_putPoint_1 1 rfl rfl)
theorem dX9_putPoint_26 : decode cX9_putPoint 26 = .ok (.iload_n 3, 1) := dk_29 (dk_at dksX9_putPoint_1 2 rfl rfl)
theorem dX9_putPoint_27 : decode cX9_putPoint 27 = .ok (.aload_n 0, 1) := dk_42 (dk_at dksX9_putPoint_1 3 rfl rfl)
theorem dX9_putPoint_28 : decode cX9_putPoint 28 = .ok (.getfield 228, 3) := dk_180 0 228 (dk_at dksX9_putPoint_1 4 rfl rfl)
theorem dX9_putPoint_31 : decode cX9_putPoint 31 = .ok (.if_icmp .ge 24, 3) := dk_162 0 24 (dk_at dksX9_putPoint_1 7 rfl rfl)
theorem dX9_putPoint_34 : decode cX9_putPoint 34 = .ok (.iload_n 2, 1) := dk_28 (dk_at dksX9_putPoint_1 10 rfl rfl)
theorem dX9_putPoint_35 : decode cX9_putPoint 35 = .ok (.ifCond .ne 20, 3) := dk_154 0 20 (dk_at dksX9_putPoint_1 11 rfl rfl)
theorem dX9_putPoint_38 : decode cX9_putPoint 38 = .ok (.aload_n 0, 1) := dk_42 (dk_at dksX9_putPoint_1 14 rfl rfl)
theorem dX9_putPoint_39 : decode cX9_putPoint 39 = .ok (.aload_n 0, 1) := dk_42 (dk_at dksX9_putPoint_1 15 rfl rfl)
theorem dX9_putPoint_40 : decode cX9_putPoint 40 = .ok (.getfield 81, 3) := dk_180 0 81 (dk_at dksX9_putPoint_1 16 rfl rfl)
theorem dX9_putPoint_43 : decode cX9_putPoint 43 = .ok (.iload_n 3, 1) := dk_29 (dk_at dksX9_putPoint_1 19 rfl rfl)
theorem dX9_putPoint_44 : decode cX9_putPoint 44 = .ok (.iaload, 1) := dk_46 (dk_at dksX9_putPoint_1 20 rfl rfl)
theorem dX9_putPoint_45 : decode cX9_putPoint 45 = .ok (.invokevirtual 338, 3) := dk_182 1 82 (dk_at dksX9_putPoint_1 21 rfl rfl)
theorem dX9_putPoint_48 : decode cX9_putPoint 48 = .ok (.istore_n 2, 1) := dk_61 (dk_at dksX9_putPoint_2 0 rfl rfl)
theorem dX9_putPoint_49 : decode cX9_putPoint 49 = .ok (.iinc 3 1, 3) := dk_132 3 1 (dk_at dksX9_putPoint_2 1 rfl rfl)
theorem dX9_putPoint_52 : decode cX9_putPoint 52 = .ok (.goto (-26), 3) := dk_167 255 230 (dk_at dksX9_putPoint_2 4 rfl rfl)
theorem dX9_putPoint_55 : decode cX9_putPoint 55 = .ok (.iload_n 2, 1) := dk_28 (dk_at dksX9_putPoint_2 7 rfl rfl)
theorem dX9_putPoint_56 : decode cX9_putPoint 56 = .ok (.ireturn, 1) := dk_172 (dk_at dksX9_putPoint_2 8 rfl rfl)
abbrev cX9_go : ByteArray := prog_17_method_49_code
def yX9_go : MethodName := ⟨RX9, "go", "(IIZ)I"⟩
def dkwX9_go_5 : List UInt8 := [167, 255, 191, 3, 172]
abbrev dktX9_go_5 : List UInt8 := dkwX9_go_5 ++ []
def dkwX9_go_4 : List UInt8 := [46, 51, 153, 0, 19, 42, 42, 180, 0, 44, 42, 180, 0, 93, 21, 4, 46, 46, 181, 1, 33, 132, 4, 255]
abbrev dktX9_go_4 : List UInt8 := dkwX9_go_4 ++ dktX9_go_5
def dkwX9_go_3 : List UInt8 := [46, 182, 1, 82, 54, 5, 21, 5, 153, 0, 6, 21, 5, 172, 42, 180, 0, 47, 42, 180, 0, 93, 21, 4]
abbrev dktX9_go_3 : List UInt8 := dkwX9_go_3 ++ dktX9_go_4
def dkwX9_go_2 : List UInt8 := [180, 1, 79, 4, 100, 54, 4, 21, 4, 155, 0, 66, 42, 42, 180, 0, 41, 42, 180, 0, 93, 21, 4, 46]
abbrev dktX9_go_2 : List UInt8 := dkwX9_go_2 ++ dktX9_go_3
def dkwX9_go_1 : List UInt8 := [180, 1, 79, 29, 182, 1, 68, 154, 0, 16, 42, 89, 180, 1, 79, 4, 96, 181, 1, 79, 167, 255, 219, 42]
abbrev dktX9_go_1 : List UInt8 := dkwX9_go_1 ++ dktX9_go_2
def dkwX9_go_0 : List UInt8 := [42, 3, 181, 1, 79, 42, 180, 1, 79, 16, 7, 162, 0, 34, 42, 27, 42, 180, 1, 33, 28, 42]
abbrev dktX9_go_0 : List UInt8 := dkwX9_go_0 ++ dktX9_go_1
theorem dksX9_go_0 : cX9_go.data.toList.drop 0 = dktX9_go_0 := by decide +kernel
theorem dksX9_go_1 : cX9_go.data.toList.drop 22 = dktX9_go_1 := dk_seg dksX9_go_0 22 rfl rfl
theorem dksX9_go_2 : cX9_go.data.toList.drop 46 = dktX9_go_2 := dk_seg dksX9_go_1 24 rfl rfl
theorem dksX9_go_3 : cX9_go.data.toList.drop 70 = dktX9_go_3 := dk_seg dksX9_go_2 24 rfl rfl
theorem dksX9_go_4 : cX9_go.data.toList.drop 94 = dktX9_go_4 := dk_seg dksX9_go_3 24 rfl rfl
theorem dksX9_go_5 : cX9_go.data.toList.drop 118 = dktX9_go_5 := dk_seg dksX9_go_4 24 rfl rfl
theorem dX9_go_0 : decode cX9_go 0 = .ok (.aload_n 0, 1) := dk_42 (dk_at dksX9_go_0 0 rfl rfl)
theorem dX9_go_1 : decode cX9_go 1 = .ok (.iconst 0, 1) := dk_3 (dk_at dksX9_go_0 1 rfl rfl)
theorem dX9_go_2 : decode cX9_go 2 = .ok (.putfield 335, 3) := dk_181 1 79 (dk_at dksX9_go_0 2 rfl rfl)
theorem dX9_go_5 : decode cX9_go 5 = .ok (.aload_n 0, 1) := dk_42 (dk_at dksX9_go_0 5 rfl rfl)
theorem dX9_go_6 : decode cX9_go 6 = .ok (.getfield 335, 3) := dk_180 1 79 (dk_at dksX9_go_0 6 rfl rfl)
theorem dX9_go_9 : decode cX9_go 9 = .ok (.bipush 7, 2) := dk_16 7 (dk_at dksX9_go_0 9 rfl rfl)
theorem dX9_go_11 : decode cX9_go 11 = .ok (.if_icmp .ge 34, 3) := dk_162 0 34 (dk_at dksX9_go_0 11 rfl rfl)
theorem dX9_go_14 : decode cX9_go 14 = .ok (.aload_n 0, 1) := dk_42 (dk_at dksX9_go_0 14 rfl rfl)
theorem dX9_go_15 : decode cX9_go 15 = .ok (.iload_n 1, 1) := dk_27 (dk_at dksX9_go_0 15 rfl rfl)
theorem dX9_go_16 : decode cX9_go 16 = .ok (.aload_n 0, 1) := dk_42 (dk_at dksX9_go_0 16 rfl rfl)
theorem dX9_go_17 : decode cX9_go 17 = .ok (.getfield 289, 3) := dk_180 1 33 (dk_at dksX9_go_0 17 rfl rfl)
theorem dX9_go_20 : decode cX9_go 20 = .ok (.iload_n 2, 1) := dk_28 (dk_at dksX9_go_0 20 rfl rfl)
theorem dX9_go_21 : decode cX9_go 21 = .ok (.aload_n 0, 1) := dk_42 (dk_at dksX9_go_0 21 rfl rfl)
theorem dX9_go_22 : decode cX9_go 22 = .ok (.getfield 335, 3) := dk_180 1 79 (dk_at dksX9_go_1 0 rfl rfl)
theorem dX9_go_25 : decode cX9_go 25 = .ok (.iload_n 3, 1) := dk_29 (dk_at dksX9_go_1 3 rfl rfl)
theorem dX9_go_26 : decode cX9_go 26 = .ok (.invokevirtual 324, 3) := dk_182 1 68 (dk_at dksX9_go_1 4 rfl rfl)
theorem dX9_go_29 : decode cX9_go 29 = .ok (.ifCond .ne 16, 3) := dk_154 0 16 (dk_at dksX9_go_1 7 rfl rfl)
theorem dX9_go_32 : decode cX9_go 32 = .ok (.aload_n 0, 1) := dk_42 (dk_at dksX9_go_1 10 rfl rfl)
theorem dX9_go_33 : decode cX9_go 33 = .ok (.dup, 1) := dk_89 (dk_at dksX9_go_1 11 rfl rfl)
theorem dX9_go_34 : decode cX9_go 34 = .ok (.getfield 335, 3) := dk_180 1 79 (dk_at dksX9_go_1 12 rfl rfl)
theorem dX9_go_37 : decode cX9_go 37 = .ok (.iconst 1, 1) := dk_4 (dk_at dksX9_go_1 15 rfl rfl)
theorem dX9_go_38 : decode cX9_go 38 = .ok (.iadd, 1) := dk_96 (dk_at dksX9_go_1 16 rfl rfl)
theorem dX9_go_39 : decode cX9_go 39 = .ok (.putfield 335, 3) := dk_181 1 79 (dk_at dksX9_go_1 17 rfl rfl)
theorem dX9_go_42 : decode cX9_go 42 = .ok (.goto (-37), 3) := dk_167 255 219 (dk_at dksX9_go_1 20 rfl rfl)
theorem dX9_go_45 : decode cX9_go 45 = .ok (.aload_n 0, 1) := dk_42 (dk_at dksX9_go_1 23 rfl rfl)
theorem dX9_go_46 : decode cX9_go 46 = .ok (.getfield 335, 3) := dk_180 1 79 (dk_at dksX9_go_2 0 rfl rfl)
theorem dX9_go_49 : decode cX9_go 49 = .ok (.iconst 1, 1) := dk_4 (dk_at dksX9_go_2 3 rfl rfl)
theorem dX9_go_50 : decode cX9_go 50 = .ok (.isub, 1) := dk_100 (dk_at dksX9_go_2 4 rfl rfl)
theorem dX9_go_51 : decode cX9_go 51 = .ok (.istore 4, 2) := dk_54 4 (dk_at dksX9_go_2 5 rfl rfl)
theorem dX9_go_53 : decode cX9_go 53 = .ok (.iload 4, 2) := dk_21 4 (dk_at dksX9_go_2 7 rfl rfl)
theorem dX9_go_55 : decode cX9_go 55 = .ok (.ifCond .lt 66, 3) := dk_155 0 66 (dk_at dksX9_go_2 9 rfl rfl)
theorem dX9_go_58 : decode cX9_go 58 = .ok (.aload_n 0, 1) := dk_42 (dk_at dksX9_go_2 12 rfl rfl)
theorem dX9_go_59 : decode cX9_go 59 = .ok (.aload_n 0, 1) := dk_42 (dk_at dksX9_go_2 13 rfl rfl)
theorem dX9_go_60 : decode cX9_go 60 = .ok (.getfield 41, 3) := dk_180 0 41 (dk_at dksX9_go_2 14 rfl rfl)
theorem dX9_go_63 : decode cX9_go 63 = .ok (.aload_n 0, 1) := dk_42 (dk_at dksX9_go_2 17 rfl rfl)
theorem dX9_go_64 : decode cX9_go 64 = .ok (.getfield 93, 3) := dk_180 0 93 (dk_at dksX9_go_2 18 rfl rfl)
theorem dX9_go_67 : decode cX9_go 67 = .ok (.iload 4, 2) := dk_21 4 (dk_at dksX9_go_2 21 rfl rfl)
theorem dX9_go_69 : decode cX9_go 69 = .ok (.iaload, 1) := dk_46 (dk_at dksX9_go_2 23 rfl rfl)
theorem dX9_go_70 : decode cX9_go 70 = .ok (.iaload, 1) := dk_46 (dk_at dksX9_go_3 0 rfl rfl)
theorem dX9_go_71 : decode cX9_go 71 = .ok (.invokevirtual 338, 3) := dk_182 1 82 (dk_at dksX9_go_3 1 rfl rfl)
theorem dX9_go_74 : decode cX9_go 74 = .ok (.istore 5, 2) := dk_54 5 (dk_at dksX9_go_3 4 rfl rfl)
theorem dX9_go_76 : decode cX9_go 76 = .ok (.iload 5, 2) := dk_21 5 (dk_at dksX9_go_3 6 rfl rfl)
theorem dX9_go_78 : decode cX9_go 78 = .ok (.ifCond .eq 6, 3) := dk_153 0 6 (dk_at dksX9_go_3 8 rfl rfl)
theorem dX9_go_81 : decode cX9_go 81 = .ok (.iload 5, 2) := dk_21 5 (dk_at dksX9_go_3 11 rfl rfl)
theorem dX9_go_83 : decode cX9_go 83 = .ok (.ireturn, 1) := dk_172 (dk_at dksX9_go_3 13 rfl rfl)
theorem dX9_go_84 : decode cX9_go 84 = .ok (.aload_n 0, 1) := dk_42 (dk_at dksX9_go_3 14 rfl rfl)
theorem dX9_go_85 : decode cX9_go 85 = .ok (.getfield 47, 3) := dk_180 0 47 (dk_at dksX9_go_3 15 rfl rfl)
theorem dX9_go_88 : decode cX9_go 88 = .ok (.aload_n 0, 1) := dk_42 (dk_at dksX9_go_3 18 rfl rfl)
theorem dX9_go_89 : decode cX9_go 89 = .ok (.getfield 93, 3) := dk_180 0 93 (dk_at dksX9_go_3 19 rfl rfl)
theorem dX9_go_92 : decode cX9_go 92 = .ok (.iload 4, 2) := dk_21 4 (dk_at dksX9_go_3 22 rfl rfl)
theorem dX9_go_94 : decode cX9_go 94 = .ok (.iaload, 1) := dk_46 (dk_at dksX9_go_4 0 rfl rfl)
theorem dX9_go_95 : decode cX9_go 95 = .ok (.baload, 1) := dk_51 (dk_at dksX9_go_4 1 rfl rfl)
theorem dX9_go_96 : decode cX9_go 96 = .ok (.ifCond .eq 19, 3) := dk_153 0 19 (dk_at dksX9_go_4 2 rfl rfl)
theorem dX9_go_99 : decode cX9_go 99 = .ok (.aload_n 0, 1) := dk_42 (dk_at dksX9_go_4 5 rfl rfl)
theorem dX9_go_100 : decode cX9_go 100 = .ok (.aload_n 0, 1) := dk_42 (dk_at dksX9_go_4 6 rfl rfl)
theorem dX9_go_101 : decode cX9_go 101 = .ok (.getfield 44, 3) := dk_180 0 44 (dk_at dksX9_go_4 7 rfl rfl)
theorem dX9_go_104 : decode cX9_go 104 = .ok (.aload_n 0, 1) := dk_42 (dk_at dksX9_go_4 10 rfl rfl)
theorem dX9_go_105 : decode cX9_go 105 = .ok (.getfield 93, 3) := dk_180 0 93 (dk_at dksX9_go_4 11 rfl rfl)
theorem dX9_go_108 : decode cX9_go 108 = .ok (.iload 4, 2) := dk_21 4 (dk_at dksX9_go_4 14 rfl rfl)
theorem dX9_go_110 : decode cX9_go 110 = .ok (.iaload, 1) := dk_46 (dk_at dksX9_go_4 16 rfl rfl)
theorem dX9_go_111 : decode cX9_go 111 = .ok (.iaload, 1) := dk_46 (dk_at dksX9_go_4 17 rfl rfl)
theorem dX9_go_112 : decode cX9_go 112 = .ok (.putfield 289, 3) := dk_181 1 33 (dk_at dksX9_go_4 18 rfl rfl)
theorem dX9_go_115 : decode cX9_go 115 = .ok (.iinc 4 (-1), 3) := dk_132 4 255 (dk_at dksX9_go_4 21 rfl rfl)
theorem dX9_go_118 : decode cX9_go 118 = .ok (.goto (-65), 3) := dk_167 255 191 (dk_at dksX9_go_5 0 rfl rfl)
theorem dX9_go_121 : decode cX9_go 121 = .ok (.iconst 0, 1) := dk_3 (dk_at dksX9_go_5 3 rfl rfl)
theorem dX9_go_122 : decode cX9_go 122 = .ok (.ireturn, 1) := dk_172 (dk_at dksX9_go_5 4 rfl rfl)
abbrev cX9_leads : ByteArray := prog_17_method_47_code
def yX9_leads : MethodName := ⟨RX9, "leads", "(IIIIZ)Z"⟩
def dkwX9_leads_6 : List UInt8 := [79, 4, 172, 132, 6, 1, 167, 255, 127, 3, 172]
abbrev dktX9_leads_6 : List UInt8 := dkwX9_leads_6 ++ []
def dkwX9_leads_5 : List UInt8 := [167, 0, 4, 3, 54, 8, 21, 8, 154, 0, 6, 167, 0, 16, 42, 180, 0, 93, 21, 4, 4, 100, 21, 7]
abbrev dktX9_leads_5 : List UInt8 := dkwX9_leads_5 ++ dktX9_leads_6
def dkwX9_leads_4 : List UInt8 := [27, 42, 180, 0, 44, 21, 7, 46, 29, 21, 4, 4, 100, 21, 5, 182, 1, 68, 153, 0, 7, 4]
abbrev dktX9_leads_4 : List UInt8 := dkwX9_leads_4 ++ dktX9_leads_5
def dkwX9_leads_3 : List UInt8 := [21, 5, 153, 0, 7, 4, 167, 0, 44, 3, 167, 0, 40, 42, 180, 0, 47, 21, 7, 51, 153, 0, 29, 42]
abbrev dktX9_leads_3 : List UInt8 := dkwX9_leads_3 ++ dktX9_leads_4
def dkwX9_leads_2 : List UInt8 := [160, 0, 37, 42, 180, 0, 44, 21, 7, 46, 29, 160, 0, 22, 42, 180, 0, 47, 21, 7, 51, 154, 0, 8]
abbrev dktX9_leads_2 : List UInt8 := dkwX9_leads_2 ++ dktX9_leads_3
def dkwX9_leads_1 : List UInt8 := [162, 0, 127, 42, 27, 28, 21, 6, 182, 0, 194, 54, 7, 21, 7, 156, 0, 6, 167, 0, 103, 21, 4, 4]
abbrev dktX9_leads_1 : List UInt8 := dkwX9_leads_1 ++ dktX9_leads_2
def dkwX9_leads_0 : List UInt8 := [21, 4, 154, 0, 14, 28, 29, 160, 0, 7, 4, 167, 0, 4, 3, 172, 3, 54, 6, 21, 6, 17, 1, 0]
abbrev dktX9_leads_0 : List UInt8 := dkwX9_leads_0 ++ dktX9_leads_1
theorem dksX9_leads_0 : cX9_leads.data.toList.drop 0 = dktX9_leads_0 := by decide +kernel
theorem dksX9_leads_1 : cX9_leads.data.toList.drop 24 = dktX9_leads_1 := dk_seg dksX9_leads_0 24 rfl rfl
theorem dksX9_leads_2 : cX9_leads.data.toList.drop 48 = dktX9_leads_2 := dk_seg dksX9_leads_1 24 rfl rfl
theorem dksX9_leads_3 : cX9_leads.data.toList.drop 72 = dktX9_leads_3 := dk_seg dksX9_leads_2 24 rfl rfl
theorem dksX9_leads_4 : cX9_leads.data.toList.drop 96 = dktX9_leads_4 := dk_seg dksX9_leads_3 24 rfl rfl
theorem dksX9_leads_5 : cX9_leads.data.toList.drop 118 = dktX9_leads_5 := dk_seg dksX9_leads_4 22 rfl rfl
theorem dksX9_leads_6 : cX9_leads.data.toList.drop 142 = dktX9_leads_6 := dk_seg dksX9_leads_5 24 rfl rfl
theorem dX9_leads_0 : decode cX9_leads 0 = .ok (.iload 4, 2) := dk_21 4 (dk_at dksX9_leads_0 0 rfl rfl)
theorem dX9_leads_2 : decode cX9_leads 2 = .ok (.ifCond .ne 14, 3) := dk_154 0 14 (dk_at dksX9_leads_0 2 rfl rfl)
theorem dX9_leads_5 : decode cX9_leads 5 = .ok (.iload_n 2, 1) := dk_28 (dk_at dksX9_leads_0 5 rfl rfl)
theorem dX9_leads_6 : decode cX9_leads 6 = .ok (.iload_n 3, 1) := dk_29 (dk_at dksX9_leads_0 6 rfl rfl)
theorem dX9_leads_7 : decode cX9_leads 7 = .ok (.if_icmp .ne 7, 3) := dk_160 0 7 (dk_at dksX9_leads_0 7 rfl rfl)
theorem dX9_leads_10 : decode cX9_leads 10 = .ok (.iconst 1, 1) := dk_4 (dk_at dksX9_leads_0 10 rfl rfl)
theorem dX9_leads_11 : decode cX9_leads 11 = .ok (.goto 4, 3) := dk_167 0 4 (dk_at dksX9_leads_0 11 rfl rfl)
theorem dX9_leads_14 : decode cX9_leads 14 = .ok (.iconst 0, 1) := dk_3 (dk_at dksX9_leads_0 14 rfl rfl)
theorem dX9_leads_15 : decode cX9_leads 15 = .ok (.ireturn, 1) := dk_172 (dk_at dksX9_leads_0 15 rfl rfl)
theorem dX9_leads_16 : decode cX9_leads 16 = .ok (.iconst 0, 1) := dk_3 (dk_at dksX9_leads_0 16 rfl rfl)
theorem dX9_leads_17 : decode cX9_leads 17 = .ok (.istore 6, 2) := dk_54 6 (dk_at dksX9_leads_0 17 rfl rfl)
theorem dX9_leads_19 : decode cX9_leads 19 = .ok (.iload 6, 2) := dk_21 6 (dk_at dksX9_leads_0 19 rfl rfl)
theorem dX9_leads_21 : decode cX9_leads 21 = .ok (.sipush 256, 3) := dk_17 1 0 (dk_at dksX9_leads_0 21 rfl rfl)
theorem dX9_leads_24 : decode cX9_leads 24 = .ok (.if_icmp .ge 127, 3) := dk_162 0 127 (dk_at dksX9_leads_1 0 rfl rfl)
theorem dX9_leads_27 : decode cX9_leads 27 = .ok (.aload_n 0, 1) := dk_42 (dk_at dksX9_leads_1 3 rfl rfl)
theorem dX9_leads_28 : decode cX9_leads 28 = .ok (.iload_n 1, 1) := dk_27 (dk_at dksX9_leads_1 4 rfl rfl)
theorem dX9_leads_29 : decode cX9_leads 29 = .ok (.iload_n 2, 1) := dk_28 (dk_at dksX9_leads_1 5 rfl rfl)
theorem dX9_leads_30 : decode cX9_leads 30 = .ok (.iload 6, 2) := dk_21 6 (dk_at dksX9_leads_1 6 rfl rfl)
theorem dX9_leads_32 : decode cX9_leads 32 = .ok (.invokevirtual 194, 3) := dk_182 0 194 (dk_at dksX9_leads_1 8 rfl rfl)
theorem dX9_leads_35 : decode cX9_leads 35 = .ok (.istore 7, 2) := dk_54 7 (dk_at dksX9_leads_1 11 rfl rfl)
theorem dX9_leads_37 : decode cX9_leads 37 = .ok (.iload 7, 2) := dk_21 7 (dk_at dksX9_leads_1 13 rfl rfl)
theorem dX9_leads_39 : decode cX9_leads 39 = .ok (.ifCond .ge 6, 3) := dk_156 0 6 (dk_at dksX9_leads_1 15 rfl rfl)
theorem dX9_leads_42 : decode cX9_leads 42 = .ok (.goto 103, 3) := dk_167 0 103 (dk_at dksX9_leads_1 18 rfl rfl)
theorem dX9_leads_45 : decode cX9_leads 45 = .ok (.iload 4, 2) := dk_21 4 (dk_at dksX9_leads_1 21 rfl rfl)
theorem dX9_leads_47 : decode cX9_leads 47 = .ok (.iconst 1, 1) := dk_4 (dk_at dksX9_leads_1 23 rfl rfl)
theorem dX9_leads_48 : decode cX9_leads 48 = .ok (.if_icmp .ne 37, 3) := dk_160 0 37 (dk_at dksX9_leads_2 0 rfl rfl)
theorem dX9_leads_51 : decode cX9_leads 51 = .ok (.aload_n 0, 1) := dk_42 (dk_at dksX9_leads_2 3 rfl rfl)
theorem dX9_leads_52 : decode cX9_leads 52 = .ok (.getfield 44, 3) := dk_180 0 44 (dk_at dksX9_leads_2 4 rfl rfl)
theorem dX9_leads_55 : decode cX9_leads 55 = .ok (.iload 7, 2) := dk_21 7 (dk_at dksX9_leads_2 7 rfl rfl)
theorem dX9_leads_57 : decode cX9_leads 57 = .ok (.iaload, 1) := dk_46 (dk_at dksX9_leads_2 9 rfl rfl)
theorem dX9_leads_58 : decode cX9_leads 58 = .ok (.iload_n 3, 1) := dk_29 (dk_at dksX9_leads_2 10 rfl rfl)
theorem dX9_leads_59 : decode cX9_leads 59 = .ok (.if_icmp .ne 22, 3) := dk_160 0 22 (dk_at dksX9_leads_2 11 rfl rfl)
theorem dX9_leads_62 : decode cX9_leads 62 = .ok (.aload_n 0, 1) := dk_42 (dk_at dksX9_leads_2 14 rfl rfl)
theorem dX9_leads_63 : decode cX9_leads 63 = .ok (.getfield 47, 3) := dk_180 0 47 (dk_at dksX9_leads_2 15 rfl rfl)
theorem dX9_leads_66 : decode cX9_leads 66 = .ok (.iload 7, 2) := dk_21 7 (dk_at dksX9_leads_2 18 rfl rfl)
theorem dX9_leads_68 : decode cX9_leads 68 = .ok (.baload, 1) := dk_51 (dk_at dksX9_leads_2 20 rfl rfl)
theorem dX9_leads_69 : decode cX9_leads 69 = .ok (.ifCond .ne 8, 3) := dk_154 0 8 (dk_at dksX9_leads_2 21 rfl rfl)
theorem dX9_leads_72 : decode cX9_leads 72 = .ok (.iload 5, 2) := dk_21 5 (dk_at dksX9_leads_3 0 rfl rfl)
theorem dX9_leads_74 : decode cX9_leads 74 = .ok (.ifCond .eq 7, 3) := dk_153 0 7 (dk_at dksX9_leads_3 2 rfl rfl)
theorem dX9_leads_77 : decode cX9_leads 77 = .ok (.iconst 1, 1) := dk_4 (dk_at dksX9_leads_3 5 rfl rfl)
theorem dX9_leads_78 : decode cX9_leads 78 = .ok (.goto 44, 3) := dk_167 0 44 (dk_at dksX9_leads_3 6 rfl rfl)
theorem dX9_leads_81 : decode cX9_leads 81 = .ok (.iconst 0, 1) := dk_3 (dk_at dksX9_leads_3 9 rfl rfl)
theorem dX9_leads_82 : decode cX9_leads 82 = .ok (.goto 40, 3) := dk_167 0 40 (dk_at dksX9_leads_3 10 rfl rfl)
theorem dX9_leads_85 : decode cX9_leads 85 = .ok (.aload_n 0, 1) := dk_42 (dk_at dksX9_leads_3 13 rfl rfl)
theorem dX9_leads_86 : decode cX9_leads 86 = .ok (.getfield 47, 3) := dk_180 0 47 (dk_at dksX9_leads_3 14 rfl rfl)
theorem dX9_leads_89 : decode cX9_leads 89 = .ok (.iload 7, 2) := dk_21 7 (dk_at dksX9_leads_3 17 rfl rfl)
theorem dX9_leads_91 : decode cX9_leads 91 = .ok (.baload, 1) := dk_51 (dk_at dksX9_leads_3 19 rfl rfl)
theorem dX9_leads_92 : decode cX9_leads 92 = .ok (.ifCond .eq 29, 3) := dk_153 0 29 (dk_at dksX9_leads_3 20 rfl rfl)
theorem dX9_leads_95 : decode cX9_leads 95 = .ok (.aload_n 0, 1) := dk_42 (dk_at dksX9_leads_3 23 rfl rfl)
theorem dX9_leads_96 : decode cX9_leads 96 = .ok (.iload_n 1, 1) := dk_27 (dk_at dksX9_leads_4 0 rfl rfl)
theorem dX9_leads_97 : decode cX9_leads 97 = .ok (.aload_n 0, 1) := dk_42 (dk_at dksX9_leads_4 1 rfl rfl)
theorem dX9_leads_98 : decode cX9_leads 98 = .ok (.getfield 44, 3) := dk_180 0 44 (dk_at dksX9_leads_4 2 rfl rfl)
theorem dX9_leads_101 : decode cX9_leads 101 = .ok (.iload 7, 2) := dk_21 7 (dk_at dksX9_leads_4 5 rfl rfl)
theorem dX9_leads_103 : decode cX9_leads 103 = .ok (.iaload, 1) := dk_46 (dk_at dksX9_leads_4 7 rfl rfl)
theorem dX9_leads_104 : decode cX9_leads 104 = .ok (.iload_n 3, 1) := dk_29 (dk_at dksX9_leads_4 8 rfl rfl)
theorem dX9_leads_105 : decode cX9_leads 105 = .ok (.iload 4, 2) := dk_21 4 (dk_at dksX9_leads_4 9 rfl rfl)
theorem dX9_leads_107 : decode cX9_leads 107 = .ok (.iconst 1, 1) := dk_4 (dk_at dksX9_leads_4 11 rfl rfl)
theorem dX9_leads_108 : decode cX9_leads 108 = .ok (.isub, 1) := dk_100 (dk_at dksX9_leads_4 12 rfl rfl)
theorem dX9_leads_109 : decode cX9_leads 109 = .ok (.iload 5, 2) := dk_21 5 (dk_at dksX9_leads_4 13 rfl rfl)
theorem dX9_leads_111 : decode cX9_leads 111 = .ok (.invokevirtual 324, 3) := dk_182 1 68 (dk_at dksX9_leads_4 15 rfl rfl)
theorem dX9_leads_114 : decode cX9_leads 114 = .ok (.ifCond .eq 7, 3) := dk_153 0 7 (dk_at dksX9_leads_4 18 rfl rfl)
theorem dX9_leads_117 : decode cX9_leads 117 = .ok (.iconst 1, 1) := dk_4 (dk_at dksX9_leads_4 21 rfl rfl)
theorem dX9_leads_118 : decode cX9_leads 118 = .ok (.goto 4, 3) := dk_167 0 4 (dk_at dksX9_leads_5 0 rfl rfl)
theorem dX9_leads_121 : decode cX9_leads 121 = .ok (.iconst 0, 1) := dk_3 (dk_at dksX9_leads_5 3 rfl rfl)
theorem dX9_leads_122 : decode cX9_leads 122 = .ok (.istore 8, 2) := dk_54 8 (dk_at dksX9_leads_5 4 rfl rfl)
theorem dX9_leads_124 : decode cX9_leads 124 = .ok (.iload 8, 2) := dk_21 8 (dk_at dksX9_leads_5 6 rfl rfl)
theorem dX9_leads_126 : decode cX9_leads 126 = .ok (.ifCond .ne 6, 3) := dk_154 0 6 (dk_at dksX9_leads_5 8 rfl rfl)
theorem dX9_leads_129 : decode cX9_leads 129 = .ok (.goto 16, 3) := dk_167 0 16 (dk_at dksX9_leads_5 11 rfl rfl)
theorem dX9_leads_132 : decode cX9_leads 132 = .ok (.aload_n 0, 1) := dk_42 (dk_at dksX9_leads_5 14 rfl rfl)
theorem dX9_leads_133 : decode cX9_leads 133 = .ok (.getfield 93, 3) := dk_180 0 93 (dk_at dksX9_leads_5 15 rfl rfl)
theorem dX9_leads_136 : decode cX9_leads 136 = .ok (.iload 4, 2) := dk_21 4 (dk_at dksX9_leads_5 18 rfl rfl)
theorem dX9_leads_138 : decode cX9_leads 138 = .ok (.iconst 1, 1) := dk_4 (dk_at dksX9_leads_5 20 rfl rfl)
theorem dX9_leads_139 : decode cX9_leads 139 = .ok (.isub, 1) := dk_100 (dk_at dksX9_leads_5 21 rfl rfl)
theorem dX9_leads_140 : decode cX9_leads 140 = .ok (.iload 7, 2) := dk_21 7 (dk_at dksX9_leads_5 22 rfl rfl)
theorem dX9_leads_142 : decode cX9_leads 142 = .ok (.iastore, 1) := dk_79 (dk_at dksX9_leads_6 0 rfl rfl)
theorem dX9_leads_143 : decode cX9_leads 143 = .ok (.iconst 1, 1) := dk_4 (dk_at dksX9_leads_6 1 rfl rfl)
theorem dX9_leads_144 : decode cX9_leads 144 = .ok (.ireturn, 1) := dk_172 (dk_at dksX9_leads_6 2 rfl rfl)
theorem dX9_leads_145 : decode cX9_leads 145 = .ok (.iinc 6 1, 3) := dk_132 6 1 (dk_at dksX9_leads_6 3 rfl rfl)
theorem dX9_leads_148 : decode cX9_leads 148 = .ok (.goto (-129), 3) := dk_167 255 127 (dk_at dksX9_leads_6 6 rfl rfl)
theorem dX9_leads_151 : decode cX9_leads 151 = .ok (.iconst 0, 1) := dk_3 (dk_at dksX9_leads_6 9 rfl rfl)
theorem dX9_leads_152 : decode cX9_leads 152 = .ok (.ireturn, 1) := dk_172 (dk_at dksX9_leads_6 10 rfl rfl)
abbrev cX9_putByte : ByteArray := prog_17_method_48_code
def yX9_putByte : MethodName := ⟨RX9, "putByte", "(I)I"⟩
def dkwX9_putByte_1 : List UInt8 := [180, 1, 16, 4, 96, 181, 1, 16, 167, 0, 8, 42, 27, 182, 1, 19, 3, 172]
abbrev dktX9_putByte_1 : List UInt8 := dkwX9_putByte_1 ++ []
def dkwX9_putByte_0 : List UInt8 := [42, 180, 1, 16, 42, 180, 1, 72, 160, 0, 6, 16, 250, 172, 42, 180, 1, 75, 153, 0, 16, 42, 89]
abbrev dktX9_putByte_0 : List UInt8 := dkwX9_putByte_0 ++ dktX9_putByte_1
theorem dksX9_putByte_0 : cX9_putByte.data.toList.drop 0 = dktX9_putByte_0 := by decide +kernel
theorem dksX9_putByte_1 : cX9_putByte.data.toList.drop 23 = dktX9_putByte_1 := dk_seg dksX9_putByte_0 23 rfl rfl
theorem dX9_putByte_0 : decode cX9_putByte 0 = .ok (.aload_n 0, 1) := dk_42 (dk_at dksX9_putByte_0 0 rfl rfl)
theorem dX9_putByte_1 : decode cX9_putByte 1 = .ok (.getfield 272, 3) := dk_180 1 16 (dk_at dksX9_putByte_0 1 rfl rfl)
theorem dX9_putByte_4 : decode cX9_putByte 4 = .ok (.aload_n 0, 1) := dk_42 (dk_at dksX9_putByte_0 4 rfl rfl)
theorem dX9_putByte_5 : decode cX9_putByte 5 = .ok (.getfield 328, 3) := dk_180 1 72 (dk_at dksX9_putByte_0 5 rfl rfl)
theorem dX9_putByte_8 : decode cX9_putByte 8 = .ok (.if_icmp .ne 6, 3) := dk_160 0 6 (dk_at dksX9_putByte_0 8 rfl rfl)
theorem dX9_putByte_11 : decode cX9_putByte 11 = .ok (.bipush (-6), 2) := dk_16 250 (dk_at dksX9_putByte_0 11 rfl rfl)
theorem dX9_putByte_13 : decode cX9_putByte 13 = .ok (.ireturn, 1) := dk_172 (dk_at dksX9_putByte_0 13 rfl rfl)
theorem dX9_putByte_14 : decode cX9_putByte 14 = .ok (.aload_n 0, 1) := dk_42 (dk_at dksX9_putByte_0 14 rfl rfl)
theorem dX9_putByte_15 : decode cX9_putByte 15 = .ok (.getfield 331, 3) := dk_180 1 75 (dk_at dksX9_putByte_0 15 rfl rfl)
theorem dX9_putByte_18 : decode cX9_putByte 18 = .ok (.ifCond .eq 16, 3) := dk_153 0 16 (dk_at dksX9_putByte_0 18 rfl rfl)
theorem dX9_putByte_21 : decode cX9_putByte 21 = .ok (.aload_n 0, 1) := dk_42 (dk_at dksX9_putByte_0 21 rfl rfl)
theorem dX9_putByte_22 : decode cX9_putByte 22 = .ok (.dup, 1) := dk_89 (dk_at dksX9_putByte_0 22 rfl rfl)
theorem dX9_putByte_23 : decode cX9_putByte 23 = .ok (.getfield 272, 3) := dk_180 1 16 (dk_at dksX9_putByte_1 0 rfl rfl)
theorem dX9_putByte_26 : decode cX9_putByte 26 = .ok (.iconst 1, 1) := dk_4 (dk_at dksX9_putByte_1 3 rfl rfl)
theorem dX9_putByte_27 : decode cX9_putByte 27 = .ok (.iadd, 1) := dk_96 (dk_at dksX9_putByte_1 4 rfl rfl)
theorem dX9_putByte_28 : decode cX9_putByte 28 = .ok (.putfield 272, 3) := dk_181 1 16 (dk_at dksX9_putByte_1 5 rfl rfl)
theorem dX9_putByte_31 : decode cX9_putByte 31 = .ok (.goto 8, 3) := dk_167 0 8 (dk_at dksX9_putByte_1 8 rfl rfl)
theorem dX9_putByte_34 : decode cX9_putByte 34 = .ok (.aload_n 0, 1) := dk_42 (dk_at dksX9_putByte_1 11 rfl rfl)
theorem dX9_putByte_35 : decode cX9_putByte 35 = .ok (.iload_n 1, 1) := dk_27 (dk_at dksX9_putByte_1 12 rfl rfl)
theorem dX9_putByte_36 : decode cX9_putByte 36 = .ok (.invokevirtual 275, 3) := dk_182 1 19 (dk_at dksX9_putByte_1 13 rfl rfl)
theorem dX9_putByte_39 : decode cX9_putByte 39 = .ok (.iconst 0, 1) := dk_3 (dk_at dksX9_putByte_1 16 rfl rfl)
theorem dX9_putByte_40 : decode cX9_putByte 40 = .ok (.ireturn, 1) := dk_172 (dk_at dksX9_putByte_1 17 rfl rfl)
abbrev cX9_falls : ByteArray := prog_17_method_53_code
def yX9_falls : MethodName := ⟨RX9, "falls", "(II)Z"⟩
def dkwX9_falls_3 : List UInt8 := [167, 255, 219, 21, 4, 172]
abbrev dktX9_falls_3 : List UInt8 := dkwX9_falls_3 ++ []
def dkwX9_falls_2 : List UInt8 := [162, 0, 27, 42, 27, 42, 180, 0, 72, 7, 29, 104, 21, 5, 96, 46, 182, 1, 95, 54, 4, 132, 5, 1]
abbrev dktX9_falls_2 : List UInt8 := dkwX9_falls_2 ++ dktX9_falls_3
def dkwX9_falls_1 : List UInt8 := [167, 0, 4, 3, 54, 4, 3, 54, 5, 21, 4, 153, 0, 38, 21, 5, 42, 180, 0, 69, 29, 46]
abbrev dktX9_falls_1 : List UInt8 := dkwX9_falls_1 ++ dktX9_falls_2
def dkwX9_falls_0 : List UInt8 := [42, 27, 28, 182, 0, 252, 153, 0, 5, 4, 172, 42, 28, 182, 1, 101, 62, 29, 155, 0, 7, 4]
abbrev dktX9_falls_0 : List UInt8 := dkwX9_falls_0 ++ dktX9_falls_1
theorem dksX9_falls_0 : cX9_falls.data.toList.drop 0 = dktX9_falls_0 := by decide +kernel
theorem dksX9_falls_1 : cX9_falls.data.toList.drop 22 = dktX9_falls_1 := dk_seg dksX9_falls_0 22 rfl rfl
theorem dksX9_falls_2 : cX9_falls.data.toList.drop 44 = dktX9_falls_2 := dk_seg dksX9_falls_1 22 rfl rfl
theorem dksX9_falls_3 : cX9_falls.data.toList.drop 68 = dktX9_falls_3 := dk_seg dksX9_falls_2 24 rfl rfl
theorem dX9_falls_0 : decode cX9_falls 0 = .ok (.aload_n 0, 1) := dk_42 (dk_at dksX9_falls_0 0 rfl rfl)
theorem dX9_falls_1 : decode cX9_falls 1 = .ok (.iload_n 1, 1) := dk_27 (dk_at dksX9_falls_0 1 rfl rfl)
theorem dX9_falls_2 : decode cX9_falls 2 = .ok (.iload_n 2, 1) := dk_28 (dk_at dksX9_falls_0 2 rfl rfl)
theorem dX9_falls_3 : decode cX9_falls 3 = .ok (.invokevirtual 252, 3) := dk_182 0 252 (dk_at dksX9_falls_0 3 rfl rfl)
theorem dX9_falls_6 : decode cX9_falls 6 = .ok (.ifCond .eq 5, 3) := dk_153 0 5 (dk_at dksX9_falls_0 6 rfl rfl)
theorem dX9_falls_9 : decode cX9_falls 9 = .ok (.iconst 1, 1) := dk_4 (dk_at dksX9_falls_0 9 rfl rfl)
theorem dX9_falls_10 : decode cX9_falls 10 = .ok (.ireturn, 1) := dk_172 (dk_at dksX9_falls_0 10 rfl rfl)
theorem dX9_falls_11 : decode cX9_falls 11 = .ok (.aload_n 0, 1) := dk_42 (dk_at dksX9_falls_0 11 rfl rfl)
theorem dX9_falls_12 : decode cX9_falls 12 = .ok (.iload_n 2, 1) := dk_28 (dk_at dksX9_falls_0 12 rfl rfl)
theorem dX9_falls_13 : decode cX9_falls 13 = .ok (.invokevirtual 357, 3) := dk_182 1 101 (dk_at dksX9_falls_0 13 rfl rfl)
theorem dX9_falls_16 : decode cX9_falls 16 = .ok (.istore_n 3, 1) := dk_62 (dk_at dksX9_falls_0 16 rfl rfl)
theorem dX9_falls_17 : decode cX9_falls 17 = .ok (.iload_n 3, 1) := dk_29 (dk_at dksX9_falls_0 17 rfl rfl)
theorem dX9_falls_18 : decode cX9_falls 18 = .ok (.ifCond .lt 7, 3) := dk_155 0 7 (dk_at dksX9_falls_0 18 rfl rfl)
theorem dX9_falls_21 : decode cX9_falls 21 = .ok (.iconst 1, 1) := dk_4 (dk_at dksX9_falls_0 21 rfl rfl)
theorem dX9_falls_22 : decode cX9_falls 22 = .ok (.goto 4, 3) := dk_167 0 4 (dk_at dksX9_falls_1 0 rfl rfl)
theorem dX9_falls_25 : decode cX9_falls 25 = .ok (.iconst 0, 1) := dk_3 (dk_at dksX9_falls_1 3 rfl rfl)
theorem dX9_falls_26 : decode cX9_falls 26 = .ok (.istore 4, 2) := dk_54 4 (dk_at dksX9_falls_1 4 rfl rfl)
theorem dX9_falls_28 : decode cX9_falls 28 = .ok (.iconst 0, 1) := dk_3 (dk_at dksX9_falls_1 6 rfl rfl)
theorem dX9_falls_29 : decode cX9_falls 29 = .ok (.istore 5, 2) := dk_54 5 (dk_at dksX9_falls_1 7 rfl rfl)
theorem dX9_falls_31 : decode cX9_falls 31 = .ok (.iload 4, 2) := dk_21 4 (dk_at dksX9_falls_1 9 rfl rfl)
theorem dX9_falls_33 : decode cX9_falls 33 = .ok (.ifCond .eq 38, 3) := dk_153 0 38 (dk_at dksX9_falls_1 11 rfl rfl)
theorem dX9_falls_36 : decode cX9_falls 36 = .ok (.iload 5, 2) := dk_21 5 (dk_at dksX9_falls_1 14 rfl rfl)
theorem dX9_falls_38 : decode cX9_falls 38 = .ok (.aload_n 0, 1) := dk_42 (dk_at dksX9_falls_1 16 rfl rfl)
theorem dX9_falls_39 : decode cX9_falls 39 = .ok (.getfield 69, 3) := dk_180 0 69 (dk_at dksX9_falls_1 17 rfl rfl)
theorem dX9_falls_42 : decode cX9_falls 42 = .ok (.iload_n 3, 1) := dk_29 (dk_at dksX9_falls_1 20 rfl rfl)
theorem dX9_falls_43 : decode cX9_falls 43 = .ok (.iaload, 1) := dk_46 (dk_at dksX9_falls_1 21 rfl rfl)
theorem dX9_falls_44 : decode cX9_falls 44 = .ok (.if_icmp .ge 27, 3) := dk_162 0 27 (dk_at dksX9_falls_2 0 rfl rfl)
theorem dX9_falls_47 : decode cX9_falls 47 = .ok (.aload_n 0, 1) := dk_42 (dk_at dksX9_falls_2 3 rfl rfl)
theorem dX9_falls_48 : decode cX9_falls 48 = .ok (.iload_n 1, 1) := dk_27 (dk_at dksX9_falls_2 4 rfl rfl)
theorem dX9_falls_49 : decode cX9_falls 49 = .ok (.aload_n 0, 1) := dk_42 (dk_at dksX9_falls_2 5 rfl rfl)
theorem dX9_falls_50 : decode cX9_falls 50 = .ok (.getfield 72, 3) := dk_180 0 72 (dk_at dksX9_falls_2 6 rfl rfl)
theorem dX9_falls_53 : decode cX9_falls 53 = .ok (.iconst 4, 1) := dk_7 (dk_at dksX9_falls_2 9 rfl rfl)
theorem dX9_falls_54 : decode cX9_falls 54 = .ok (.iload_n 3, 1) := dk_29 (dk_at dksX9_falls_2 10 rfl rfl)
theorem dX9_falls_55 : decode cX9_falls 55 = .ok (.imul, 1) := dk_104 (dk_at dksX9_falls_2 11 rfl rfl)
theorem dX9_falls_56 : decode cX9_falls 56 = .ok (.iload 5, 2) := dk_21 5 (dk_at dksX9_falls_2 12 rfl rfl)
theorem dX9_falls_58 : decode cX9_falls 58 = .ok (.iadd, 1) := dk_96 (dk_at dksX9_falls_2 14 rfl rfl)
theorem dX9_falls_59 : decode cX9_falls 59 = .ok (.iaload, 1) := dk_46 (dk_at dksX9_falls_2 15 rfl rfl)
theorem dX9_falls_60 : decode cX9_falls 60 = .ok (.invokevirtual 351, 3) := dk_182 1 95 (dk_at dksX9_falls_2 16 rfl rfl)
theorem dX9_falls_63 : decode cX9_falls 63 = .ok (.istore 4, 2) := dk_54 4 (dk_at dksX9_falls_2 19 rfl rfl)
theorem dX9_falls_65 : decode cX9_falls 65 = .ok (.iinc 5 1, 3) := dk_132 5 1 (dk_at dksX9_falls_2 21 rfl rfl)
theorem dX9_falls_68 : decode cX9_falls 68 = .ok (.goto (-37), 3) := dk_167 255 219 (dk_at dksX9_falls_3 0 rfl rfl)
theorem dX9_falls_71 : decode cX9_falls 71 = .ok (.iload 4, 2) := dk_21 4 (dk_at dksX9_falls_3 3 rfl rfl)
theorem dX9_falls_73 : decode cX9_falls 73 = .ok (.ireturn, 1) := dk_172 (dk_at dksX9_falls_3 5 rfl rfl)
abbrev cX9_fallbackOf : ByteArray := prog_17_method_51_code
def yX9_fallbackOf : MethodName := ⟨RX9, "fallbackOf", "(I)I"⟩
def dkwX9_fallbackOf_1 : List UInt8 := [132, 2, 1, 167, 255, 233, 2, 172]
abbrev dktX9_fallbackOf_1 : List UInt8 := dkwX9_fallbackOf_1 ++ []
def dkwX9_fallbackOf_0 : List UInt8 := [3, 61, 28, 42, 180, 1, 89, 162, 0, 21, 42, 180, 0, 66, 28, 46, 27, 160, 0, 5, 28, 172]
abbrev dktX9_fallbackOf_0 : List UInt8 := dkwX9_fallbackOf_0 ++ dktX9_fallbackOf_1
theorem dksX9_fallbackOf_0 : cX9_fallbackOf.data.toList.drop 0 = dktX9_fallbackOf_0 := by decide +kernel
theorem dksX9_fallbackOf_1 : cX9_fallbackOf.data.toList.drop 22 = dktX9_fallbackOf_1 := dk_seg dksX9_fallbackOf_0 22 rfl rfl
theorem dX9_fallbackOf_0 : decode cX9_fallbackOf 0 = .ok (.iconst 0, 1) := dk_3 (dk_at dksX9_fallbackOf_0 0 rfl rfl)
theorem dX9_fallbackOf_1 : decode cX9_fallbackOf 1 = .ok (.istore_n 2, 1) := dk_61 (dk_at dksX9_fallbackOf_0 1 rfl rfl)
theorem dX9_fallbackOf_2 : decode cX9_fallbackOf 2 = .ok (.iload_n 2, 1) := dk_28 (dk_at dksX9_fallbackOf_0 2 rfl rfl)
theorem dX9_fallbackOf_3 : decode cX9_fallbackOf 3 = .ok (.aload_n 0, 1) := dk_42 (dk_at dksX9_fallbackOf_0 3 rfl rfl)
theorem dX9_fallbackOf_4 : decode cX9_fallbackOf 4 = .ok (.getfield 345, 3) := dk_180 1 89 (dk_at dksX9_fallbackOf_0 4 rfl rfl)
theorem dX9_fallbackOf_7 : decode cX9_fallbackOf 7 = .ok (.if_icmp .ge 21, 3) := dk_162 0 21 (dk_at dksX9_fallbackOf_0 7 rfl rfl)
theorem dX9_fallbackOf_10 : decode cX9_fallbackOf 10 = .ok (.aload_n 0, 1) := dk_42 (dk_at dksX9_fallbackOf_0 10 rfl rfl)
theorem dX9_fallbackOf_11 : decode cX9_fallbackOf 11 = .ok (.getfield 66, 3) := dk_180 0 66 (dk_at dksX9_fallbackOf_0 11 rfl rfl)
theorem dX9_fallbackOf_14 : decode cX9_fallbackOf 14 = .ok (.iload_n 2, 1) := dk_28 (dk_at dksX9_fallbackOf_0 14 rfl rfl)
theorem dX9_fallbackOf_15 : decode cX9_fallbackOf 15 = .ok (.iaload, 1) := dk_46 (dk_at dksX9_fallbackOf_0 15 rfl rfl)
theorem dX9_fallbackOf_16 : decode cX9_fallbackOf 16 = .ok (.iload_n 1, 1) := dk_27 (dk_at dksX9_fallbackOf_0 16 rfl rfl)
theorem dX9_fallbackOf_17 : decode cX9_fallbackOf 17 = .ok (.if_icmp .ne 5, 3) := dk_160 0 5 (dk_at dksX9_fallbackOf_0 17 rfl rfl)
theorem dX9_fallbackOf_20 : decode cX9_fallbackOf 20 = .ok (.iload_n 2, 1) := dk_28 (dk_at dksX9_fallbackOf_0 20 rfl rfl)
theorem dX9_fallbackOf_21 : decode cX9_fallbackOf 21 = .ok (.ireturn, 1) := dk_172 (dk_at dksX9_fallbackOf_0 21 rfl rfl)
theorem dX9_fallbackOf_22 : decode cX9_fallbackOf 22 = .ok (.iinc 2 1, 3) := dk_132 2 1 (dk_at dksX9_fallbackOf_1 0 rfl rfl)
theorem dX9_fallbackOf_25 : decode cX9_fallbackOf 25 = .ok (.goto (-23), 3) := dk_167 255 233 (dk_at dksX9_fallbackOf_1 3 rfl rfl)
theorem dX9_fallbackOf_28 : decode cX9_fallbackOf 28 = .ok (.iconst (-1), 1) := dk_2 (dk_at dksX9_fallbackOf_1 6 rfl rfl)
theorem dX9_fallbackOf_29 : decode cX9_fallbackOf 29 = .ok (.ireturn, 1) := dk_172 (dk_at dksX9_fallbackOf_1 7 rfl rfl)
abbrev cX9_fall : ByteArray := prog_17_method_54_code
def yX9_fall : MethodName := ⟨RX9, "fall", "(II)I"⟩
def dkwX9_fall_2 : List UInt8 := [180, 0, 72, 7, 29, 104, 21, 5, 96, 46, 182, 1, 98, 54, 4, 132, 5, 1, 167, 255, 219, 21, 4, 172]
abbrev dktX9_fall_2 : List UInt8 := dkwX9_fall_2 ++ []
def dkwX9_fall_1 : List UInt8 := [3, 54, 5, 21, 5, 42, 180, 0, 69, 29, 46, 162, 0, 32, 21, 4, 154, 0, 27, 42, 27, 42]
abbrev dktX9_fall_1 : List UInt8 := dkwX9_fall_1 ++ dktX9_fall_2
def dkwX9_fall_0 : List UInt8 := [42, 27, 28, 182, 0, 252, 153, 0, 9, 42, 27, 182, 1, 92, 172, 42, 28, 182, 1, 101, 62, 3, 54, 4]
abbrev dktX9_fall_0 : List UInt8 := dkwX9_fall_0 ++ dktX9_fall_1
theorem dksX9_fall_0 : cX9_fall.data.toList.drop 0 = dktX9_fall_0 := by decide +kernel
theorem dksX9_fall_1 : cX9_fall.data.toList.drop 24 = dktX9_fall_1 := dk_seg dksX9_fall_0 24 rfl rfl
theorem dksX9_fall_2 : cX9_fall.data.toList.drop 46 = dktX9_fall_2 := dk_seg dksX9_fall_1 22 rfl rfl
theorem dX9_fall_0 : decode cX9_fall 0 = .ok (.aload_n 0, 1) := dk_42 (dk_at dksX9_fall_0 0 rfl rfl)
theorem dX9_fall_1 : decode cX9_fall 1 = .ok (.iload_n 1, 1) := dk_27 (dk_at dksX9_fall_0 1 rfl rfl)
theorem dX9_fall_2 : decode cX9_fall 2 = .ok (.iload_n 2, 1) := dk_28 (dk_at dksX9_fall_0 2 rfl rfl)
theorem dX9_fall_3 : decode cX9_fall 3 = .ok (.invokevirtual 252, 3) := dk_182 0 252 (dk_at dksX9_fall_0 3 rfl rfl)
theorem dX9_fall_6 : decode cX9_fall 6 = .ok (.ifCond .eq 9, 3) := dk_153 0 9 (dk_at dksX9_fall_0 6 rfl rfl)
theorem dX9_fall_9 : decode cX9_fall 9 = .ok (.aload_n 0, 1) := dk_42 (dk_at dksX9_fall_0 9 rfl rfl)
theorem dX9_fall_10 : decode cX9_fall 10 = .ok (.iload_n 1, 1) := dk_27 (dk_at dksX9_fall_0 10 rfl rfl)
theorem dX9_fall_11 : decode cX9_fall 11 = .ok (.invokevirtual 348, 3) := dk_182 1 92 (dk_at dksX9_fall_0 11 rfl rfl)
theorem dX9_fall_14 : decode cX9_fall 14 = .ok (.ireturn, 1) := dk_172 (dk_at dksX9_fall_0 14 rfl rfl)
theorem dX9_fall_15 : decode cX9_fall 15 = .ok (.aload_n 0, 1) := dk_42 (dk_at dksX9_fall_0 15 rfl rfl)
theorem dX9_fall_16 : decode cX9_fall 16 = .ok (.iload_n 2, 1) := dk_28 (dk_at dksX9_fall_0 16 rfl rfl)
theorem dX9_fall_17 : decode cX9_fall 17 = .ok (.invokevirtual 357, 3) := dk_182 1 101 (dk_at dksX9_fall_0 17 rfl rfl)
theorem dX9_fall_20 : decode cX9_fall 20 = .ok (.istore_n 3, 1) := dk_62 (dk_at dksX9_fall_0 20 rfl rfl)
theorem dX9_fall_21 : decode cX9_fall 21 = .ok (.iconst 0, 1) := dk_3 (dk_at dksX9_fall_0 21 rfl rfl)
theorem dX9_fall_22 : decode cX9_fall 22 = .ok (.istore 4, 2) := dk_54 4 (dk_at dksX9_fall_0 22 rfl rfl)
theorem dX9_fall_24 : decode cX9_fall 24 = .ok (.iconst 0, 1) := dk_3 (dk_at dksX9_fall_1 0 rfl rfl)
theorem dX9_fall_25 : decode cX9_fall 25 = .ok (.istore 5, 2) := dk_54 5 (dk_at dksX9_fall_1 1 rfl rfl)
theorem dX9_fall_27 : decode cX9_fall 27 = .ok (.iload 5, 2) := dk_21 5 (dk_at dksX9_fall_1 3 rfl rfl)
theorem dX9_fall_29 : decode cX9_fall 29 = .ok (.aload_n 0, 1) := dk_42 (dk_at dksX9_fall_1 5 rfl rfl)
theorem dX9_fall_30 : decode cX9_fall 30 = .ok (.getfield 69, 3) := dk_180 0 69 (dk_at dksX9_fall_1 6 rfl rfl)
theorem dX9_fall_33 : decode cX9_fall 33 = .ok (.iload_n 3, 1) := dk_29 (dk_at dksX9_fall_1 9 rfl rfl)
theorem dX9_fall_34 : decode cX9_fall 34 = .ok (.iaload, 1) := dk_46 (dk_at dksX9_fall_1 10 rfl rfl)
theorem dX9_fall_35 : decode cX9_fall 35 = .ok (.if_icmp .ge 32, 3) := dk_162 0 32 (dk_at dksX9_fall_1 11 rfl rfl)
theorem dX9_fall_38 : decode cX9_fall 38 = .ok (.iload 4, 2) := dk_21 4 (dk_at dksX9_fall_1 14 rfl rfl)
theorem dX9_fall_40 : decode cX9_fall 40 = .ok (.ifCond .ne 27, 3) := dk_154 0 27 (dk_at dksX9_fall_1 16 rfl rfl)
theorem dX9_fall_43 : decode cX9_fall 43 = .ok (.aload_n 0, 1) := dk_42 (dk_at dksX9_fall_1 19 rfl rfl)
theorem dX9_fall_44 : decode cX9_fall 44 = .ok (.iload_n 1, 1) := dk_27 (dk_at dksX9_fall_1 20 rfl rfl)
theorem dX9_fall_45 : decode cX9_fall 45 = .ok (.aload_n 0, 1) := dk_42 (dk_at dksX9_fall_1 21 rfl rfl)
theorem dX9_fall_46 : decode cX9_fall 46 = .ok (.getfield 72, 3) := dk_180 0 72 (dk_at dksX9_fall_2 0 rfl rfl)
theorem dX9_fall_49 : decode cX9_fall 49 = .ok (.iconst 4, 1) := dk_7 (dk_at dksX9_fall_2 3 rfl rfl)
theorem dX9_fall_50 : decode cX9_fall 50 = .ok (.iload_n 3, 1) := dk_29 (dk_at dksX9_fall_2 4 rfl rfl)
theorem dX9_fall_51 : decode cX9_fall 51 = .ok (.imul, 1) := dk_104 (dk_at dksX9_fall_2 5 rfl rfl)
theorem dX9_fall_52 : decode cX9_fall 52 = .ok (.iload 5, 2) := dk_21 5 (dk_at dksX9_fall_2 6 rfl rfl)
theorem dX9_fall_54 : decode cX9_fall 54 = .ok (.iadd, 1) := dk_96 (dk_at dksX9_fall_2 8 rfl rfl)
theorem dX9_fall_55 : decode cX9_fall 55 = .ok (.iaload, 1) := dk_46 (dk_at dksX9_fall_2 9 rfl rfl)
theorem dX9_fall_56 : decode cX9_fall 56 = .ok (.invokevirtual 354, 3) := dk_182 1 98 (dk_at dksX9_fall_2 10 rfl rfl)
theorem dX9_fall_59 : decode cX9_fall 59 = .ok (.istore 4, 2) := dk_54 4 (dk_at dksX9_fall_2 13 rfl rfl)
theorem dX9_fall_61 : decode cX9_fall 61 = .ok (.iinc 5 1, 3) := dk_132 5 1 (dk_at dksX9_fall_2 15 rfl rfl)
theorem dX9_fall_64 : decode cX9_fall 64 = .ok (.goto (-37), 3) := dk_167 255 219 (dk_at dksX9_fall_2 18 rfl rfl)
theorem dX9_fall_67 : decode cX9_fall 67 = .ok (.iload 4, 2) := dk_21 4 (dk_at dksX9_fall_2 21 rfl rfl)
theorem dX9_fall_69 : decode cX9_fall 69 = .ok (.ireturn, 1) := dk_172 (dk_at dksX9_fall_2 23 rfl rfl)
abbrev cX9_writeLone : ByteArray := prog_17_method_55_code
def yX9_writeLone : MethodName := ⟨RX9, "writeLone", "(III)I"⟩
def dkwX9_writeLone_2 : List UInt8 := [184, 0, 156, 153, 0, 14, 42, 29, 18, 160, 100, 182, 1, 82, 167, 0, 5, 16, 246, 172]
abbrev dktX9_writeLone_2 : List UInt8 := dkwX9_writeLone_2 ++ []
def dkwX9_writeLone_1 : List UInt8 := [167, 0, 4, 3, 172, 28, 5, 160, 0, 5, 3, 172, 28, 6, 160, 0, 26, 29, 18, 160, 19, 1, 104]
abbrev dktX9_writeLone_1 : List UInt8 := dkwX9_writeLone_1 ++ dktX9_writeLone_2
def dkwX9_writeLone_0 : List UInt8 := [28, 4, 160, 0, 27, 42, 27, 42, 180, 0, 60, 4, 46, 182, 0, 252, 153, 0, 11, 42, 27, 182, 1, 92]
abbrev dktX9_writeLone_0 : List UInt8 := dkwX9_writeLone_0 ++ dktX9_writeLone_1
theorem dksX9_writeLone_0 : cX9_writeLone.data.toList.drop 0 = dktX9_writeLone_0 := by decide +kernel
theorem dksX9_writeLone_1 : cX9_writeLone.data.toList.drop 24 = dktX9_writeLone_1 := dk_seg dksX9_writeLone_0 24 rfl rfl
theorem dksX9_writeLone_2 : cX9_writeLone.data.toList.drop 47 = dktX9_writeLone_2 := dk_seg dksX9_writeLone_1 23 rfl rfl
theorem dX9_writeLone_0 : decode cX9_writeLone 0 = .ok (.iload_n 2, 1) := dk_28 (dk_at dksX9_writeLone_0 0 rfl rfl)
theorem dX9_writeLone_1 : decode cX9_writeLone 1 = .ok (.iconst 1, 1) := dk_4 (dk_at dksX9_writeLone_0 1 rfl rfl)
theorem dX9_writeLone_2 : decode cX9_writeLone 2 = .ok (.if_icmp .ne 27, 3) := dk_160 0 27 (dk_at dksX9_writeLone_0 2 rfl rfl)
theorem dX9_writeLone_5 : decode cX9_writeLone 5 = .ok (.aload_n 0, 1) := dk_42 (dk_at dksX9_writeLone_0 5 rfl rfl)
theorem dX9_writeLone_6 : decode cX9_writeLone 6 = .ok (.iload_n 1, 1) := dk_27 (dk_at dksX9_writeLone_0 6 rfl rfl)
theorem dX9_writeLone_7 : decode cX9_writeLone 7 = .ok (.aload_n 0, 1) := dk_42 (dk_at dksX9_writeLone_0 7 rfl rfl)
theorem dX9_writeLone_8 : decode cX9_writeLone 8 = .ok (.getfield 60, 3) := dk_180 0 60 (dk_at dksX9_writeLone_0 8 rfl rfl)
theorem dX9_writeLone_11 : decode cX9_writeLone 11 = .ok (.iconst 1, 1) := dk_4 (dk_at dksX9_writeLone_0 11 rfl rfl)
theorem dX9_writeLone_12 : decode cX9_writeLone 12 = .ok (.iaload, 1) := dk_46 (dk_at dksX9_writeLone_0 12 rfl rfl)
theorem dX9_writeLone_13 : decode cX9_writeLone 13 = .ok (.invokevirtual 252, 3) := dk_182 0 252 (dk_at dksX9_writeLone_0 13 rfl rfl)
theorem dX9_writeLone_16 : decode cX9_writeLone 16 = .ok (.ifCond .eq 11, 3) := dk_153 0 11 (dk_at dksX9_writeLone_0 16 rfl rfl)
theorem dX9_writeLone_19 : decode cX9_writeLone 19 = .ok (.aload_n 0, 1) := dk_42 (dk_at dksX9_writeLone_0 19 rfl rfl)
theorem dX9_writeLone_20 : decode cX9_writeLone 20 = .ok (.iload_n 1, 1) := dk_27 (dk_at dksX9_writeLone_0 20 rfl rfl)
theorem dX9_writeLone_21 : decode cX9_writeLone 21 = .ok (.invokevirtual 348, 3) := dk_182 1 92 (dk_at dksX9_writeLone_0 21 rfl rfl)
theorem dX9_writeLone_24 : decode cX9_writeLone 24 = .ok (.goto 4, 3) := dk_167 0 4 (dk_at dksX9_writeLone_1 0 rfl rfl)
theorem dX9_writeLone_27 : decode cX9_writeLone 27 = .ok (.iconst 0, 1) := dk_3 (dk_at dksX9_writeLone_1 3 rfl rfl)
theorem dX9_writeLone_28 : decode cX9_writeLone 28 = .ok (.ireturn, 1) := dk_172 (dk_at dksX9_writeLone_1 4 rfl rfl)
theorem dX9_writeLone_29 : decode cX9_writeLone 29 = .ok (.iload_n 2, 1) := dk_28 (dk_at dksX9_writeLone_1 5 rfl rfl)
theorem dX9_writeLone_30 : decode cX9_writeLone 30 = .ok (.iconst 2, 1) := dk_5 (dk_at dksX9_writeLone_1 6 rfl rfl)
theorem dX9_writeLone_31 : decode cX9_writeLone 31 = .ok (.if_icmp .ne 5, 3) := dk_160 0 5 (dk_at dksX9_writeLone_1 7 rfl rfl)
theorem dX9_writeLone_34 : decode cX9_writeLone 34 = .ok (.iconst 0, 1) := dk_3 (dk_at dksX9_writeLone_1 10 rfl rfl)
theorem dX9_writeLone_35 : decode cX9_writeLone 35 = .ok (.ireturn, 1) := dk_172 (dk_at dksX9_writeLone_1 11 rfl rfl)
theorem dX9_writeLone_36 : decode cX9_writeLone 36 = .ok (.iload_n 2, 1) := dk_28 (dk_at dksX9_writeLone_1 12 rfl rfl)
theorem dX9_writeLone_37 : decode cX9_writeLone 37 = .ok (.iconst 3, 1) := dk_6 (dk_at dksX9_writeLone_1 13 rfl rfl)
theorem dX9_writeLone_38 : decode cX9_writeLone 38 = .ok (.if_icmp .ne 26, 3) := dk_160 0 26 (dk_at dksX9_writeLone_1 14 rfl rfl)
theorem dX9_writeLone_41 : decode cX9_writeLone 41 = .ok (.iload_n 3, 1) := dk_29 (dk_at dksX9_writeLone_1 17 rfl rfl)
theorem dX9_writeLone_42 : decode cX9_writeLone 42 = .ok (.ldc 160, 2) := dk_18 160 (dk_at dksX9_writeLone_1 18 rfl rfl)
theorem dX9_writeLone_44 : decode cX9_writeLone 44 = .ok (.ldc_w 360, 3) := dk_19 1 104 (dk_at dksX9_writeLone_1 20 rfl rfl)
theorem dX9_writeLone_47 : decode cX9_writeLone 47 = .ok (.invokestatic 156, 3) := dk_184 0 156 (dk_at dksX9_writeLone_2 0 rfl rfl)
theorem dX9_writeLone_50 : decode cX9_writeLone 50 = .ok (.ifCond .eq 14, 3) := dk_153 0 14 (dk_at dksX9_writeLone_2 3 rfl rfl)
theorem dX9_writeLone_53 : decode cX9_writeLone 53 = .ok (.aload_n 0, 1) := dk_42 (dk_at dksX9_writeLone_2 6 rfl rfl)
theorem dX9_writeLone_54 : decode cX9_writeLone 54 = .ok (.iload_n 3, 1) := dk_29 (dk_at dksX9_writeLone_2 7 rfl rfl)
theorem dX9_writeLone_55 : decode cX9_writeLone 55 = .ok (.ldc 160, 2) := dk_18 160 (dk_at dksX9_writeLone_2 8 rfl rfl)
theorem dX9_writeLone_57 : decode cX9_writeLone 57 = .ok (.isub, 1) := dk_100 (dk_at dksX9_writeLone_2 10 rfl rfl)
theorem dX9_writeLone_58 : decode cX9_writeLone 58 = .ok (.invokevirtual 338, 3) := dk_182 1 82 (dk_at dksX9_writeLone_2 11 rfl rfl)
theorem dX9_writeLone_61 : decode cX9_writeLone 61 = .ok (.goto 5, 3) := dk_167 0 5 (dk_at dksX9_writeLone_2 14 rfl rfl)
theorem dX9_writeLone_64 : decode cX9_writeLone 64 = .ok (.bipush (-10), 2) := dk_16 246 (dk_at dksX9_writeLone_2 17 rfl rfl)
theorem dX9_writeLone_66 : decode cX9_writeLone 66 = .ok (.ireturn, 1) := dk_172 (dk_at dksX9_writeLone_2 19 rfl rfl)
abbrev cX9_goHome : ByteArray := prog_17_method_56_code
def yX9_goHome : MethodName := ⟨RX9, "goHome", "(I)I"⟩
def dkwX9_goHome_0 : List UInt8 := [42, 180, 0, 9, 27, 46, 154, 0, 13, 42, 27, 3, 3, 182, 1, 85, 167, 0, 4, 3, 172]
abbrev dktX9_goHome_0 : List UInt8 := dkwX9_goHome_0 ++ []
theorem dksX9_goHome_0 : cX9_goHome.data.toList.drop 0 = dktX9_goHome_0 := by decide +kernel
theorem dX9_goHome_0 : decode cX9_goHome 0 = .ok (.aload_n 0, 1) := dk_42 (dk_at dksX9_goHome_0 0 rfl rfl)
theorem dX9_goHome_1 : decode cX9_goHome 1 = .ok (.getfield 9, 3) := dk_180 0 9 (dk_at dksX9_goHome_0 1 rfl rfl)
theorem dX9_goHome_4 : decode cX9_goHome 4 = .ok (.iload_n 1, 1) := dk_27 (dk_at dksX9_goHome_0 4 rfl rfl)
theorem dX9_goHome_5 : decode cX9_goHome 5 = .ok (.iaload, 1) := dk_46 (dk_at dksX9_goHome_0 5 rfl rfl)
theorem dX9_goHome_6 : decode cX9_goHome 6 = .ok (.ifCond .ne 13, 3) := dk_154 0 13 (dk_at dksX9_goHome_0 6 rfl rfl)
theorem dX9_goHome_9 : decode cX9_goHome 9 = .ok (.aload_n 0, 1) := dk_42 (dk_at dksX9_goHome_0 9 rfl rfl)
theorem dX9_goHome_10 : decode cX9_goHome 10 = .ok (.iload_n 1, 1) := dk_27 (dk_at dksX9_goHome_0 10 rfl rfl)
theorem dX9_goHome_11 : decode cX9_goHome 11 = .ok (.iconst 0, 1) := dk_3 (dk_at dksX9_goHome_0 11 rfl rfl)
theorem dX9_goHome_12 : decode cX9_goHome 12 = .ok (.iconst 0, 1) := dk_3 (dk_at dksX9_goHome_0 12 rfl rfl)
theorem dX9_goHome_13 : decode cX9_goHome 13 = .ok (.invokevirtual 341, 3) := dk_182 1 85 (dk_at dksX9_goHome_0 13 rfl rfl)
theorem dX9_goHome_16 : decode cX9_goHome 16 = .ok (.goto 4, 3) := dk_167 0 4 (dk_at dksX9_goHome_0 16 rfl rfl)
theorem dX9_goHome_19 : decode cX9_goHome 19 = .ok (.iconst 0, 1) := dk_3 (dk_at dksX9_goHome_0 19 rfl rfl)
theorem dX9_goHome_20 : decode cX9_goHome 20 = .ok (.ireturn, 1) := dk_172 (dk_at dksX9_goHome_0 20 rfl rfl)
abbrev cX9_transcode : ByteArray := prog_17_method_61_code
def yX9_transcode : MethodName := ⟨RX9, "transcode", "(IIII)I"⟩
def dkwX9_transcode_5 : List UInt8 := [156, 0, 12, 42, 21, 6, 182, 0, 166, 167, 0, 14, 42, 42, 180, 0, 90, 21, 6, 5, 182, 1, 118, 172]
abbrev dktX9_transcode_5 : List UInt8 := dkwX9_transcode_5 ++ []
def dkwX9_transcode_4 : List UInt8 := [172, 42, 29, 21, 4, 42, 180, 0, 84, 21, 5, 3, 17, 23, 112, 182, 1, 121, 54, 6, 21, 6]
abbrev dktX9_transcode_4 : List UInt8 := dkwX9_transcode_4 ++ dktX9_transcode_5
def dkwX9_transcode_3 : List UInt8 := [172, 42, 27, 28, 42, 180, 0, 84, 182, 1, 114, 54, 5, 21, 5, 156, 0, 10, 42, 21, 5, 182, 0, 166]
abbrev dktX9_transcode_3 : List UInt8 := dkwX9_transcode_3 ++ dktX9_transcode_4
def dkwX9_transcode_2 : List UInt8 := [28, 3, 6, 184, 0, 156, 153, 0, 13, 21, 4, 3, 7, 184, 0, 156, 154, 0, 9, 42, 2, 182, 0, 166]
abbrev dktX9_transcode_2 : List UInt8 := dkwX9_transcode_2 ++ dktX9_transcode_3
def dkwX9_transcode_1 : List UInt8 := [180, 0, 13, 27, 51, 153, 0, 12, 42, 180, 0, 13, 29, 51, 154, 0, 10, 42, 16, 251, 182, 0, 166, 172]
abbrev dktX9_transcode_1 : List UInt8 := dkwX9_transcode_1 ++ dktX9_transcode_2
def dkwX9_transcode_0 : List UInt8 := [42, 27, 182, 0, 170, 153, 0, 11, 42, 29, 182, 0, 170, 154, 0, 9, 42, 2, 182, 0, 166, 172, 42]
abbrev dktX9_transcode_0 : List UInt8 := dkwX9_transcode_0 ++ dktX9_transcode_1
theorem dksX9_transcode_0 : cX9_transcode.data.toList.drop 0 = dktX9_transcode_0 := by decide +kernel
theorem dksX9_transcode_1 : cX9_transcode.data.toList.drop 23 = dktX9_transcode_1 := dk_seg dksX9_transcode_0 23 rfl rfl
theorem dksX9_transcode_2 : cX9_transcode.data.toList.drop 47 = dktX9_transcode_2 := dk_seg dksX9_transcode_1 24 rfl rfl
theorem dksX9_transcode_3 : cX9_transcode.data.toList.drop 71 = dktX9_transcode_3 := dk_seg dksX9_transcode_2 24 rfl rfl
theorem dksX9_transcode_4 : cX9_transcode.data.toList.drop 95 = dktX9_transcode_4 := dk_seg dksX9_transcode_3 24 rfl rfl
theorem dksX9_transcode_5 : cX9_transcode.data.toList.drop 117 = dktX9_transcode_5 := dk_seg dksX9_transcode_4 22 rfl rfl
theorem dX9_transcode_0 : decode cX9_transcode 0 = .ok (.aload_n 0, 1) := dk_42 (dk_at dksX9_transcode_0 0 rfl rfl)
theorem dX9_transcode_1 : decode cX9_transcode 1 = .ok (.iload_n 1, 1) := dk_27 (dk_at dksX9_transcode_0 1 rfl rfl)
theorem dX9_transcode_2 : decode cX9_transcode 2 = .ok (.invokevirtual 170, 3) := dk_182 0 170 (dk_at dksX9_transcode_0 2 rfl rfl)
theorem dX9_transcode_5 : decode cX9_transcode 5 = .ok (.ifCond .eq 11, 3) := dk_153 0 11 (dk_at dksX9_transcode_0 5 rfl rfl)
theorem dX9_transcode_8 : decode cX9_transcode 8 = .ok (.aload_n 0, 1) := dk_42 (dk_at dksX9_transcode_0 8 rfl rfl)
theorem dX9_transcode_9 : decode cX9_transcode 9 = .ok (.iload_n 3, 1) := dk_29 (dk_at dksX9_transcode_0 9 rfl rfl)
theorem dX9_transcode_10 : decode cX9_transcode 10 = .ok (.invokevirtual 170, 3) := dk_182 0 170 (dk_at dksX9_transcode_0 10 rfl rfl)
theorem dX9_transcode_13 : decode cX9_transcode 13 = .ok (.ifCond .ne 9, 3) := dk_154 0 9 (dk_at dksX9_transcode_0 13 rfl rfl)
theorem dX9_transcode_16 : decode cX9_transcode 16 = .ok (.aload_n 0, 1) := dk_42 (dk_at dksX9_transcode_0 16 rfl rfl)
theorem dX9_transcode_17 : decode cX9_transcode 17 = .ok (.iconst (-1), 1) := dk_2 (dk_at dksX9_transcode_0 17 rfl rfl)
theorem dX9_transcode_18 : decode cX9_transcode 18 = .ok (.invokevirtual 166, 3) := dk_182 0 166 (dk_at dksX9_transcode_0 18 rfl rfl)
theorem dX9_transcode_21 : decode cX9_transcode 21 = .ok (.ireturn, 1) := dk_172 (dk_at dksX9_transcode_0 21 rfl rfl)
theorem dX9_transcode_22 : decode cX9_transcode 22 = .ok (.aload_n 0, 1) := dk_42 (dk_at dksX9_transcode_0 22 rfl rfl)
theorem dX9_transcode_23 : decode cX9_transcode 23 = .ok (.getfield 13, 3) := dk_180 0 13 (dk_at dksX9_transcode_1 0 rfl rfl)
theorem dX9_transcode_26 : decode cX9_transcode 26 = .ok (.iload_n 1, 1) := dk_27 (dk_at dksX9_transcode_1 3 rfl rfl)
theorem dX9_transcode_27 : decode cX9_transcode 27 = .ok (.baload, 1) := dk_51 (dk_at dksX9_transcode_1 4 rfl rfl)
theorem dX9_transcode_28 : decode cX9_transcode 28 = .ok (.ifCond .eq 12, 3) := dk_153 0 12 (dk_at dksX9_transcode_1 5 rfl rfl)
theorem dX9_transcode_31 : decode cX9_transcode 31 = .ok (.aload_n 0, 1) := dk_42 (dk_at dksX9_transcode_1 8 rfl rfl)
theorem dX9_transcode_32 : decode cX9_transcode 32 = .ok (.getfield 13, 3) := dk_180 0 13 (dk_at dksX9_transcode_1 9 rfl rfl)
theorem dX9_transcode_35 : decode cX9_transcode 35 = .ok (.iload_n 3, 1) := dk_29 (dk_at dksX9_transcode_1 12 rfl rfl)
theorem dX9_transcode_36 : decode cX9_transcode 36 = .ok (.baload, 1) := dk_51 (dk_at dksX9_transcode_1 13 rfl rfl)
theorem dX9_transcode_37 : decode cX9_transcode 37 = .ok (.ifCond .ne 10, 3) := dk_154 0 10 (dk_at dksX9_transcode_1 14 rfl rfl)
theorem dX9_transcode_40 : decode cX9_transcode 40 = .ok (.aload_n 0, 1) := dk_42 (dk_at dksX9_transcode_1 17 rfl rfl)
theorem dX9_transcode_41 : decode cX9_transcode 41 = .ok (.bipush (-5), 2) := dk_16 251 (dk_at dksX9_transcode_1 18 rfl rfl)
theorem dX9_transcode_43 : decode cX9_transcode 43 = .ok (.invokevirtual 166, 3) := dk_182 0 166 (dk_at dksX9_transcode_1 20 rfl rfl)
theorem dX9_transcode_46 : decode cX9_transcode 46 = .ok (.ireturn, 1) := dk_172 (dk_at dksX9_transcode_1 23 rfl rfl)
theorem dX9_transcode_47 : decode cX9_transcode 47 = .ok (.iload_n 2, 1) := dk_28 (dk_at dksX9_transcode_2 0 rfl rfl)
theorem dX9_transcode_48 : decode cX9_transcode 48 = .ok (.iconst 0, 1) := dk_3 (dk_at dksX9_transcode_2 1 rfl rfl)
theorem dX9_transcode_49 : decode cX9_transcode 49 = .ok (.iconst 3, 1) := dk_6 (dk_at dksX9_transcode_2 2 rfl rfl)
theorem dX9_transcode_50 : decode cX9_transcode 50 = .ok (.invokestatic 156, 3) := dk_184 0 156 (dk_at dksX9_transcode_2 3 rfl rfl)
theorem dX9_transcode_53 : decode cX9_transcode 53 = .ok (.ifCond .eq 13, 3) := dk_153 0 13 (dk_at dksX9_transcode_2 6 rfl rfl)
theorem dX9_transcode_56 : decode cX9_transcode 56 = .ok (.iload 4, 2) := dk_21 4 (dk_at dksX9_transcode_2 9 rfl rfl)
theorem dX9_transcode_58 : decode cX9_transcode 58 = .ok (.iconst 0, 1) := dk_3 (dk_at dksX9_transcode_2 11 rfl rfl)
theorem dX9_transcode_59 : decode cX9_transcode 59 = .ok (.iconst 4, 1) := dk_7 (dk_at dksX9_transcode_2 12 rfl rfl)
theorem dX9_transcode_60 : decode cX9_transcode 60 = .ok (.invokestatic 156, 3) := dk_184 0 156 (dk_at dksX9_transcode_2 13 rfl rfl)
theorem dX9_transcode_63 : decode cX9_transcode 63 = .ok (.ifCond .ne 9, 3) := dk_154 0 9 (dk_at dksX9_transcode_2 16 rfl rfl)
theorem dX9_transcode_66 : decode cX9_transcode 66 = .ok (.aload_n 0, 1) := dk_42 (dk_at dksX9_transcode_2 19 rfl rfl)
theorem dX9_transcode_67 : decode cX9_transcode 67 = .ok (.iconst (-1), 1) := dk_2 (dk_at dksX9_transcode_2 20 rfl rfl)
theorem dX9_transcode_68 : decode cX9_transcode 68 = .ok (.invokevirtual 166, 3) := dk_182 0 166 (dk_at dksX9_transcode_2 21 rfl rfl)
theorem dX9_transcode_71 : decode cX9_transcode 71 = .ok (.ireturn, 1) := dk_172 (dk_at dksX9_transcode_3 0 rfl rfl)
theorem dX9_transcode_72 : decode cX9_transcode 72 = .ok (.aload_n 0, 1) := dk_42 (dk_at dksX9_transcode_3 1 rfl rfl)
theorem dX9_transcode_73 : decode cX9_transcode 73 = .ok (.iload_n 1, 1) := dk_27 (dk_at dksX9_transcode_3 2 rfl rfl)
theorem dX9_transcode_74 : decode cX9_transcode 74 = .ok (.iload_n 2, 1) := dk_28 (dk_at dksX9_transcode_3 3 rfl rfl)
theorem dX9_transcode_75 : decode cX9_transcode 75 = .ok (.aload_n 0, 1) := dk_42 (dk_at dksX9_transcode_3 4 rfl rfl)
theorem dX9_transcode_76 : decode cX9_transcode 76 = .ok (.getfield 84, 3) := dk_180 0 84 (dk_at dksX9_transcode_3 5 rfl rfl)
theorem dX9_transcode_79 : decode cX9_transcode 79 = .ok (.invokevirtual 370, 3) := dk_182 1 114 (dk_at dksX9_transcode_3 8 rfl rfl)
theorem dX9_transcode_82 : decode cX9_transcode 82 = .ok (.istore 5, 2) := dk_54 5 (dk_at dksX9_transcode_3 11 rfl rfl)
theorem dX9_transcode_84 : decode cX9_transcode 84 = .ok (.iload 5, 2) := dk_21 5 (dk_at dksX9_transcode_3 13 rfl rfl)
theorem dX9_transcode_86 : decode cX9_transcode 86 = .ok (.ifCond .ge 10, 3) := dk_156 0 10 (dk_at dksX9_transcode_3 15 rfl rfl)
theorem dX9_transcode_89 : decode cX9_transcode 89 = .ok (.aload_n 0, 1) := dk_42 (dk_at dksX9_transcode_3 18 rfl rfl)
theorem dX9_transcode_90 : decode cX9_transcode 90 = .ok (.iload 5, 2) := dk_21 5 (dk_at dksX9_transcode_3 19 rfl rfl)
theorem dX9_transcode_92 : decode cX9_transcode 92 = .ok (.invokevirtual 166, 3) := dk_182 0 166 (dk_at dksX9_transcode_3 21 rfl rfl)
theorem dX9_transcode_95 : decode cX9_transcode 95 = .ok (.ireturn, 1) := dk_172 (dk_at dksX9_transcode_4 0 rfl rfl)
theorem dX9_transcode_96 : decode cX9_transcode 96 = .ok (.aload_n 0, 1) := dk_42 (dk_at dksX9_transcode_4 1 rfl rfl)
theorem dX9_transcode_97 : decode cX9_transcode 97 = .ok (.iload_n 3, 1) := dk_29 (dk_at dksX9_transcode_4 2 rfl rfl)
theorem dX9_transcode_98 : decode cX9_transcode 98 = .ok (.iload 4, 2) := dk_21 4 (dk_at dksX9_transcode_4 3 rfl rfl)
theorem dX9_transcode_100 : decode cX9_transcode 100 = .ok (.aload_n 0, 1) := dk_42 (dk_at dksX9_transcode_4 5 rfl rfl)
theorem dX9_transcode_101 : decode cX9_transcode 101 = .ok (.getfield 84, 3) := dk_180 0 84 (dk_at dksX9_transcode_4 6 rfl rfl)
theorem dX9_transcode_104 : decode cX9_transcode 104 = .ok (.iload 5, 2) := dk_21 5 (dk_at dksX9_transcode_4 9 rfl rfl)
theorem dX9_transcode_106 : decode cX9_transcode 106 = .ok (.iconst 0, 1) := dk_3 (dk_at dksX9_transcode_4 11 rfl rfl)
theorem dX9_transcode_107 : decode cX9_transcode 107 = .ok (.sipush 6000, 3) := dk_17 23 112 (dk_at dksX9_transcode_4 12 rfl rfl)
theorem dX9_transcode_110 : decode cX9_transcode 110 = .ok (.invokevirtual 377, 3) := dk_182 1 121 (dk_at dksX9_transcode_4 15 rfl rfl)
theorem dX9_transcode_113 : decode cX9_transcode 113 = .ok (.istore 6, 2) := dk_54 6 (dk_at dksX9_transcode_4 18 rfl rfl)
theorem dX9_transcode_115 : decode cX9_transcode 115 = .ok (.iload 6, 2) := dk_21 6 (dk_at dksX9_transcode_4 20 rfl rfl)
theorem dX9_transcode_117 : decode cX9_transcode 117 = .ok (.ifCond .ge 12, 3) := dk_156 0 12 (dk_at dksX9_transcode_5 0 rfl rfl)
theorem dX9_transcode_120 : decode cX9_transcode 120 = .ok (.aload_n 0, 1) := dk_42 (dk_at dksX9_transcode_5 3 rfl rfl)
theorem dX9_transcode_121 : decode cX9_transcode 121 = .ok (.iload 6, 2) := dk_21 6 (dk_at dksX9_transcode_5 4 rfl rfl)
theorem dX9_transcode_123 : decode cX9_transcode 123 = .ok (.invokevirtual 166, 3) := dk_182 0 166 (dk_at dksX9_transcode_5 6 rfl rfl)
theorem dX9_transcode_126 : decode cX9_transcode 126 = .ok (.goto 14, 3) := dk_167 0 14 (dk_at dksX9_transcode_5 9 rfl rfl)
theorem dX9_transcode_129 : decode cX9_transcode 129 = .ok (.aload_n 0, 1) := dk_42 (dk_at dksX9_transcode_5 12 rfl rfl)
theorem dX9_transcode_130 : decode cX9_transcode 130 = .ok (.aload_n 0, 1) := dk_42 (dk_at dksX9_transcode_5 13 rfl rfl)
theorem dX9_transcode_131 : decode cX9_transcode 131 = .ok (.getfield 90, 3) := dk_180 0 90 (dk_at dksX9_transcode_5 14 rfl rfl)
theorem dX9_transcode_134 : decode cX9_transcode 134 = .ok (.iload 6, 2) := dk_21 6 (dk_at dksX9_transcode_5 17 rfl rfl)
theorem dX9_transcode_136 : decode cX9_transcode 136 = .ok (.iconst 2, 1) := dk_5 (dk_at dksX9_transcode_5 19 rfl rfl)
theorem dX9_transcode_137 : decode cX9_transcode 137 = .ok (.invokevirtual 374, 3) := dk_182 1 118 (dk_at dksX9_transcode_5 20 rfl rfl)
theorem dX9_transcode_140 : decode cX9_transcode 140 = .ok (.ireturn, 1) := dk_172 (dk_at dksX9_transcode_5 23 rfl rfl)
abbrev cX9_result : ByteArray := prog_17_method_62_code
def yX9_result : MethodName := ⟨RX9, "result", "(I)I"⟩
def dkwX9_result_1 : List UInt8 := [180, 0, 56, 27, 46, 167, 0, 9, 42, 16, 254, 182, 0, 166, 172]
abbrev dktX9_result_1 : List UInt8 := dkwX9_result_1 ++ []
def dkwX9_result_0 : List UInt8 := [27, 3, 42, 180, 1, 10, 4, 100, 184, 0, 156, 153, 0, 19, 42, 180, 1, 7, 158, 0, 12, 42]
abbrev dktX9_result_0 : List UInt8 := dkwX9_result_0 ++ dktX9_result_1
theorem dksX9_result_0 : cX9_result.data.toList.drop 0 = dktX9_result_0 := by decide +kernel
theorem dksX9_result_1 : cX9_result.data.toList.drop 22 = dktX9_result_1 := dk_seg dksX9_result_0 22 rfl rfl
theorem dX9_result_0 : decode cX9_result 0 = .ok (.iload_n 1, 1) := dk_27 (dk_at dksX9_result_0 0 rfl rfl)
theorem dX9_result_1 : decode cX9_result 1 = .ok (.iconst 0, 1) := dk_3 (dk_at dksX9_result_0 1 rfl rfl)
theorem dX9_result_2 : decode cX9_result 2 = .ok (.aload_n 0, 1) := dk_42 (dk_at dksX9_result_0 2 rfl rfl)
theorem dX9_result_3 : decode cX9_result 3 = .ok (.getfield 266, 3) := dk_180 1 10 (dk_at dksX9_result_0 3 rfl rfl)
theorem dX9_result_6 : decode cX9_result 6 = .ok (.iconst 1, 1) := dk_4 (dk_at dksX9_result_0 6 rfl rfl)
theorem dX9_result_7 : decode cX9_result 7 = .ok (.isub, 1) := dk_100 (dk_at dksX9_result_0 7 rfl rfl)
theorem dX9_result_8 : decode cX9_result 8 = .ok (.invokestatic 156, 3) := dk_184 0 156 (dk_at dksX9_result_0 8 rfl rfl)
theorem dX9_result_11 : decode cX9_result 11 = .ok (.ifCond .eq 19, 3) := dk_153 0 19 (dk_at dksX9_result_0 11 rfl rfl)
theorem dX9_result_14 : decode cX9_result 14 = .ok (.aload_n 0, 1) := dk_42 (dk_at dksX9_result_0 14 rfl rfl)
theorem dX9_result_15 : decode cX9_result 15 = .ok (.getfield 263, 3) := dk_180 1 7 (dk_at dksX9_result_0 15 rfl rfl)
theorem dX9_result_18 : decode cX9_result 18 = .ok (.ifCond .le 12, 3) := dk_158 0 12 (dk_at dksX9_result_0 18 rfl rfl)
theorem dX9_result_21 : decode cX9_result 21 = .ok (.aload_n 0, 1) := dk_42 (dk_at dksX9_result_0 21 rfl rfl)
theorem dX9_result_22 : decode cX9_result 22 = .ok (.getfield 56, 3) := dk_180 0 56 (dk_at dksX9_result_1 0 rfl rfl)
theorem dX9_result_25 : decode cX9_result 25 = .ok (.iload_n 1, 1) := dk_27 (dk_at dksX9_result_1 3 rfl rfl)
theorem dX9_result_26 : decode cX9_result 26 = .ok (.iaload, 1) := dk_46 (dk_at dksX9_result_1 4 rfl rfl)
theorem dX9_result_27 : decode cX9_result 27 = .ok (.goto 9, 3) := dk_167 0 9 (dk_at dksX9_result_1 5 rfl rfl)
theorem dX9_result_30 : decode cX9_result 30 = .ok (.aload_n 0, 1) := dk_42 (dk_at dksX9_result_1 8 rfl rfl)
theorem dX9_result_31 : decode cX9_result 31 = .ok (.bipush (-2), 2) := dk_16 254 (dk_at dksX9_result_1 9 rfl rfl)
theorem dX9_result_33 : decode cX9_result 33 = .ok (.invokevirtual 166, 3) := dk_182 0 166 (dk_at dksX9_result_1 11 rfl rfl)
theorem dX9_result_36 : decode cX9_result 36 = .ok (.ireturn, 1) := dk_172 (dk_at dksX9_result_1 14 rfl rfl)
abbrev cX9_sign : ByteArray := prog_17_method_63_code
def yX9_sign : MethodName := ⟨RX9, "sign", "(II)I"⟩
def dkwX9_sign_1 : List UInt8 := [180, 0, 60, 27, 46, 62, 42, 180, 0, 60, 27, 28, 79, 29, 172]
abbrev dktX9_sign_1 : List UInt8 := dkwX9_sign_1 ++ []
def dkwX9_sign_0 : List UInt8 := [27, 3, 4, 184, 0, 156, 153, 0, 10, 28, 184, 0, 187, 154, 0, 9, 42, 2, 182, 0, 166, 172, 42]
abbrev dktX9_sign_0 : List UInt8 := dkwX9_sign_0 ++ dktX9_sign_1
theorem dksX9_sign_0 : cX9_sign.data.toList.drop 0 = dktX9_sign_0 := by decide +kernel
theorem dksX9_sign_1 : cX9_sign.data.toList.drop 23 = dktX9_sign_1 := dk_seg dksX9_sign_0 23 rfl rfl
theorem dX9_sign_0 : decode cX9_sign 0 = .ok (.iload_n 1, 1) := dk_27 (dk_at dksX9_sign_0 0 rfl rfl)
theorem dX9_sign_1 : decode cX9_sign 1 = .ok (.iconst 0, 1) := dk_3 (dk_at dksX9_sign_0 1 rfl rfl)
theorem dX9_sign_2 : decode cX9_sign 2 = .ok (.iconst 1, 1) := dk_4 (dk_at dksX9_sign_0 2 rfl rfl)
theorem dX9_sign_3 : decode cX9_sign 3 = .ok (.invokestatic 156, 3) := dk_184 0 156 (dk_at dksX9_sign_0 3 rfl rfl)
theorem dX9_sign_6 : decode cX9_sign 6 = .ok (.ifCond .eq 10, 3) := dk_153 0 10 (dk_at dksX9_sign_0 6 rfl rfl)
theorem dX9_sign_9 : decode cX9_sign 9 = .ok (.iload_n 2, 1) := dk_28 (dk_at dksX9_sign_0 9 rfl rfl)
theorem dX9_sign_10 : decode cX9_sign 10 = .ok (.invokestatic 187, 3) := dk_184 0 187 (dk_at dksX9_sign_0 10 rfl rfl)
theorem dX9_sign_13 : decode cX9_sign 13 = .ok (.ifCond .ne 9, 3) := dk_154 0 9 (dk_at dksX9_sign_0 13 rfl rfl)
theorem dX9_sign_16 : decode cX9_sign 16 = .ok (.aload_n 0, 1) := dk_42 (dk_at dksX9_sign_0 16 rfl rfl)
theorem dX9_sign_17 : decode cX9_sign 17 = .ok (.iconst (-1), 1) := dk_2 (dk_at dksX9_sign_0 17 rfl rfl)
theorem dX9_sign_18 : decode cX9_sign 18 = .ok (.invokevirtual 166, 3) := dk_182 0 166 (dk_at dksX9_sign_0 18 rfl rfl)
theorem dX9_sign_21 : decode cX9_sign 21 = .ok (.ireturn, 1) := dk_172 (dk_at dksX9_sign_0 21 rfl rfl)
theorem dX9_sign_22 : decode cX9_sign 22 = .ok (.aload_n 0, 1) := dk_42 (dk_at dksX9_sign_0 22 rfl rfl)
theorem dX9_sign_23 : decode cX9_sign 23 = .ok (.getfield 60, 3) := dk_180 0 60 (dk_at dksX9_sign_1 0 rfl rfl)
theorem dX9_sign_26 : decode cX9_sign 26 = .ok (.iload_n 1, 1) := dk_27 (dk_at dksX9_sign_1 3 rfl rfl)
theorem dX9_sign_27 : decode cX9_sign 27 = .ok (.iaload, 1) := dk_46 (dk_at dksX9_sign_1 4 rfl rfl)
theorem dX9_sign_28 : decode cX9_sign 28 = .ok (.istore_n 3, 1) := dk_62 (dk_at dksX9_sign_1 5 rfl rfl)
theorem dX9_sign_29 : decode cX9_sign 29 = .ok (.aload_n 0, 1) := dk_42 (dk_at dksX9_sign_1 6 rfl rfl)
theorem dX9_sign_30 : decode cX9_sign 30 = .ok (.getfield 60, 3) := dk_180 0 60 (dk_at dksX9_sign_1 7 rfl rfl)
theorem dX9_sign_33 : decode cX9_sign 33 = .ok (.iload_n 1, 1) := dk_27 (dk_at dksX9_sign_1 10 rfl rfl)
theorem dX9_sign_34 : decode cX9_sign 34 = .ok (.iload_n 2, 1) := dk_28 (dk_at dksX9_sign_1 11 rfl rfl)
theorem dX9_sign_35 : decode cX9_sign 35 = .ok (.iastore, 1) := dk_79 (dk_at dksX9_sign_1 12 rfl rfl)
theorem dX9_sign_36 : decode cX9_sign 36 = .ok (.iload_n 3, 1) := dk_29 (dk_at dksX9_sign_1 13 rfl rfl)
theorem dX9_sign_37 : decode cX9_sign 37 = .ok (.ireturn, 1) := dk_172 (dk_at dksX9_sign_1 14 rfl rfl)
abbrev cX9_fallback : ByteArray := prog_17_method_66_code
def yX9_fallback : MethodName := ⟨RX9, "fallback", "(I)I"⟩
def dkwX9_fallback_26 : List UInt8 := [167, 255, 225, 42, 21, 7, 182, 0, 166, 172, 42, 3, 181, 1, 2, 42, 180, 1, 89, 172]
abbrev dktX9_fallback_26 : List UInt8 := dkwX9_fallback_26 ++ []
def dkwX9_fallback_25 : List UInt8 := [180, 0, 72, 7, 21, 5, 104, 21, 8, 96, 42, 180, 0, 96, 16, 10, 21, 8, 96, 46, 79, 132, 8, 1]
abbrev dktX9_fallback_25 : List UInt8 := dkwX9_fallback_25 ++ dktX9_fallback_26
def dkwX9_fallback_24 : List UInt8 := [100, 181, 1, 89, 42, 180, 0, 69, 21, 5, 21, 6, 79, 3, 54, 8, 21, 8, 7, 162, 0, 31, 42]
abbrev dktX9_fallback_24 : List UInt8 := dkwX9_fallback_24 ++ dktX9_fallback_25
def dkwX9_fallback_23 : List UInt8 := [54, 7, 132, 8, 1, 167, 255, 216, 21, 7, 153, 0, 71, 21, 4, 156, 0, 13, 42, 89, 180, 1, 89, 4]
abbrev dktX9_fallback_23 : List UInt8 := dkwX9_fallback_23 ++ dktX9_fallback_24
def dkwX9_fallback_22 : List UInt8 := [154, 0, 32, 42, 21, 8, 42, 180, 0, 102, 182, 1, 125, 16, 16, 164, 0, 8, 16, 244, 167, 0, 4, 3]
abbrev dktX9_fallback_22 : List UInt8 := dkwX9_fallback_22 ++ dktX9_fallback_23
def dkwX9_fallback_21 : List UInt8 := [21, 8, 3, 79, 132, 8, 1, 167, 255, 236, 3, 54, 8, 21, 8, 42, 180, 1, 89, 162, 0, 37, 21, 7]
abbrev dktX9_fallback_21 : List UInt8 := dkwX9_fallback_21 ++ dktX9_fallback_22
def dkwX9_fallback_20 : List UInt8 := [54, 7, 132, 8, 1, 167, 255, 222, 3, 54, 8, 21, 8, 42, 180, 1, 89, 162, 0, 17, 42, 180, 0, 102]
abbrev dktX9_fallback_20 : List UInt8 := dkwX9_fallback_20 ++ dktX9_fallback_21
def dkwX9_fallback_19 : List UInt8 := [162, 0, 31, 21, 7, 154, 0, 26, 42, 21, 8, 182, 1, 129, 153, 0, 8, 16, 245, 167, 0, 4, 3]
abbrev dktX9_fallback_19 : List UInt8 := dkwX9_fallback_19 ++ dktX9_fallback_20
def dkwX9_fallback_18 : List UInt8 := [21, 7, 46, 79, 132, 7, 1, 167, 255, 228, 3, 54, 7, 3, 54, 8, 21, 8, 42, 180, 1, 89]
abbrev dktX9_fallback_18 : List UInt8 := dkwX9_fallback_18 ++ dktX9_fallback_19
def dkwX9_fallback_17 : List UInt8 := [3, 54, 7, 21, 7, 28, 162, 0, 28, 42, 180, 0, 72, 7, 21, 5, 104, 21, 7, 96, 42, 180, 0, 96]
abbrev dktX9_fallback_17 : List UInt8 := dkwX9_fallback_17 ++ dktX9_fallback_18
def dkwX9_fallback_16 : List UInt8 := [180, 1, 89, 4, 96, 181, 1, 89, 42, 180, 0, 66, 21, 5, 27, 79, 42, 180, 0, 69, 21, 5, 28, 79]
abbrev dktX9_fallback_16 : List UInt8 := dkwX9_fallback_16 ++ dktX9_fallback_17
def dkwX9_fallback_15 : List UInt8 := [7, 21, 5, 104, 21, 7, 96, 46, 79, 132, 7, 1, 167, 255, 225, 21, 4, 156, 0, 13, 42, 89]
abbrev dktX9_fallback_15 : List UInt8 := dkwX9_fallback_15 ++ dktX9_fallback_16
def dkwX9_fallback_14 : List UInt8 := [54, 6, 3, 54, 7, 21, 7, 7, 162, 0, 31, 42, 180, 0, 96, 16, 10, 21, 7, 96, 42, 180, 0, 72]
abbrev dktX9_fallback_14 : List UInt8 := dkwX9_fallback_14 ++ dktX9_fallback_15
def dkwX9_fallback_13 : List UInt8 := [167, 0, 5, 21, 4, 54, 5, 21, 4, 156, 0, 7, 3, 167, 0, 10, 42, 180, 0, 69, 21, 4, 46]
abbrev dktX9_fallback_13 : List UInt8 := dkwX9_fallback_13 ++ dktX9_fallback_14
def dkwX9_fallback_12 : List UInt8 := [180, 1, 89, 16, 40, 160, 0, 10, 42, 16, 250, 182, 0, 166, 172, 21, 4, 156, 0, 10, 42, 180, 1, 89]
abbrev dktX9_fallback_12 : List UInt8 := dkwX9_fallback_12 ++ dktX9_fallback_13
def dkwX9_fallback_11 : List UInt8 := [21, 5, 96, 46, 79, 132, 5, 1, 167, 255, 221, 42, 180, 1, 89, 172, 21, 4, 156, 0, 19, 42]
abbrev dktX9_fallback_11 : List UInt8 := dkwX9_fallback_11 ++ dktX9_fallback_12
def dkwX9_fallback_10 : List UInt8 := [162, 0, 35, 42, 180, 0, 72, 7, 21, 4, 104, 21, 5, 96, 42, 180, 0, 72, 7, 42, 180, 1, 89, 104]
abbrev dktX9_fallback_10 : List UInt8 := dkwX9_fallback_10 ++ dktX9_fallback_11
def dkwX9_fallback_9 : List UInt8 := [79, 42, 180, 0, 69, 21, 4, 42, 180, 0, 69, 42, 180, 1, 89, 46, 79, 3, 54, 5, 21, 5, 7]
abbrev dktX9_fallback_9 : List UInt8 := dkwX9_fallback_9 ++ dktX9_fallback_10
def dkwX9_fallback_8 : List UInt8 := [89, 180, 1, 89, 4, 100, 181, 1, 89, 42, 180, 0, 66, 21, 4, 42, 180, 0, 66, 42, 180, 1, 89, 46]
abbrev dktX9_fallback_8 : List UInt8 := dkwX9_fallback_8 ++ dktX9_fallback_9
def dkwX9_fallback_7 : List UInt8 := [42, 16, 248, 182, 0, 166, 172, 42, 27, 182, 1, 101, 54, 4, 28, 154, 0, 96, 21, 4, 155, 0, 86, 42]
abbrev dktX9_fallback_7 : List UInt8 := dkwX9_fallback_7 ++ dktX9_fallback_8
def dkwX9_fallback_6 : List UInt8 := [132, 2, 1, 29, 21, 5, 153, 0, 7, 5, 167, 0, 4, 4, 96, 62, 167, 255, 118, 28, 7, 164, 0, 10]
abbrev dktX9_fallback_6 : List UInt8 := dkwX9_fallback_6 ++ dktX9_fallback_7
def dkwX9_fallback_5 : List UInt8 := [16, 10, 120, 96, 42, 180, 0, 53, 29, 4, 96, 46, 96, 18, 160, 100, 167, 0, 5, 21, 4, 79]
abbrev dktX9_fallback_5 : List UInt8 := dkwX9_fallback_5 ++ dktX9_fallback_6
def dkwX9_fallback_4 : List UInt8 := [42, 16, 248, 182, 0, 166, 172, 42, 180, 0, 96, 28, 21, 5, 153, 0, 29, 18, 236, 21, 4, 18, 154, 100]
abbrev dktX9_fallback_4 : List UInt8 := dkwX9_fallback_4 ++ dktX9_fallback_5
def dkwX9_fallback_3 : List UInt8 := [3, 54, 5, 21, 5, 154, 0, 26, 21, 4, 184, 1, 48, 154, 0, 11, 21, 4, 184, 1, 45, 153, 0, 10]
abbrev dktX9_fallback_3 : List UInt8 := dkwX9_fallback_3 ++ dktX9_fallback_4
def dkwX9_fallback_2 : List UInt8 := [180, 1, 2, 162, 0, 21, 42, 180, 0, 53, 29, 4, 96, 46, 184, 1, 45, 153, 0, 7, 4, 167, 0, 4]
abbrev dktX9_fallback_2 : List UInt8 := dkwX9_fallback_2 ++ dktX9_fallback_3
def dkwX9_fallback_1 : List UInt8 := [162, 0, 136, 42, 180, 0, 53, 29, 46, 54, 4, 21, 4, 184, 1, 48, 153, 0, 31, 29, 4, 96, 42]
abbrev dktX9_fallback_1 : List UInt8 := dkwX9_fallback_1 ++ dktX9_fallback_2
def dkwX9_fallback_0 : List UInt8 := [27, 184, 0, 187, 154, 0, 9, 42, 2, 182, 0, 166, 172, 3, 61, 3, 62, 29, 42, 180, 1, 2]
abbrev dktX9_fallback_0 : List UInt8 := dkwX9_fallback_0 ++ dktX9_fallback_1
theorem dksX9_fallback_0 : cX9_fallback.data.toList.drop 0 = dktX9_fallback_0 := by decide +kernel
theorem dksX9_fallback_1 : cX9_fallback.data.toList.drop 22 = dktX9_fallback_1 := dk_seg dksX9_fallback_0 22 rfl rfl
theorem dksX9_fallback_2 : cX9_fallback.data.toList.drop 45 = dktX9_fallback_2 := dk_seg dksX9_fallback_1 23 rfl rfl
theorem dksX9_fallback_3 : cX9_fallback.data.toList.drop 69 = dktX9_fallback_3 := dk_seg dksX9_fallback_2 24 rfl rfl
theorem dksX9_fallback_4 : cX9_fallback.data.toList.drop 93 = dktX9_fallback_4 := dk_seg dksX9_fallback_3 24 rfl rfl
theorem dksX9_fallback_5 : cX9_fallback.data.toList.drop 117 = dktX9_fallback_5 := dk_seg dksX9_fallback_4 24 rfl rfl
theorem dksX9_fallback_6 : cX9_fallback.data.toList.drop 139 = dktX9_fallback_6 := dk_seg dksX9_fallback_5 22 rfl rfl
theorem dksX9_fallback_7 : cX9_fallback.data.toList.drop 163 = dktX9_fallback_7 := dk_seg dksX9_fallback_6 24 rfl rfl
theorem dksX9_fallback_8 : cX9_fallback.data.toList.drop 187 = dktX9_fallback_8 := dk_seg dksX9_fallback_7 24 rfl rfl
theorem dksX9_fallback_9 : cX9_fallback.data.toList.drop 211 = dktX9_fallback_9 := dk_seg dksX9_fallback_8 24 rfl rfl
theorem dksX9_fallback_10 : cX9_fallback.data.toList.drop 234 = dktX9_fallback_10 := dk_seg dksX9_fallback_9 23 rfl rfl
theorem dksX9_fallback_11 : cX9_fallback.data.toList.drop 258 = dktX9_fallback_11 := dk_seg dksX9_fallback_10 24 rfl rfl
theorem dksX9_fallback_12 : cX9_fallback.data.toList.drop 280 = dktX9_fallback_12 := dk_seg dksX9_fallback_11 22 rfl rfl
theorem dksX9_fallback_13 : cX9_fallback.data.toList.drop 304 = dktX9_fallback_13 := dk_seg dksX9_fallback_12 24 rfl rfl
theorem dksX9_fallback_14 : cX9_fallback.data.toList.drop 327 = dktX9_fallback_14 := dk_seg dksX9_fallback_13 23 rfl rfl
theorem dksX9_fallback_15 : cX9_fallback.data.toList.drop 351 = dktX9_fallback_15 := dk_seg dksX9_fallback_14 24 rfl rfl
theorem dksX9_fallback_16 : cX9_fallback.data.toList.drop 373 = dktX9_fallback_16 := dk_seg dksX9_fallback_15 22 rfl rfl
theorem dksX9_fallback_17 : cX9_fallback.data.toList.drop 397 = dktX9_fallback_17 := dk_seg dksX9_fallback_16 24 rfl rfl
theorem dksX9_fallback_18 : cX9_fallback.data.toList.drop 421 = dktX9_fallback_18 := dk_seg dksX9_fallback_17 24 rfl rfl
theorem dksX9_fallback_19 : cX9_fallback.data.toList.drop 443 = dktX9_fallback_19 := dk_seg dksX9_fallback_18 22 rfl rfl
theorem dksX9_fallback_20 : cX9_fallback.data.toList.drop 466 = dktX9_fallback_20 := dk_seg dksX9_fallback_19 23 rfl rfl
theorem dksX9_fallback_21 : cX9_fallback.data.toList.drop 490 = dktX9_fallback_21 := dk_seg dksX9_fallback_20 24 rfl rfl
theorem dksX9_fallback_22 : cX9_fallback.data.toList.drop 514 = dktX9_fallback_22 := dk_seg dksX9_fallback_21 24 rfl rfl
theorem dksX9_fallback_23 : cX9_fallback.data.toList.drop 538 = dktX9_fallback_23 := dk_seg dksX9_fallback_22 24 rfl rfl
theorem dksX9_fallback_24 : cX9_fallback.data.toList.drop 562 = dktX9_fallback_24 := dk_seg dksX9_fallback_23 24 rfl rfl
theorem dksX9_fallback_25 : cX9_fallback.data.toList.drop 585 = dktX9_fallback_25 := dk_seg dksX9_fallback_24 23 rfl rfl
theorem dksX9_fallback_26 : cX9_fallback.data.toList.drop 609 = dktX9_fallback_26 := dk_seg dksX9_fallback_25 24 rfl rfl
theorem dX9_fallback_0 : decode cX9_fallback 0 = .ok (.iload_n 1, 1) := dk_27 (dk_at dksX9_fallback_0 0 rfl rfl)
theorem dX9_fallback_1 : decode cX9_fallback 1 = .ok (.invokestatic 187, 3) := dk_184 0 187 (dk_at dksX9_fallback_0 1 rfl rfl)
theorem dX9_fallback_4 : decode cX9_fallback 4 = .ok (.ifCond .ne 9, 3) := dk_154 0 9 (dk_at dksX9_fallback_0 4 rfl rfl)
theorem dX9_fallback_7 : decode cX9_fallback 7 = .ok (.aload_n 0, 1) := dk_42 (dk_at dksX9_fallback_0 7 rfl rfl)
theorem dX9_fallback_8 : decode cX9_fallback 8 = .ok (.iconst (-1), 1) := dk_2 (dk_at dksX9_fallback_0 8 rfl rfl)
theorem dX9_fallback_9 : decode cX9_fallback 9 = .ok (.invokevirtual 166, 3) := dk_182 0 166 (dk_at dksX9_fallback_0 9 rfl rfl)
theorem dX9_fallback_12 : decode cX9_fallback 12 = .ok (.ireturn, 1) := dk_172 (dk_at dksX9_fallback_0 12 rfl rfl)
theorem dX9_fallback_13 : decode cX9_fallback 13 = .ok (.iconst 0, 1) := dk_3 (dk_at dksX9_fallback_0 13 rfl rfl)
theorem dX9_fallback_14 : decode cX9_fallback 14 = .ok (.istore_n 2, 1) := dk_61 (dk_at dksX9_fallback_0 14 rfl rfl)
theorem dX9_fallback_15 : decode cX9_fallback 15 = .ok (.iconst 0, 1) := dk_3 (dk_at dksX9_fallback_0 15 rfl rfl)
theorem dX9_fallback_16 : decode cX9_fallback 16 = .ok (.istore_n 3, 1) := dk_62 (dk_at dksX9_fallback_0 16 rfl rfl)
theorem dX9_fallback_17 : decode cX9_fallback 17 = .ok (.iload_n 3, 1) := dk_29 (dk_at dksX9_fallback_0 17 rfl rfl)
theorem dX9_fallback_18 : decode cX9_fallback 18 = .ok (.aload_n 0, 1) := dk_42 (dk_at dksX9_fallback_0 18 rfl rfl)
theorem dX9_fallback_19 : decode cX9_fallback 19 = .ok (.getfield 258, 3) := dk_180 1 2 (dk_at dksX9_fallback_0 19 rfl rfl)
theorem dX9_fallback_22 : decode cX9_fallback 22 = .ok (.if_icmp .ge 136, 3) := dk_162 0 136 (dk_at dksX9_fallback_1 0 rfl rfl)
theorem dX9_fallback_25 : decode cX9_fallback 25 = .ok (.aload_n 0, 1) := dk_42 (dk_at dksX9_fallback_1 3 rfl rfl)
theorem dX9_fallback_26 : decode cX9_fallback 26 = .ok (.getfield 53, 3) := dk_180 0 53 (dk_at dksX9_fallback_1 4 rfl rfl)
theorem dX9_fallback_29 : decode cX9_fallback 29 = .ok (.iload_n 3, 1) := dk_29 (dk_at dksX9_fallback_1 7 rfl rfl)
theorem dX9_fallback_30 : decode cX9_fallback 30 = .ok (.iaload, 1) := dk_46 (dk_at dksX9_fallback_1 8 rfl rfl)
theorem dX9_fallback_31 : decode cX9_fallback 31 = .ok (.istore 4, 2) := dk_54 4 (dk_at dksX9_fallback_1 9 rfl rfl)
theorem dX9_fallback_33 : decode cX9_fallback 33 = .ok (.iload 4, 2) := dk_21 4 (dk_at dksX9_fallback_1 11 rfl rfl)
theorem dX9_fallback_35 : decode cX9_fallback 35 = .ok (.invokestatic 304, 3) := dk_184 1 48 (dk_at dksX9_fallback_1 13 rfl rfl)
theorem dX9_fallback_38 : decode cX9_fallback 38 = .ok (.ifCond .eq 31, 3) := dk_153 0 31 (dk_at dksX9_fallback_1 16 rfl rfl)
theorem dX9_fallback_41 : decode cX9_fallback 41 = .ok (.iload_n 3, 1) := dk_29 (dk_at dksX9_fallback_1 19 rfl rfl)
theorem dX9_fallback_42 : decode cX9_fallback 42 = .ok (.iconst 1, 1) := dk_4 (dk_at dksX9_fallback_1 20 rfl rfl)
theorem dX9_fallback_43 : decode cX9_fallback 43 = .ok (.iadd, 1) := dk_96 (dk_at dksX9_fallback_1 21 rfl rfl)
theorem dX9_fallback_44 : decode cX9_fallback 44 = .ok (.aload_n 0, 1) := dk_42 (dk_at dksX9_fallback_1 22 rfl rfl)
theorem dX9_fallback_45 : decode cX9_fallback 45 = .ok (.getfield 258, 3) := dk_180 1 2 (dk_at dksX9_fallback_2 0 rfl rfl)
theorem dX9_fallback_48 : decode cX9_fallback 48 = .ok (.if_icmp .ge 21, 3) := dk_162 0 21 (dk_at dksX9_fallback_2 3 rfl rfl)
theorem dX9_fallback_51 : decode cX9_fallback 51 = .ok (.aload_n 0, 1) := dk_42 (dk_at dksX9_fallback_2 6 rfl rfl)
theorem dX9_fallback_52 : decode cX9_fallback 52 = .ok (.getfield 53, 3) := dk_180 0 53 (dk_at dksX9_fallback_2 7 rfl rfl)
theorem dX9_fallback_55 : decode cX9_fallback 55 = .ok (.iload_n 3, 1) := dk_29 (dk_at dksX9_fallback_2 10 rfl rfl)
theorem dX9_fallback_56 : decode cX9_fallback 56 = .ok (.iconst 1, 1) := dk_4 (dk_at dksX9_fallback_2 11 rfl rfl)
theorem dX9_fallback_57 : decode cX9_fallback 57 = .ok (.iadd, 1) := dk_96 (dk_at dksX9_fallback_2 12 rfl rfl)
theorem dX9_fallback_58 : decode cX9_fallback 58 = .ok (.iaload, 1) := dk_46 (dk_at dksX9_fallback_2 13 rfl rfl)
theorem dX9_fallback_59 : decode cX9_fallback 59 = .ok (.invokestatic 301, 3) := dk_184 1 45 (dk_at dksX9_fallback_2 14 rfl rfl)
theorem dX9_fallback_62 : decode cX9_fallback 62 = .ok (.ifCond .eq 7, 3) := dk_153 0 7 (dk_at dksX9_fallback_2 17 rfl rfl)
theorem dX9_fallback_65 : decode cX9_fallback 65 = .ok (.iconst 1, 1) := dk_4 (dk_at dksX9_fallback_2 20 rfl rfl)
theorem dX9_fallback_66 : decode cX9_fallback 66 = .ok (.goto 4, 3) := dk_167 0 4 (dk_at dksX9_fallback_2 21 rfl rfl)
theorem dX9_fallback_69 : decode cX9_fallback 69 = .ok (.iconst 0, 1) := dk_3 (dk_at dksX9_fallback_3 0 rfl rfl)
theorem dX9_fallback_70 : decode cX9_fallback 70 = .ok (.istore 5, 2) := dk_54 5 (dk_at dksX9_fallback_3 1 rfl rfl)
theorem dX9_fallback_72 : decode cX9_fallback 72 = .ok (.iload 5, 2) := dk_21 5 (dk_at dksX9_fallback_3 3 rfl rfl)
theorem dX9_fallback_74 : decode cX9_fallback 74 = .ok (.ifCond .ne 26, 3) := dk_154 0 26 (dk_at dksX9_fallback_3 5 rfl rfl)
theorem dX9_fallback_77 : decode cX9_fallback 77 = .ok (.iload 4, 2) := dk_21 4 (dk_at dksX9_fallback_3 8 rfl rfl)
theorem dX9_fallback_79 : decode cX9_fallback 79 = .ok (.invokestatic 304, 3) := dk_184 1 48 (dk_at dksX9_fallback_3 10 rfl rfl)
theorem dX9_fallback_82 : decode cX9_fallback 82 = .ok (.ifCond .ne 11, 3) := dk_154 0 11 (dk_at dksX9_fallback_3 13 rfl rfl)
theorem dX9_fallback_85 : decode cX9_fallback 85 = .ok (.iload 4, 2) := dk_21 4 (dk_at dksX9_fallback_3 16 rfl rfl)
theorem dX9_fallback_87 : decode cX9_fallback 87 = .ok (.invokestatic 301, 3) := dk_184 1 45 (dk_at dksX9_fallback_3 18 rfl rfl)
theorem dX9_fallback_90 : decode cX9_fallback 90 = .ok (.ifCond .eq 10, 3) := dk_153 0 10 (dk_at dksX9_fallback_3 21 rfl rfl)
theorem dX9_fallback_93 : decode cX9_fallback 93 = .ok (.aload_n 0, 1) := dk_42 (dk_at dksX9_fallback_4 0 rfl rfl)
theorem dX9_fallback_94 : decode cX9_fallback 94 = .ok (.bipush (-8), 2) := dk_16 248 (dk_at dksX9_fallback_4 1 rfl rfl)
theorem dX9_fallback_96 : decode cX9_fallback 96 = .ok (.invokevirtual 166, 3) := dk_182 0 166 (dk_at dksX9_fallback_4 3 rfl rfl)
theorem dX9_fallback_99 : decode cX9_fallback 99 = .ok (.ireturn, 1) := dk_172 (dk_at dksX9_fallback_4 6 rfl rfl)
theorem dX9_fallback_100 : decode cX9_fallback 100 = .ok (.aload_n 0, 1) := dk_42 (dk_at dksX9_fallback_4 7 rfl rfl)
theorem dX9_fallback_101 : decode cX9_fallback 101 = .ok (.getfield 96, 3) := dk_180 0 96 (dk_at dksX9_fallback_4 8 rfl rfl)
theorem dX9_fallback_104 : decode cX9_fallback 104 = .ok (.iload_n 2, 1) := dk_28 (dk_at dksX9_fallback_4 11 rfl rfl)
theorem dX9_fallback_105 : decode cX9_fallback 105 = .ok (.iload 5, 2) := dk_21 5 (dk_at dksX9_fallback_4 12 rfl rfl)
theorem dX9_fallback_107 : decode cX9_fallback 107 = .ok (.ifCond .eq 29, 3) := dk_153 0 29 (dk_at dksX9_fallback_4 14 rfl rfl)
theorem dX9_fallback_110 : decode cX9_fallback 110 = .ok (.ldc 236, 2) := dk_18 236 (dk_at dksX9_fallback_4 17 rfl rfl)
theorem dX9_fallback_112 : decode cX9_fallback 112 = .ok (.iload 4, 2) := dk_21 4 (dk_at dksX9_fallback_4 19 rfl rfl)
theorem dX9_fallback_114 : decode cX9_fallback 114 = .ok (.ldc 154, 2) := dk_18 154 (dk_at dksX9_fallback_4 21 rfl rfl)
theorem dX9_fallback_116 : decode cX9_fallback 116 = .ok (.isub, 1) := dk_100 (dk_at dksX9_fallback_4 23 rfl rfl)
theorem dX9_fallback_117 : decode cX9_fallback 117 = .ok (.bipush 10, 2) := dk_16 10 (dk_at dksX9_fallback_5 0 rfl rfl)
theorem dX9_fallback_119 : decode cX9_fallback 119 = .ok (.ishl, 1) := dk_120 (dk_at dksX9_fallback_5 2 rfl rfl)
theorem dX9_fallback_120 : decode cX9_fallback 120 = .ok (.iadd, 1) := dk_96 (dk_at dksX9_fallback_5 3 rfl rfl)
theorem dX9_fallback_121 : decode cX9_fallback 121 = .ok (.aload_n 0, 1) := dk_42 (dk_at dksX9_fallback_5 4 rfl rfl)
theorem dX9_fallback_122 : decode cX9_fallback 122 = .ok (.getfield 53, 3) := dk_180 0 53 (dk_at dksX9_fallback_5 5 rfl rfl)
theorem dX9_fallback_125 : decode cX9_fallback 125 = .ok (.iload_n 3, 1) := dk_29 (dk_at dksX9_fallback_5 8 rfl rfl)
theorem dX9_fallback_126 : decode cX9_fallback 126 = .ok (.iconst 1, 1) := dk_4 (dk_at dksX9_fallback_5 9 rfl rfl)
theorem dX9_fallback_127 : decode cX9_fallback 127 = .ok (.iadd, 1) := dk_96 (dk_at dksX9_fallback_5 10 rfl rfl)
theorem dX9_fallback_128 : decode cX9_fallback 128 = .ok (.iaload, 1) := dk_46 (dk_at dksX9_fallback_5 11 rfl rfl)
theorem dX9_fallback_129 : decode cX9_fallback 129 = .ok (.iadd, 1) := dk_96 (dk_at dksX9_fallback_5 12 rfl rfl)
theorem dX9_fallback_130 : decode cX9_fallback 130 = .ok (.ldc 160, 2) := dk_18 160 (dk_at dksX9_fallback_5 13 rfl rfl)
theorem dX9_fallback_132 : decode cX9_fallback 132 = .ok (.isub, 1) := dk_100 (dk_at dksX9_fallback_5 15 rfl rfl)
theorem dX9_fallback_133 : decode cX9_fallback 133 = .ok (.goto 5, 3) := dk_167 0 5 (dk_at dksX9_fallback_5 16 rfl rfl)
theorem dX9_fallback_136 : decode cX9_fallback 136 = .ok (.iload 4, 2) := dk_21 4 (dk_at dksX9_fallback_5 19 rfl rfl)
theorem dX9_fallback_138 : decode cX9_fallback 138 = .ok (.iastore, 1) := dk_79 (dk_at dksX9_fallback_5 21 rfl rfl)
theorem dX9_fallback_139 : decode cX9_fallback 139 = .ok (.iinc 2 1, 3) := dk_132 2 1 (dk_at dksX9_fallback_6 0 rfl rfl)
theorem dX9_fallback_142 : decode cX9_fallback 142 = .ok (.iload_n 3, 1) := dk_29 (dk_at dksX9_fallback_6 3 rfl rfl)
theorem dX9_fallback_143 : decode cX9_fallback 143 = .ok (.iload 5, 2) := dk_21 5 (dk_at dksX9_fallback_6 4 rfl rfl)
theorem dX9_fallback_145 : decode cX9_fallback 145 = .ok (.ifCond .eq 7, 3) := dk_153 0 7 (dk_at dksX9_fallback_6 6 rfl rfl)
theorem dX9_fallback_148 : decode cX9_fallback 148 = .ok (.iconst 2, 1) := dk_5 (dk_at dksX9_fallback_6 9 rfl rfl)
theorem dX9_fallback_149 : decode cX9_fallback 149 = .ok (.goto 4, 3) := dk_167 0 4 (dk_at dksX9_fallback_6 10 rfl rfl)
theorem dX9_fallback_152 : decode cX9_fallback 152 = .ok (.iconst 1, 1) := dk_4 (dk_at dksX9_fallback_6 13 rfl rfl)
theorem dX9_fallback_153 : decode cX9_fallback 153 = .ok (.iadd, 1) := dk_96 (dk_at dksX9_fallback_6 14 rfl rfl)
theorem dX9_fallback_154 : decode cX9_fallback 154 = .ok (.istore_n 3, 1) := dk_62 (dk_at dksX9_fallback_6 15 rfl rfl)
theorem dX9_fallback_155 : decode cX9_fallback 155 = .ok (.goto (-138), 3) := dk_167 255 118 (dk_at dksX9_fallback_6 16 rfl rfl)
theorem dX9_fallback_158 : decode cX9_fallback 158 = .ok (.iload_n 2, 1) := dk_28 (dk_at dksX9_fallback_6 19 rfl rfl)
theorem dX9_fallback_159 : decode cX9_fallback 159 = .ok (.iconst 4, 1) := dk_7 (dk_at dksX9_fallback_6 20 rfl rfl)
theorem dX9_fallback_160 : decode cX9_fallback 160 = .ok (.if_icmp .le 10, 3) := dk_164 0 10 (dk_at dksX9_fallback_6 21 rfl rfl)
theorem dX9_fallback_163 : decode cX9_fallback 163 = .ok (.aload_n 0, 1) := dk_42 (dk_at dksX9_fallback_7 0 rfl rfl)
theorem dX9_fallback_164 : decode cX9_fallback 164 = .ok (.bipush (-8), 2) := dk_16 248 (dk_at dksX9_fallback_7 1 rfl rfl)
theorem dX9_fallback_166 : decode cX9_fallback 166 = .ok (.invokevirtual 166, 3) := dk_182 0 166 (dk_at dksX9_fallback_7 3 rfl rfl)
theorem dX9_fallback_169 : decode cX9_fallback 169 = .ok (.ireturn, 1) := dk_172 (dk_at dksX9_fallback_7 6 rfl rfl)
theorem dX9_fallback_170 : decode cX9_fallback 170 = .ok (.aload_n 0, 1) := dk_42 (dk_at dksX9_fallback_7 7 rfl rfl)
theorem dX9_fallback_171 : decode cX9_fallback 171 = .ok (.iload_n 1, 1) := dk_27 (dk_at dksX9_fallback_7 8 rfl rfl)
theorem dX9_fallback_172 : decode cX9_fallback 172 = .ok (.invokevirtual 357, 3) := dk_182 1 101 (dk_at dksX9_fallback_7 9 rfl rfl)
theorem dX9_fallback_175 : decode cX9_fallback 175 = .ok (.istore 4, 2) := dk_54 4 (dk_at dksX9_fallback_7 12 rfl rfl)
theorem dX9_fallback_177 : decode cX9_fallback 177 = .ok (.iload_n 2, 1) := dk_28 (dk_at dksX9_fallback_7 14 rfl rfl)
theorem dX9_fallback_178 : decode cX9_fallback 178 = .ok (.ifCond .ne 96, 3) := dk_154 0 96 (dk_at dksX9_fallback_7 15 rfl rfl)
theorem dX9_fallback_181 : decode cX9_fallback 181 = .ok (.iload 4, 2) := dk_21 4 (dk_at dksX9_fallback_7 18 rfl rfl)
theorem dX9_fallback_183 : decode cX9_fallback 183 = .ok (.ifCond .lt 86, 3) := dk_155 0 86 (dk_at dksX9_fallback_7 20 rfl rfl)
theorem dX9_fallback_186 : decode cX9_fallback 186 = .ok (.aload_n 0, 1) := dk_42 (dk_at dksX9_fallback_7 23 rfl rfl)
theorem dX9_fallback_187 : decode cX9_fallback 187 = .ok (.dup, 1) := dk_89 (dk_at dksX9_fallback_8 0 rfl rfl)
theorem dX9_fallback_188 : decode cX9_fallback 188 = .ok (.getfield 345, 3) := dk_180 1 89 (dk_at dksX9_fallback_8 1 rfl rfl)
theorem dX9_fallback_191 : decode cX9_fallback 191 = .ok (.iconst 1, 1) := dk_4 (dk_at dksX9_fallback_8 4 rfl rfl)
theorem dX9_fallback_192 : decode cX9_fallback 192 = .ok (.isub, 1) := dk_100 (dk_at dksX9_fallback_8 5 rfl rfl)
theorem dX9_fallback_193 : decode cX9_fallback 193 = .ok (.putfield 345, 3) := dk_181 1 89 (dk_at dksX9_fallback_8 6 rfl rfl)
theorem dX9_fallback_196 : decode cX9_fallback 196 = .ok (.aload_n 0, 1) := dk_42 (dk_at dksX9_fallback_8 9 rfl rfl)
theorem dX9_fallback_197 : decode cX9_fallback 197 = .ok (.getfield 66, 3) := dk_180 0 66 (dk_at dksX9_fallback_8 10 rfl rfl)
theorem dX9_fallback_200 : decode cX9_fallback 200 = .ok (.iload 4, 2) := dk_21 4 (dk_at dksX9_fallback_8 13 rfl rfl)
theorem dX9_fallback_202 : decode cX9_fallback 202 = .ok (.aload_n 0, 1) := dk_42 (dk_at dksX9_fallback_8 15 rfl rfl)
theorem dX9_fallback_203 : decode cX9_fallback 203 = .ok (.getfield 66, 3) := dk_180 0 66 (dk_at dksX9_fallback_8 16 rfl rfl)
theorem dX9_fallback_206 : decode cX9_fallback 206 = .ok (.aload_n 0, 1) := dk_42 (dk_at dksX9_fallback_8 19 rfl rfl)
theorem dX9_fallback_207 : decode cX9_fallback 207 = .ok (.getfield 345, 3) := dk_180 1 89 (dk_at dksX9_fallback_8 20 rfl rfl)
theorem dX9_fallback_210 : decode cX9_fallback 210 = .ok (.iaload, 1) := dk_46 (dk_at dksX9_fallback_8 23 rfl rfl)
theorem dX9_fallback_211 : decode cX9_fallback 211 = .ok (.iastore, 1) := dk_79 (dk_at dksX9_fallback_9 0 rfl rfl)
theorem dX9_fallback_212 : decode cX9_fallback 212 = .ok (.aload_n 0, 1) := dk_42 (dk_at dksX9_fallback_9 1 rfl rfl)
theorem dX9_fallback_213 : decode cX9_fallback 213 = .ok (.getfield 69, 3) := dk_180 0 69 (dk_at dksX9_fallback_9 2 rfl rfl)
theorem dX9_fallback_216 : decode cX9_fallback 216 = .ok (.iload 4, 2) := dk_21 4 (dk_at dksX9_fallback_9 5 rfl rfl)
theorem dX9_fallback_218 : decode cX9_fallback 218 = .ok (.aload_n 0, 1) := dk_42 (dk_at dksX9_fallback_9 7 rfl rfl)
theorem dX9_fallback_219 : decode cX9_fallback 219 = .ok (.getfield 69, 3) := dk_180 0 69 (dk_at dksX9_fallback_9 8 rfl rfl)
theorem dX9_fallback_222 : decode cX9_fallback 222 = .ok (.aload_n 0, 1) := dk_42 (dk_at dksX9_fallback_9 11 rfl rfl)
theorem dX9_fallback_223 : decode cX9_fallback 223 = .ok (.getfield 345, 3) := dk_180 1 89 (dk_at dksX9_fallback_9 12 rfl rfl)
theorem dX9_fallback_226 : decode cX9_fallback 226 = .ok (.iaload, 1) := dk_46 (dk_at dksX9_fallback_9 15 rfl rfl)
theorem dX9_fallback_227 : decode cX9_fallback 227 = .ok (.iastore, 1) := dk_79 (dk_at dksX9_fallback_9 16 rfl rfl)
theorem dX9_fallback_228 : decode cX9_fallback 228 = .ok (.iconst 0, 1) := dk_3 (dk_at dksX9_fallback_9 17 rfl rfl)
theorem dX9_fallback_229 : decode cX9_fallback 229 = .ok (.istore 5, 2) := dk_54 5 (dk_at dksX9_fallback_9 18 rfl rfl)
theorem dX9_fallback_231 : decode cX9_fallback 231 = .ok (.iload 5, 2) := dk_21 5 (dk_at dksX9_fallback_9 20 rfl rfl)
theorem dX9_fallback_233 : decode cX9_fallback 233 = .ok (.iconst 4, 1) := dk_7 (dk_at dksX9_fallback_9 22 rfl rfl)
theorem dX9_fallback_234 : decode cX9_fallback 234 = .ok (.if_icmp .ge 35, 3) := dk_162 0 35 (dk_at dksX9_fallback_10 0 rfl rfl)
theorem dX9_fallback_237 : decode cX9_fallback 237 = .ok (.aload_n 0, 1) := dk_42 (dk_at dksX9_fallback_10 3 rfl rfl)
theorem dX9_fallback_238 : decode cX9_fallback 238 = .ok (.getfield 72, 3) := dk_180 0 72 (dk_at dksX9_fallback_10 4 rfl rfl)
theorem dX9_fallback_241 : decode cX9_fallback 241 = .ok (.iconst 4, 1) := dk_7 (dk_at dksX9_fallback_10 7 rfl rfl)
theorem dX9_fallback_242 : decode cX9_fallback 242 = .ok (.iload 4, 2) := dk_21 4 (dk_at dksX9_fallback_10 8 rfl rfl)
theorem dX9_fallback_244 : decode cX9_fallback 244 = .ok (.imul, 1) := dk_104 (dk_at dksX9_fallback_10 10 rfl rfl)
theorem dX9_fallback_245 : decode cX9_fallback 245 = .ok (.iload 5, 2) := dk_21 5 (dk_at dksX9_fallback_10 11 rfl rfl)
theorem dX9_fallback_247 : decode cX9_fallback 247 = .ok (.iadd, 1) := dk_96 (dk_at dksX9_fallback_10 13 rfl rfl)
theorem dX9_fallback_248 : decode cX9_fallback 248 = .ok (.aload_n 0, 1) := dk_42 (dk_at dksX9_fallback_10 14 rfl rfl)
theorem dX9_fallback_249 : decode cX9_fallback 249 = .ok (.getfield 72, 3) := dk_180 0 72 (dk_at dksX9_fallback_10 15 rfl rfl)
theorem dX9_fallback_252 : decode cX9_fallback 252 = .ok (.iconst 4, 1) := dk_7 (dk_at dksX9_fallback_10 18 rfl rfl)
theorem dX9_fallback_253 : decode cX9_fallback 253 = .ok (.aload_n 0, 1) := dk_42 (dk_at dksX9_fallback_10 19 rfl rfl)
theorem dX9_fallback_254 : decode cX9_fallback 254 = .ok (.getfield 345, 3) := dk_180 1 89 (dk_at dksX9_fallback_10 20 rfl rfl)
theorem dX9_fallback_257 : decode cX9_fallback 257 = .ok (.imul, 1) := dk_104 (dk_at dksX9_fallback_10 23 rfl rfl)
theorem dX9_fallback_258 : decode cX9_fallback 258 = .ok (.iload 5, 2) := dk_21 5 (dk_at dksX9_fallback_11 0 rfl rfl)
theorem dX9_fallback_260 : decode cX9_fallback 260 = .ok (.iadd, 1) := dk_96 (dk_at dksX9_fallback_11 2 rfl rfl)
theorem dX9_fallback_261 : decode cX9_fallback 261 = .ok (.iaload, 1) := dk_46 (dk_at dksX9_fallback_11 3 rfl rfl)
theorem dX9_fallback_262 : decode cX9_fallback 262 = .ok (.iastore, 1) := dk_79 (dk_at dksX9_fallback_11 4 rfl rfl)
theorem dX9_fallback_263 : decode cX9_fallback 263 = .ok (.iinc 5 1, 3) := dk_132 5 1 (dk_at dksX9_fallback_11 5 rfl rfl)
theorem dX9_fallback_266 : decode cX9_fallback 266 = .ok (.goto (-35), 3) := dk_167 255 221 (dk_at dksX9_fallback_11 8 rfl rfl)
theorem dX9_fallback_269 : decode cX9_fallback 269 = .ok (.aload_n 0, 1) := dk_42 (dk_at dksX9_fallback_11 11 rfl rfl)
theorem dX9_fallback_270 : decode cX9_fallback 270 = .ok (.getfield 345, 3) := dk_180 1 89 (dk_at dksX9_fallback_11 12 rfl rfl)
theorem dX9_fallback_273 : decode cX9_fallback 273 = .ok (.ireturn, 1) := dk_172 (dk_at dksX9_fallback_11 15 rfl rfl)
theorem dX9_fallback_274 : decode cX9_fallback 274 = .ok (.iload 4, 2) := dk_21 4 (dk_at dksX9_fallback_11 16 rfl rfl)
theorem dX9_fallback_276 : decode cX9_fallback 276 = .ok (.ifCond .ge 19, 3) := dk_156 0 19 (dk_at dksX9_fallback_11 18 rfl rfl)
theorem dX9_fallback_279 : decode cX9_fallback 279 = .ok (.aload_n 0, 1) := dk_42 (dk_at dksX9_fallback_11 21 rfl rfl)
theorem dX9_fallback_280 : decode cX9_fallback 280 = .ok (.getfield 345, 3) := dk_180 1 89 (dk_at dksX9_fallback_12 0 rfl rfl)
theorem dX9_fallback_283 : decode cX9_fallback 283 = .ok (.bipush 40, 2) := dk_16 40 (dk_at dksX9_fallback_12 3 rfl rfl)
theorem dX9_fallback_285 : decode cX9_fallback 285 = .ok (.if_icmp .ne 10, 3) := dk_160 0 10 (dk_at dksX9_fallback_12 5 rfl rfl)
theorem dX9_fallback_288 : decode cX9_fallback 288 = .ok (.aload_n 0, 1) := dk_42 (dk_at dksX9_fallback_12 8 rfl rfl)
theorem dX9_fallback_289 : decode cX9_fallback 289 = .ok (.bipush (-6), 2) := dk_16 250 (dk_at dksX9_fallback_12 9 rfl rfl)
theorem dX9_fallback_291 : decode cX9_fallback 291 = .ok (.invokevirtual 166, 3) := dk_182 0 166 (dk_at dksX9_fallback_12 11 rfl rfl)
theorem dX9_fallback_294 : decode cX9_fallback 294 = .ok (.ireturn, 1) := dk_172 (dk_at dksX9_fallback_12 14 rfl rfl)
theorem dX9_fallback_295 : decode cX9_fallback 295 = .ok (.iload 4, 2) := dk_21 4 (dk_at dksX9_fallback_12 15 rfl rfl)
theorem dX9_fallback_297 : decode cX9_fallback 297 = .ok (.ifCond .ge 10, 3) := dk_156 0 10 (dk_at dksX9_fallback_12 17 rfl rfl)
theorem dX9_fallback_300 : decode cX9_fallback 300 = .ok (.aload_n 0, 1) := dk_42 (dk_at dksX9_fallback_12 20 rfl rfl)
theorem dX9_fallback_301 : decode cX9_fallback 301 = .ok (.getfield 345, 3) := dk_180 1 89 (dk_at dksX9_fallback_12 21 rfl rfl)
theorem dX9_fallback_304 : decode cX9_fallback 304 = .ok (.goto 5, 3) := dk_167 0 5 (dk_at dksX9_fallback_13 0 rfl rfl)
theorem dX9_fallback_307 : decode cX9_fallback 307 = .ok (.iload 4, 2) := dk_21 4 (dk_at dksX9_fallback_13 3 rfl rfl)
theorem dX9_fallback_309 : decode cX9_fallback 309 = .ok (.istore 5, 2) := dk_54 5 (dk_at dksX9_fallback_13 5 rfl rfl)
theorem dX9_fallback_311 : decode cX9_fallback 311 = .ok (.iload 4, 2) := dk_21 4 (dk_at dksX9_fallback_13 7 rfl rfl)
theorem dX9_fallback_313 : decode cX9_fallback 313 = .ok (.ifCond .ge 7, 3) := dk_156 0 7 (dk_at dksX9_fallback_13 9 rfl rfl)
theorem dX9_fallback_316 : decode cX9_fallback 316 = .ok (.iconst 0, 1) := dk_3 (dk_at dksX9_fallback_13 12 rfl rfl)
theorem dX9_fallback_317 : decode cX9_fallback 317 = .ok (.goto 10, 3) := dk_167 0 10 (dk_at dksX9_fallback_13 13 rfl rfl)
theorem dX9_fallback_320 : decode cX9_fallback 320 = .ok (.aload_n 0, 1) := dk_42 (dk_at dksX9_fallback_13 16 rfl rfl)
theorem dX9_fallback_321 : decode cX9_fallback 321 = .ok (.getfield 69, 3) := dk_180 0 69 (dk_at dksX9_fallback_13 17 rfl rfl)
theorem dX9_fallback_324 : decode cX9_fallback 324 = .ok (.iload 4, 2) := dk_21 4 (dk_at dksX9_fallback_13 20 rfl rfl)
theorem dX9_fallback_326 : decode cX9_fallback 326 = .ok (.iaload, 1) := dk_46 (dk_at dksX9_fallback_13 22 rfl rfl)
theorem dX9_fallback_327 : decode cX9_fallback 327 = .ok (.istore 6, 2) := dk_54 6 (dk_at dksX9_fallback_14 0 rfl rfl)
theorem dX9_fallback_329 : decode cX9_fallback 329 = .ok (.iconst 0, 1) := dk_3 (dk_at dksX9_fallback_14 2 rfl rfl)
theorem dX9_fallback_330 : decode cX9_fallback 330 = .ok (.istore 7, 2) := dk_54 7 (dk_at dksX9_fallback_14 3 rfl rfl)
theorem dX9_fallback_332 : decode cX9_fallback 332 = .ok (.iload 7, 2) := dk_21 7 (dk_at dksX9_fallback_14 5 rfl rfl)
theorem dX9_fallback_334 : decode cX9_fallback 334 = .ok (.iconst 4, 1) := dk_7 (dk_at dksX9_fallback_14 7 rfl rfl)
theorem dX9_fallback_335 : decode cX9_fallback 335 = .ok (.if_icmp .ge 31, 3) := dk_162 0 31 (dk_at dksX9_fallback_14 8 rfl rfl)
theorem dX9_fallback_338 : decode cX9_fallback 338 = .ok (.aload_n 0, 1) := dk_42 (dk_at dksX9_fallback_14 11 rfl rfl)
theorem dX9_fallback_339 : decode cX9_fallback 339 = .ok (.getfield 96, 3) := dk_180 0 96 (dk_at dksX9_fallback_14 12 rfl rfl)
theorem dX9_fallback_342 : decode cX9_fallback 342 = .ok (.bipush 10, 2) := dk_16 10 (dk_at dksX9_fallback_14 15 rfl rfl)
theorem dX9_fallback_344 : decode cX9_fallback 344 = .ok (.iload 7, 2) := dk_21 7 (dk_at dksX9_fallback_14 17 rfl rfl)
theorem dX9_fallback_346 : decode cX9_fallback 346 = .ok (.iadd, 1) := dk_96 (dk_at dksX9_fallback_14 19 rfl rfl)
theorem dX9_fallback_347 : decode cX9_fallback 347 = .ok (.aload_n 0, 1) := dk_42 (dk_at dksX9_fallback_14 20 rfl rfl)
theorem dX9_fallback_348 : decode cX9_fallback 348 = .ok (.getfield 72, 3) := dk_180 0 72 (dk_at dksX9_fallback_14 21 rfl rfl)
theorem dX9_fallback_351 : decode cX9_fallback 351 = .ok (.iconst 4, 1) := dk_7 (dk_at dksX9_fallback_15 0 rfl rfl)
theorem dX9_fallback_352 : decode cX9_fallback 352 = .ok (.iload 5, 2) := dk_21 5 (dk_at dksX9_fallback_15 1 rfl rfl)
theorem dX9_fallback_354 : decode cX9_fallback 354 = .ok (.imul, 1) := dk_104 (dk_at dksX9_fallback_15 3 rfl rfl)
theorem dX9_fallback_355 : decode cX9_fallback 355 = .ok (.iload 7, 2) := dk_21 7 (dk_at dksX9_fallback_15 4 rfl rfl)
theorem dX9_fallback_357 : decode cX9_fallback 357 = .ok (.iadd, 1) := dk_96 (dk_at dksX9_fallback_15 6 rfl rfl)
theorem dX9_fallback_358 : decode cX9_fallback 358 = .ok (.iaload, 1) := dk_46 (dk_at dksX9_fallback_15 7 rfl rfl)
theorem dX9_fallback_359 : decode cX9_fallback 359 = .ok (.iastore, 1) := dk_79 (dk_at dksX9_fallback_15 8 rfl rfl)
theorem dX9_fallback_360 : decode cX9_fallback 360 = .ok (.iinc 7 1, 3) := dk_132 7 1 (dk_at dksX9_fallback_15 9 rfl rfl)
theorem dX9_fallback_363 : decode cX9_fallback 363 = .ok (.goto (-31), 3) := dk_167 255 225 (dk_at dksX9_fallback_15 12 rfl rfl)
theorem dX9_fallback_366 : decode cX9_fallback 366 = .ok (.iload 4, 2) := dk_21 4 (dk_at dksX9_fallback_15 15 rfl rfl)
theorem dX9_fallback_368 : decode cX9_fallback 368 = .ok (.ifCond .ge 13, 3) := dk_156 0 13 (dk_at dksX9_fallback_15 17 rfl rfl)
theorem dX9_fallback_371 : decode cX9_fallback 371 = .ok (.aload_n 0, 1) := dk_42 (dk_at dksX9_fallback_15 20 rfl rfl)
theorem dX9_fallback_372 : decode cX9_fallback 372 = .ok (.dup, 1) := dk_89 (dk_at dksX9_fallback_15 21 rfl rfl)
theorem dX9_fallback_373 : decode cX9_fallback 373 = .ok (.getfield 345, 3) := dk_180 1 89 (dk_at dksX9_fallback_16 0 rfl rfl)
theorem dX9_fallback_376 : decode cX9_fallback 376 = .ok (.iconst 1, 1) := dk_4 (dk_at dksX9_fallback_16 3 rfl rfl)
theorem dX9_fallback_377 : decode cX9_fallback 377 = .ok (.iadd, 1) := dk_96 (dk_at dksX9_fallback_16 4 rfl rfl)
theorem dX9_fallback_378 : decode cX9_fallback 378 = .ok (.putfield 345, 3) := dk_181 1 89 (dk_at dksX9_fallback_16 5 rfl rfl)
theorem dX9_fallback_381 : decode cX9_fallback 381 = .ok (.aload_n 0, 1) := dk_42 (dk_at dksX9_fallback_16 8 rfl rfl)
theorem dX9_fallback_382 : decode cX9_fallback 382 = .ok (.getfield 66, 3) := dk_180 0 66 (dk_at dksX9_fallback_16 9 rfl rfl)
theorem dX9_fallback_385 : decode cX9_fallback 385 = .ok (.iload 5, 2) := dk_21 5 (dk_at dksX9_fallback_16 12 rfl rfl)
theorem dX9_fallback_387 : decode cX9_fallback 387 = .ok (.iload_n 1, 1) := dk_27 (dk_at dksX9_fallback_16 14 rfl rfl)
theorem dX9_fallback_388 : decode cX9_fallback 388 = .ok (.iastore, 1) := dk_79 (dk_at dksX9_fallback_16 15 rfl rfl)
theorem dX9_fallback_389 : decode cX9_fallback 389 = .ok (.aload_n 0, 1) := dk_42 (dk_at dksX9_fallback_16 16 rfl rfl)
theorem dX9_fallback_390 : decode cX9_fallback 390 = .ok (.getfield 69, 3) := dk_180 0 69 (dk_at dksX9_fallback_16 17 rfl rfl)
theorem dX9_fallback_393 : decode cX9_fallback 393 = .ok (.iload 5, 2) := dk_21 5 (dk_at dksX9_fallback_16 20 rfl rfl)
theorem dX9_fallback_395 : decode cX9_fallback 395 = .ok (.iload_n 2, 1) := dk_28 (dk_at dksX9_fallback_16 22 rfl rfl)
theorem dX9_fallback_396 : decode cX9_fallback 396 = .ok (.iastore, 1) := dk_79 (dk_at dksX9_fallback_16 23 rfl rfl)
theorem dX9_fallback_397 : decode cX9_fallback 397 = .ok (.iconst 0, 1) := dk_3 (dk_at dksX9_fallback_17 0 rfl rfl)
theorem dX9_fallback_398 : decode cX9_fallback 398 = .ok (.istore 7, 2) := dk_54 7 (dk_at dksX9_fallback_17 1 rfl rfl)
theorem dX9_fallback_400 : decode cX9_fallback 400 = .ok (.iload 7, 2) := dk_21 7 (dk_at dksX9_fallback_17 3 rfl rfl)
theorem dX9_fallback_402 : decode cX9_fallback 402 = .ok (.iload_n 2, 1) := dk_28 (dk_at dksX9_fallback_17 5 rfl rfl)
theorem dX9_fallback_403 : decode cX9_fallback 403 = .ok (.if_icmp .ge 28, 3) := dk_162 0 28 (dk_at dksX9_fallback_17 6 rfl rfl)
theorem dX9_fallback_406 : decode cX9_fallback 406 = .ok (.aload_n 0, 1) := dk_42 (dk_at dksX9_fallback_17 9 rfl rfl)
theorem dX9_fallback_407 : decode cX9_fallback 407 = .ok (.getfield 72, 3) := dk_180 0 72 (dk_at dksX9_fallback_17 10 rfl rfl)
theorem dX9_fallback_410 : decode cX9_fallback 410 = .ok (.iconst 4, 1) := dk_7 (dk_at dksX9_fallback_17 13 rfl rfl)
theorem dX9_fallback_411 : decode cX9_fallback 411 = .ok (.iload 5, 2) := dk_21 5 (dk_at dksX9_fallback_17 14 rfl rfl)
theorem dX9_fallback_413 : decode cX9_fallback 413 = .ok (.imul, 1) := dk_104 (dk_at dksX9_fallback_17 16 rfl rfl)
theorem dX9_fallback_414 : decode cX9_fallback 414 = .ok (.iload 7, 2) := dk_21 7 (dk_at dksX9_fallback_17 17 rfl rfl)
theorem dX9_fallback_416 : decode cX9_fallback 416 = .ok (.iadd, 1) := dk_96 (dk_at dksX9_fallback_17 19 rfl rfl)
theorem dX9_fallback_417 : decode cX9_fallback 417 = .ok (.aload_n 0, 1) := dk_42 (dk_at dksX9_fallback_17 20 rfl rfl)
theorem dX9_fallback_418 : decode cX9_fallback 418 = .ok (.getfield 96, 3) := dk_180 0 96 (dk_at dksX9_fallback_17 21 rfl rfl)
theorem dX9_fallback_421 : decode cX9_fallback 421 = .ok (.iload 7, 2) := dk_21 7 (dk_at dksX9_fallback_18 0 rfl rfl)
theorem dX9_fallback_423 : decode cX9_fallback 423 = .ok (.iaload, 1) := dk_46 (dk_at dksX9_fallback_18 2 rfl rfl)
theorem dX9_fallback_424 : decode cX9_fallback 424 = .ok (.iastore, 1) := dk_79 (dk_at dksX9_fallback_18 3 rfl rfl)
theorem dX9_fallback_425 : decode cX9_fallback 425 = .ok (.iinc 7 1, 3) := dk_132 7 1 (dk_at dksX9_fallback_18 4 rfl rfl)
theorem dX9_fallback_428 : decode cX9_fallback 428 = .ok (.goto (-28), 3) := dk_167 255 228 (dk_at dksX9_fallback_18 7 rfl rfl)
theorem dX9_fallback_431 : decode cX9_fallback 431 = .ok (.iconst 0, 1) := dk_3 (dk_at dksX9_fallback_18 10 rfl rfl)
theorem dX9_fallback_432 : decode cX9_fallback 432 = .ok (.istore 7, 2) := dk_54 7 (dk_at dksX9_fallback_18 11 rfl rfl)
theorem dX9_fallback_434 : decode cX9_fallback 434 = .ok (.iconst 0, 1) := dk_3 (dk_at dksX9_fallback_18 13 rfl rfl)
theorem dX9_fallback_435 : decode cX9_fallback 435 = .ok (.istore 8, 2) := dk_54 8 (dk_at dksX9_fallback_18 14 rfl rfl)
theorem dX9_fallback_437 : decode cX9_fallback 437 = .ok (.iload 8, 2) := dk_21 8 (dk_at dksX9_fallback_18 16 rfl rfl)
theorem dX9_fallback_439 : decode cX9_fallback 439 = .ok (.aload_n 0, 1) := dk_42 (dk_at dksX9_fallback_18 18 rfl rfl)
theorem dX9_fallback_440 : decode cX9_fallback 440 = .ok (.getfield 345, 3) := dk_180 1 89 (dk_at dksX9_fallback_18 19 rfl rfl)
theorem dX9_fallback_443 : decode cX9_fallback 443 = .ok (.if_icmp .ge 31, 3) := dk_162 0 31 (dk_at dksX9_fallback_19 0 rfl rfl)
theorem dX9_fallback_446 : decode cX9_fallback 446 = .ok (.iload 7, 2) := dk_21 7 (dk_at dksX9_fallback_19 3 rfl rfl)
theorem dX9_fallback_448 : decode cX9_fallback 448 = .ok (.ifCond .ne 26, 3) := dk_154 0 26 (dk_at dksX9_fallback_19 5 rfl rfl)
theorem dX9_fallback_451 : decode cX9_fallback 451 = .ok (.aload_n 0, 1) := dk_42 (dk_at dksX9_fallback_19 8 rfl rfl)
theorem dX9_fallback_452 : decode cX9_fallback 452 = .ok (.iload 8, 2) := dk_21 8 (dk_at dksX9_fallback_19 9 rfl rfl)
theorem dX9_fallback_454 : decode cX9_fallback 454 = .ok (.invokevirtual 385, 3) := dk_182 1 129 (dk_at dksX9_fallback_19 11 rfl rfl)
theorem dX9_fallback_457 : decode cX9_fallback 457 = .ok (.ifCond .eq 8, 3) := dk_153 0 8 (dk_at dksX9_fallback_19 14 rfl rfl)
theorem dX9_fallback_460 : decode cX9_fallback 460 = .ok (.bipush (-11), 2) := dk_16 245 (dk_at dksX9_fallback_19 17 rfl rfl)
theorem dX9_fallback_462 : decode cX9_fallback 462 = .ok (.goto 4, 3) := dk_167 0 4 (dk_at dksX9_fallback_19 19 rfl rfl)
theorem dX9_fallback_465 : decode cX9_fallback 465 = .ok (.iconst 0, 1) := dk_3 (dk_at dksX9_fallback_19 22 rfl rfl)
theorem dX9_fallback_466 : decode cX9_fallback 466 = .ok (.istore 7, 2) := dk_54 7 (dk_at dksX9_fallback_20 0 rfl rfl)
theorem dX9_fallback_468 : decode cX9_fallback 468 = .ok (.iinc 8 1, 3) := dk_132 8 1 (dk_at dksX9_fallback_20 2 rfl rfl)
theorem dX9_fallback_471 : decode cX9_fallback 471 = .ok (.goto (-34), 3) := dk_167 255 222 (dk_at dksX9_fallback_20 5 rfl rfl)
theorem dX9_fallback_474 : decode cX9_fallback 474 = .ok (.iconst 0, 1) := dk_3 (dk_at dksX9_fallback_20 8 rfl rfl)
theorem dX9_fallback_475 : decode cX9_fallback 475 = .ok (.istore 8, 2) := dk_54 8 (dk_at dksX9_fallback_20 9 rfl rfl)
theorem dX9_fallback_477 : decode cX9_fallback 477 = .ok (.iload 8, 2) := dk_21 8 (dk_at dksX9_fallback_20 11 rfl rfl)
theorem dX9_fallback_479 : decode cX9_fallback 479 = .ok (.aload_n 0, 1) := dk_42 (dk_at dksX9_fallback_20 13 rfl rfl)
theorem dX9_fallback_480 : decode cX9_fallback 480 = .ok (.getfield 345, 3) := dk_180 1 89 (dk_at dksX9_fallback_20 14 rfl rfl)
theorem dX9_fallback_483 : decode cX9_fallback 483 = .ok (.if_icmp .ge 17, 3) := dk_162 0 17 (dk_at dksX9_fallback_20 17 rfl rfl)
theorem dX9_fallback_486 : decode cX9_fallback 486 = .ok (.aload_n 0, 1) := dk_42 (dk_at dksX9_fallback_20 20 rfl rfl)
theorem dX9_fallback_487 : decode cX9_fallback 487 = .ok (.getfield 102, 3) := dk_180 0 102 (dk_at dksX9_fallback_20 21 rfl rfl)
theorem dX9_fallback_490 : decode cX9_fallback 490 = .ok (.iload 8, 2) := dk_21 8 (dk_at dksX9_fallback_21 0 rfl rfl)
theorem dX9_fallback_492 : decode cX9_fallback 492 = .ok (.iconst 0, 1) := dk_3 (dk_at dksX9_fallback_21 2 rfl rfl)
theorem dX9_fallback_493 : decode cX9_fallback 493 = .ok (.iastore, 1) := dk_79 (dk_at dksX9_fallback_21 3 rfl rfl)
theorem dX9_fallback_494 : decode cX9_fallback 494 = .ok (.iinc 8 1, 3) := dk_132 8 1 (dk_at dksX9_fallback_21 4 rfl rfl)
theorem dX9_fallback_497 : decode cX9_fallback 497 = .ok (.goto (-20), 3) := dk_167 255 236 (dk_at dksX9_fallback_21 7 rfl rfl)
theorem dX9_fallback_500 : decode cX9_fallback 500 = .ok (.iconst 0, 1) := dk_3 (dk_at dksX9_fallback_21 10 rfl rfl)
theorem dX9_fallback_501 : decode cX9_fallback 501 = .ok (.istore 8, 2) := dk_54 8 (dk_at dksX9_fallback_21 11 rfl rfl)
theorem dX9_fallback_503 : decode cX9_fallback 503 = .ok (.iload 8, 2) := dk_21 8 (dk_at dksX9_fallback_21 13 rfl rfl)
theorem dX9_fallback_505 : decode cX9_fallback 505 = .ok (.aload_n 0, 1) := dk_42 (dk_at dksX9_fallback_21 15 rfl rfl)
theorem dX9_fallback_506 : decode cX9_fallback 506 = .ok (.getfield 345, 3) := dk_180 1 89 (dk_at dksX9_fallback_21 16 rfl rfl)
theorem dX9_fallback_509 : decode cX9_fallback 509 = .ok (.if_icmp .ge 37, 3) := dk_162 0 37 (dk_at dksX9_fallback_21 19 rfl rfl)
theorem dX9_fallback_512 : decode cX9_fallback 512 = .ok (.iload 7, 2) := dk_21 7 (dk_at dksX9_fallback_21 22 rfl rfl)
theorem dX9_fallback_514 : decode cX9_fallback 514 = .ok (.ifCond .ne 32, 3) := dk_154 0 32 (dk_at dksX9_fallback_22 0 rfl rfl)
theorem dX9_fallback_517 : decode cX9_fallback 517 = .ok (.aload_n 0, 1) := dk_42 (dk_at dksX9_fallback_22 3 rfl rfl)
theorem dX9_fallback_518 : decode cX9_fallback 518 = .ok (.iload 8, 2) := dk_21 8 (dk_at dksX9_fallback_22 4 rfl rfl)
theorem dX9_fallback_520 : decode cX9_fallback 520 = .ok (.aload_n 0, 1) := dk_42 (dk_at dksX9_fallback_22 6 rfl rfl)
theorem dX9_fallback_521 : decode cX9_fallback 521 = .ok (.getfield 102, 3) := dk_180 0 102 (dk_at dksX9_fallback_22 7 rfl rfl)
theorem dX9_fallback_524 : decode cX9_fallback 524 = .ok (.invokevirtual 381, 3) := dk_182 1 125 (dk_at dksX9_fallback_22 10 rfl rfl)
theorem dX9_fallback_527 : decode cX9_fallback 527 = .ok (.bipush 16, 2) := dk_16 16 (dk_at dksX9_fallback_22 13 rfl rfl)
theorem dX9_fallback_529 : decode cX9_fallback 529 = .ok (.if_icmp .le 8, 3) := dk_164 0 8 (dk_at dksX9_fallback_22 15 rfl rfl)
theorem dX9_fallback_532 : decode cX9_fallback 532 = .ok (.bipush (-12), 2) := dk_16 244 (dk_at dksX9_fallback_22 18 rfl rfl)
theorem dX9_fallback_534 : decode cX9_fallback 534 = .ok (.goto 4, 3) := dk_167 0 4 (dk_at dksX9_fallback_22 20 rfl rfl)
theorem dX9_fallback_537 : decode cX9_fallback 537 = .ok (.iconst 0, 1) := dk_3 (dk_at dksX9_fallback_22 23 rfl rfl)
theorem dX9_fallback_538 : decode cX9_fallback 538 = .ok (.istore 7, 2) := dk_54 7 (dk_at dksX9_fallback_23 0 rfl rfl)
theorem dX9_fallback_540 : decode cX9_fallback 540 = .ok (.iinc 8 1, 3) := dk_132 8 1 (dk_at dksX9_fallback_23 2 rfl rfl)
theorem dX9_fallback_543 : decode cX9_fallback 543 = .ok (.goto (-40), 3) := dk_167 255 216 (dk_at dksX9_fallback_23 5 rfl rfl)
theorem dX9_fallback_546 : decode cX9_fallback 546 = .ok (.iload 7, 2) := dk_21 7 (dk_at dksX9_fallback_23 8 rfl rfl)
theorem dX9_fallback_548 : decode cX9_fallback 548 = .ok (.ifCond .eq 71, 3) := dk_153 0 71 (dk_at dksX9_fallback_23 10 rfl rfl)
theorem dX9_fallback_551 : decode cX9_fallback 551 = .ok (.iload 4, 2) := dk_21 4 (dk_at dksX9_fallback_23 13 rfl rfl)
theorem dX9_fallback_553 : decode cX9_fallback 553 = .ok (.ifCond .ge 13, 3) := dk_156 0 13 (dk_at dksX9_fallback_23 15 rfl rfl)
theorem dX9_fallback_556 : decode cX9_fallback 556 = .ok (.aload_n 0, 1) := dk_42 (dk_at dksX9_fallback_23 18 rfl rfl)
theorem dX9_fallback_557 : decode cX9_fallback 557 = .ok (.dup, 1) := dk_89 (dk_at dksX9_fallback_23 19 rfl rfl)
theorem dX9_fallback_558 : decode cX9_fallback 558 = .ok (.getfield 345, 3) := dk_180 1 89 (dk_at dksX9_fallback_23 20 rfl rfl)
theorem dX9_fallback_561 : decode cX9_fallback 561 = .ok (.iconst 1, 1) := dk_4 (dk_at dksX9_fallback_23 23 rfl rfl)
theorem dX9_fallback_562 : decode cX9_fallback 562 = .ok (.isub, 1) := dk_100 (dk_at dksX9_fallback_24 0 rfl rfl)
theorem dX9_fallback_563 : decode cX9_fallback 563 = .ok (.putfield 345, 3) := dk_181 1 89 (dk_at dksX9_fallback_24 1 rfl rfl)
theorem dX9_fallback_566 : decode cX9_fallback 566 = .ok (.aload_n 0, 1) := dk_42 (dk_at dksX9_fallback_24 4 rfl rfl)
theorem dX9_fallback_567 : decode cX9_fallback 567 = .ok (.getfield 69, 3) := dk_180 0 69 (dk_at dksX9_fallback_24 5 rfl rfl)
theorem dX9_fallback_570 : decode cX9_fallback 570 = .ok (.iload 5, 2) := dk_21 5 (dk_at dksX9_fallback_24 8 rfl rfl)
theorem dX9_fallback_572 : decode cX9_fallback 572 = .ok (.iload 6, 2) := dk_21 6 (dk_at dksX9_fallback_24 10 rfl rfl)
theorem dX9_fallback_574 : decode cX9_fallback 574 = .ok (.iastore, 1) := dk_79 (dk_at dksX9_fallback_24 12 rfl rfl)
theorem dX9_fallback_575 : decode cX9_fallback 575 = .ok (.iconst 0, 1) := dk_3 (dk_at dksX9_fallback_24 13 rfl rfl)
theorem dX9_fallback_576 : decode cX9_fallback 576 = .ok (.istore 8, 2) := dk_54 8 (dk_at dksX9_fallback_24 14 rfl rfl)
theorem dX9_fallback_578 : decode cX9_fallback 578 = .ok (.iload 8, 2) := dk_21 8 (dk_at dksX9_fallback_24 16 rfl rfl)
theorem dX9_fallback_580 : decode cX9_fallback 580 = .ok (.iconst 4, 1) := dk_7 (dk_at dksX9_fallback_24 18 rfl rfl)
theorem dX9_fallback_581 : decode cX9_fallback 581 = .ok (.if_icmp .ge 31, 3) := dk_162 0 31 (dk_at dksX9_fallback_24 19 rfl rfl)
theorem dX9_fallback_584 : decode cX9_fallback 584 = .ok (.aload_n 0, 1) := dk_42 (dk_at dksX9_fallback_24 22 rfl rfl)
theorem dX9_fallback_585 : decode cX9_fallback 585 = .ok (.getfield 72, 3) := dk_180 0 72 (dk_at dksX9_fallback_25 0 rfl rfl)
theorem dX9_fallback_588 : decode cX9_fallback 588 = .ok (.iconst 4, 1) := dk_7 (dk_at dksX9_fallback_25 3 rfl rfl)
theorem dX9_fallback_589 : decode cX9_fallback 589 = .ok (.iload 5, 2) := dk_21 5 (dk_at dksX9_fallback_25 4 rfl rfl)
theorem dX9_fallback_591 : decode cX9_fallback 591 = .ok (.imul, 1) := dk_104 (dk_at dksX9_fallback_25 6 rfl rfl)
theorem dX9_fallback_592 : decode cX9_fallback 592 = .ok (.iload 8, 2) := dk_21 8 (dk_at dksX9_fallback_25 7 rfl rfl)
theorem dX9_fallback_594 : decode cX9_fallback 594 = .ok (.iadd, 1) := dk_96 (dk_at dksX9_fallback_25 9 rfl rfl)
theorem dX9_fallback_595 : decode cX9_fallback 595 = .ok (.aload_n 0, 1) := dk_42 (dk_at dksX9_fallback_25 10 rfl rfl)
theorem dX9_fallback_596 : decode cX9_fallback 596 = .ok (.getfield 96, 3) := dk_180 0 96 (dk_at dksX9_fallback_25 11 rfl rfl)
theorem dX9_fallback_599 : decode cX9_fallback 599 = .ok (.bipush 10, 2) := dk_16 10 (dk_at dksX9_fallback_25 14 rfl rfl)
theorem dX9_fallback_601 : decode cX9_fallback 601 = .ok (.iload 8, 2) := dk_21 8 (dk_at dksX9_fallback_25 16 rfl rfl)
theorem dX9_fallback_603 : decode cX9_fallback 603 = .ok (.iadd, 1) := dk_96 (dk_at dksX9_fallback_25 18 rfl rfl)
theorem dX9_fallback_604 : decode cX9_fallback 604 = .ok (.iaload, 1) := dk_46 (dk_at dksX9_fallback_25 19 rfl rfl)
theorem dX9_fallback_605 : decode cX9_fallback 605 = .ok (.iastore, 1) := dk_79 (dk_at dksX9_fallback_25 20 rfl rfl)
theorem dX9_fallback_606 : decode cX9_fallback 606 = .ok (.iinc 8 1, 3) := dk_132 8 1 (dk_at dksX9_fallback_25 21 rfl rfl)
theorem dX9_fallback_609 : decode cX9_fallback 609 = .ok (.goto (-31), 3) := dk_167 255 225 (dk_at dksX9_fallback_26 0 rfl rfl)
theorem dX9_fallback_612 : decode cX9_fallback 612 = .ok (.aload_n 0, 1) := dk_42 (dk_at dksX9_fallback_26 3 rfl rfl)
theorem dX9_fallback_613 : decode cX9_fallback 613 = .ok (.iload 7, 2) := dk_21 7 (dk_at dksX9_fallback_26 4 rfl rfl)
theorem dX9_fallback_615 : decode cX9_fallback 615 = .ok (.invokevirtual 166, 3) := dk_182 0 166 (dk_at dksX9_fallback_26 6 rfl rfl)
theorem dX9_fallback_618 : decode cX9_fallback 618 = .ok (.ireturn, 1) := dk_172 (dk_at dksX9_fallback_26 9 rfl rfl)
theorem dX9_fallback_619 : decode cX9_fallback 619 = .ok (.aload_n 0, 1) := dk_42 (dk_at dksX9_fallback_26 10 rfl rfl)
theorem dX9_fallback_620 : decode cX9_fallback 620 = .ok (.iconst 0, 1) := dk_3 (dk_at dksX9_fallback_26 11 rfl rfl)
theorem dX9_fallback_621 : decode cX9_fallback 621 = .ok (.putfield 258, 3) := dk_181 1 2 (dk_at dksX9_fallback_26 12 rfl rfl)
theorem dX9_fallback_624 : decode cX9_fallback 624 = .ok (.aload_n 0, 1) := dk_42 (dk_at dksX9_fallback_26 15 rfl rfl)
theorem dX9_fallback_625 : decode cX9_fallback 625 = .ok (.getfield 345, 3) := dk_180 1 89 (dk_at dksX9_fallback_26 16 rfl rfl)
theorem dX9_fallback_628 : decode cX9_fallback 628 = .ok (.ireturn, 1) := dk_172 (dk_at dksX9_fallback_26 19 rfl rfl)
abbrev cX9_comesBack : ByteArray := prog_17_method_64_code
def yX9_comesBack : MethodName := ⟨RX9, "comesBack", "(I)Z"⟩
def dkwX9_comesBack_6 : List UInt8 := [21, 5, 4, 79, 132, 4, 1, 167, 255, 180, 132, 3, 1, 167, 255, 141, 167, 255, 130, 3, 172]
abbrev dktX9_comesBack_6 : List UInt8 := dkwX9_comesBack_6 ++ []
def dkwX9_comesBack_5 : List UInt8 := [182, 1, 101, 54, 5, 21, 5, 155, 0, 21, 42, 180, 0, 99, 21, 5, 46, 154, 0, 11, 42, 180, 0, 99]
abbrev dktX9_comesBack_5 : List UInt8 := dkwX9_comesBack_5 ++ dktX9_comesBack_6
def dkwX9_comesBack_4 : List UInt8 := [42, 180, 0, 66, 27, 46, 160, 0, 5, 4, 172, 42, 42, 180, 0, 72, 7, 29, 104, 21, 4, 96, 46]
abbrev dktX9_comesBack_4 : List UInt8 := dkwX9_comesBack_4 ++ dktX9_comesBack_5
def dkwX9_comesBack_3 : List UInt8 := [54, 4, 21, 4, 42, 180, 0, 69, 29, 46, 162, 0, 71, 42, 180, 0, 72, 7, 29, 104, 21, 4, 96, 46]
abbrev dktX9_comesBack_3 : List UInt8 := dkwX9_comesBack_3 ++ dktX9_comesBack_4
def dkwX9_comesBack_2 : List UInt8 := [42, 180, 0, 99, 29, 46, 4, 159, 0, 6, 167, 0, 94, 42, 180, 0, 99, 29, 5, 79, 4, 61, 3]
abbrev dktX9_comesBack_2 : List UInt8 := dkwX9_comesBack_2 ++ dktX9_comesBack_3
def dkwX9_comesBack_1 : List UInt8 := [180, 0, 99, 27, 4, 79, 4, 61, 28, 153, 0, 128, 3, 61, 3, 62, 29, 42, 180, 1, 89, 162, 0, 113]
abbrev dktX9_comesBack_1 : List UInt8 := dkwX9_comesBack_1 ++ dktX9_comesBack_2
def dkwX9_comesBack_0 : List UInt8 := [3, 61, 28, 42, 180, 1, 89, 162, 0, 16, 42, 180, 0, 99, 28, 3, 79, 132, 2, 1, 167, 255, 238, 42]
abbrev dktX9_comesBack_0 : List UInt8 := dkwX9_comesBack_0 ++ dktX9_comesBack_1
theorem dksX9_comesBack_0 : cX9_comesBack.data.toList.drop 0 = dktX9_comesBack_0 := by decide +kernel
theorem dksX9_comesBack_1 : cX9_comesBack.data.toList.drop 24 = dktX9_comesBack_1 := dk_seg dksX9_comesBack_0 24 rfl rfl
theorem dksX9_comesBack_2 : cX9_comesBack.data.toList.drop 48 = dktX9_comesBack_2 := dk_seg dksX9_comesBack_1 24 rfl rfl
theorem dksX9_comesBack_3 : cX9_comesBack.data.toList.drop 71 = dktX9_comesBack_3 := dk_seg dksX9_comesBack_2 23 rfl rfl
theorem dksX9_comesBack_4 : cX9_comesBack.data.toList.drop 95 = dktX9_comesBack_4 := dk_seg dksX9_comesBack_3 24 rfl rfl
theorem dksX9_comesBack_5 : cX9_comesBack.data.toList.drop 118 = dktX9_comesBack_5 := dk_seg dksX9_comesBack_4 23 rfl rfl
theorem dksX9_comesBack_6 : cX9_comesBack.data.toList.drop 142 = dktX9_comesBack_6 := dk_seg dksX9_comesBack_5 24 rfl rfl
theorem dX9_comesBack_0 : decode cX9_comesBack 0 = .ok (.iconst 0, 1) := dk_3 (dk_at dksX9_comesBack_0 0 rfl rfl)
theorem dX9_comesBack_1 : decode cX9_comesBack 1 = .ok (.istore_n 2, 1) := dk_61 (dk_at dksX9_comesBack_0 1 rfl rfl)
theorem dX9_comesBack_2 : decode cX9_comesBack 2 = .ok (.iload_n 2, 1) := dk_28 (dk_at dksX9_comesBack_0 2 rfl rfl)
theorem dX9_comesBack_3 : decode cX9_comesBack 3 = .ok (.aload_n 0, 1) := dk_42 (dk_at dksX9_comesBack_0 3 rfl rfl)
theorem dX9_comesBack_4 : decode cX9_comesBack 4 = .ok (.getfield 345, 3) := dk_180 1 89 (dk_at dksX9_comesBack_0 4 rfl rfl)
theorem dX9_comesBack_7 : decode cX9_comesBack 7 = .ok (.if_icmp .ge 16, 3) := dk_162 0 16 (dk_at dksX9_comesBack_0 7 rfl rfl)
theorem dX9_comesBack_10 : decode cX9_comesBack 10 = .ok (.aload_n 0, 1) := dk_42 (dk_at dksX9_comesBack_0 10 rfl rfl)
theorem dX9_comesBack_11 : decode cX9_comesBack 11 = .ok (.getfield 99, 3) := dk_180 0 99 (dk_at dksX9_comesBack_0 11 rfl rfl)
theorem dX9_comesBack_14 : decode cX9_comesBack 14 = .ok (.iload_n 2, 1) := dk_28 (dk_at dksX9_comesBack_0 14 rfl rfl)
theorem dX9_comesBack_15 : decode cX9_comesBack 15 = .ok (.iconst 0, 1) := dk_3 (dk_at dksX9_comesBack_0 15 rfl rfl)
theorem dX9_comesBack_16 : decode cX9_comesBack 16 = .ok (.iastore, 1) := dk_79 (dk_at dksX9_comesBack_0 16 rfl rfl)
theorem dX9_comesBack_17 : decode cX9_comesBack 17 = .ok (.iinc 2 1, 3) := dk_132 2 1 (dk_at dksX9_comesBack_0 17 rfl rfl)
theorem dX9_comesBack_20 : decode cX9_comesBack 20 = .ok (.goto (-18), 3) := dk_167 255 238 (dk_at dksX9_comesBack_0 20 rfl rfl)
theorem dX9_comesBack_23 : decode cX9_comesBack 23 = .ok (.aload_n 0, 1) := dk_42 (dk_at dksX9_comesBack_0 23 rfl rfl)
theorem dX9_comesBack_24 : decode cX9_comesBack 24 = .ok (.getfield 99, 3) := dk_180 0 99 (dk_at dksX9_comesBack_1 0 rfl rfl)
theorem dX9_comesBack_27 : decode cX9_comesBack 27 = .ok (.iload_n 1, 1) := dk_27 (dk_at dksX9_comesBack_1 3 rfl rfl)
theorem dX9_comesBack_28 : decode cX9_comesBack 28 = .ok (.iconst 1, 1) := dk_4 (dk_at dksX9_comesBack_1 4 rfl rfl)
theorem dX9_comesBack_29 : decode cX9_comesBack 29 = .ok (.iastore, 1) := dk_79 (dk_at dksX9_comesBack_1 5 rfl rfl)
theorem dX9_comesBack_30 : decode cX9_comesBack 30 = .ok (.iconst 1, 1) := dk_4 (dk_at dksX9_comesBack_1 6 rfl rfl)
theorem dX9_comesBack_31 : decode cX9_comesBack 31 = .ok (.istore_n 2, 1) := dk_61 (dk_at dksX9_comesBack_1 7 rfl rfl)
theorem dX9_comesBack_32 : decode cX9_comesBack 32 = .ok (.iload_n 2, 1) := dk_28 (dk_at dksX9_comesBack_1 8 rfl rfl)
theorem dX9_comesBack_33 : decode cX9_comesBack 33 = .ok (.ifCond .eq 128, 3) := dk_153 0 128 (dk_at dksX9_comesBack_1 9 rfl rfl)
theorem dX9_comesBack_36 : decode cX9_comesBack 36 = .ok (.iconst 0, 1) := dk_3 (dk_at dksX9_comesBack_1 12 rfl rfl)
theorem dX9_comesBack_37 : decode cX9_comesBack 37 = .ok (.istore_n 2, 1) := dk_61 (dk_at dksX9_comesBack_1 13 rfl rfl)
theorem dX9_comesBack_38 : decode cX9_comesBack 38 = .ok (.iconst 0, 1) := dk_3 (dk_at dksX9_comesBack_1 14 rfl rfl)
theorem dX9_comesBack_39 : decode cX9_comesBack 39 = .ok (.istore_n 3, 1) := dk_62 (dk_at dksX9_comesBack_1 15 rfl rfl)
theorem dX9_comesBack_40 : decode cX9_comesBack 40 = .ok (.iload_n 3, 1) := dk_29 (dk_at dksX9_comesBack_1 16 rfl rfl)
theorem dX9_comesBack_41 : decode cX9_comesBack 41 = .ok (.aload_n 0, 1) := dk_42 (dk_at dksX9_comesBack_1 17 rfl rfl)
theorem dX9_comesBack_42 : decode cX9_comesBack 42 = .ok (.getfield 345, 3) := dk_180 1 89 (dk_at dksX9_comesBack_1 18 rfl rfl)
theorem dX9_comesBack_45 : decode cX9_comesBack 45 = .ok (.if_icmp .ge 113, 3) := dk_162 0 113 (dk_at dksX9_comesBack_1 21 rfl rfl)
theorem dX9_comesBack_48 : decode cX9_comesBack 48 = .ok (.aload_n 0, 1) := dk_42 (dk_at dksX9_comesBack_2 0 rfl rfl)
theorem dX9_comesBack_49 : decode cX9_comesBack 49 = .ok (.getfield 99, 3) := dk_180 0 99 (dk_at dksX9_comesBack_2 1 rfl rfl)
theorem dX9_comesBack_52 : decode cX9_comesBack 52 = .ok (.iload_n 3, 1) := dk_29 (dk_at dksX9_comesBack_2 4 rfl rfl)
theorem dX9_comesBack_53 : decode cX9_comesBack 53 = .ok (.iaload, 1) := dk_46 (dk_at dksX9_comesBack_2 5 rfl rfl)
theorem dX9_comesBack_54 : decode cX9_comesBack 54 = .ok (.iconst 1, 1) := dk_4 (dk_at dksX9_comesBack_2 6 rfl rfl)
theorem dX9_comesBack_55 : decode cX9_comesBack 55 = .ok (.if_icmp .eq 6, 3) := dk_159 0 6 (dk_at dksX9_comesBack_2 7 rfl rfl)
theorem dX9_comesBack_58 : decode cX9_comesBack 58 = .ok (.goto 94, 3) := dk_167 0 94 (dk_at dksX9_comesBack_2 10 rfl rfl)
theorem dX9_comesBack_61 : decode cX9_comesBack 61 = .ok (.aload_n 0, 1) := dk_42 (dk_at dksX9_comesBack_2 13 rfl rfl)
theorem dX9_comesBack_62 : decode cX9_comesBack 62 = .ok (.getfield 99, 3) := dk_180 0 99 (dk_at dksX9_comesBack_2 14 rfl rfl)
theorem dX9_comesBack_65 : decode cX9_comesBack 65 = .ok (.iload_n 3, 1) := dk_29 (dk_at dksX9_comesBack_2 17 rfl rfl)
theorem dX9_comesBack_66 : decode cX9_comesBack 66 = .ok (.iconst 2, 1) := dk_5 (dk_at dksX9_comesBack_2 18 rfl rfl)
theorem dX9_comesBack_67 : decode cX9_comesBack 67 = .ok (.iastore, 1) := dk_79 (dk_at dksX9_comesBack_2 19 rfl rfl)
theorem dX9_comesBack_68 : decode cX9_comesBack 68 = .ok (.iconst 1, 1) := dk_4 (dk_at dksX9_comesBack_2 20 rfl rfl)
theorem dX9_comesBack_69 : decode cX9_comesBack 69 = .ok (.istore_n 2, 1) := dk_61 (dk_at dksX9_comesBack_2 21 rfl rfl)
theorem dX9_comesBack_70 : decode cX9_comesBack 70 = .ok (.iconst 0, 1) := dk_3 (dk_at dksX9_comesBack_2 22 rfl rfl)
theorem dX9_comesBack_71 : decode cX9_comesBack 71 = .ok (.istore 4, 2) := dk_54 4 (dk_at dksX9_comesBack_3 0 rfl rfl)
theorem dX9_comesBack_73 : decode cX9_comesBack 73 = .ok (.iload 4, 2) := dk_21 4 (dk_at dksX9_comesBack_3 2 rfl rfl)
theorem dX9_comesBack_75 : decode cX9_comesBack 75 = .ok (.aload_n 0, 1) := dk_42 (dk_at dksX9_comesBack_3 4 rfl rfl)
theorem dX9_comesBack_76 : decode cX9_comesBack 76 = .ok (.getfield 69, 3) := dk_180 0 69 (dk_at dksX9_comesBack_3 5 rfl rfl)
theorem dX9_comesBack_79 : decode cX9_comesBack 79 = .ok (.iload_n 3, 1) := dk_29 (dk_at dksX9_comesBack_3 8 rfl rfl)
theorem dX9_comesBack_80 : decode cX9_comesBack 80 = .ok (.iaload, 1) := dk_46 (dk_at dksX9_comesBack_3 9 rfl rfl)
theorem dX9_comesBack_81 : decode cX9_comesBack 81 = .ok (.if_icmp .ge 71, 3) := dk_162 0 71 (dk_at dksX9_comesBack_3 10 rfl rfl)
theorem dX9_comesBack_84 : decode cX9_comesBack 84 = .ok (.aload_n 0, 1) := dk_42 (dk_at dksX9_comesBack_3 13 rfl rfl)
theorem dX9_comesBack_85 : decode cX9_comesBack 85 = .ok (.getfield 72, 3) := dk_180 0 72 (dk_at dksX9_comesBack_3 14 rfl rfl)
theorem dX9_comesBack_88 : decode cX9_comesBack 88 = .ok (.iconst 4, 1) := dk_7 (dk_at dksX9_comesBack_3 17 rfl rfl)
theorem dX9_comesBack_89 : decode cX9_comesBack 89 = .ok (.iload_n 3, 1) := dk_29 (dk_at dksX9_comesBack_3 18 rfl rfl)
theorem dX9_comesBack_90 : decode cX9_comesBack 90 = .ok (.imul, 1) := dk_104 (dk_at dksX9_comesBack_3 19 rfl rfl)
theorem dX9_comesBack_91 : decode cX9_comesBack 91 = .ok (.iload 4, 2) := dk_21 4 (dk_at dksX9_comesBack_3 20 rfl rfl)
theorem dX9_comesBack_93 : decode cX9_comesBack 93 = .ok (.iadd, 1) := dk_96 (dk_at dksX9_comesBack_3 22 rfl rfl)
theorem dX9_comesBack_94 : decode cX9_comesBack 94 = .ok (.iaload, 1) := dk_46 (dk_at dksX9_comesBack_3 23 rfl rfl)
theorem dX9_comesBack_95 : decode cX9_comesBack 95 = .ok (.aload_n 0, 1) := dk_42 (dk_at dksX9_comesBack_4 0 rfl rfl)
theorem dX9_comesBack_96 : decode cX9_comesBack 96 = .ok (.getfield 66, 3) := dk_180 0 66 (dk_at dksX9_comesBack_4 1 rfl rfl)
theorem dX9_comesBack_99 : decode cX9_comesBack 99 = .ok (.iload_n 1, 1) := dk_27 (dk_at dksX9_comesBack_4 4 rfl rfl)
theorem dX9_comesBack_100 : decode cX9_comesBack 100 = .ok (.iaload, 1) := dk_46 (dk_at dksX9_comesBack_4 5 rfl rfl)
theorem dX9_comesBack_101 : decode cX9_comesBack 101 = .ok (.if_icmp .ne 5, 3) := dk_160 0 5 (dk_at dksX9_comesBack_4 6 rfl rfl)
theorem dX9_comesBack_104 : decode cX9_comesBack 104 = .ok (.iconst 1, 1) := dk_4 (dk_at dksX9_comesBack_4 9 rfl rfl)
theorem dX9_comesBack_105 : decode cX9_comesBack 105 = .ok (.ireturn, 1) := dk_172 (dk_at dksX9_comesBack_4 10 rfl rfl)
theorem dX9_comesBack_106 : decode cX9_comesBack 106 = .ok (.aload_n 0, 1) := dk_42 (dk_at dksX9_comesBack_4 11 rfl rfl)
theorem dX9_comesBack_107 : decode cX9_comesBack 107 = .ok (.aload_n 0, 1) := dk_42 (dk_at dksX9_comesBack_4 12 rfl rfl)
theorem dX9_comesBack_108 : decode cX9_comesBack 108 = .ok (.getfield 72, 3) := dk_180 0 72 (dk_at dksX9_comesBack_4 13 rfl rfl)
theorem dX9_comesBack_111 : decode cX9_comesBack 111 = .ok (.iconst 4, 1) := dk_7 (dk_at dksX9_comesBack_4 16 rfl rfl)
theorem dX9_comesBack_112 : decode cX9_comesBack 112 = .ok (.iload_n 3, 1) := dk_29 (dk_at dksX9_comesBack_4 17 rfl rfl)
theorem dX9_comesBack_113 : decode cX9_comesBack 113 = .ok (.imul, 1) := dk_104 (dk_at dksX9_comesBack_4 18 rfl rfl)
theorem dX9_comesBack_114 : decode cX9_comesBack 114 = .ok (.iload 4, 2) := dk_21 4 (dk_at dksX9_comesBack_4 19 rfl rfl)
theorem dX9_comesBack_116 : decode cX9_comesBack 116 = .ok (.iadd, 1) := dk_96 (dk_at dksX9_comesBack_4 21 rfl rfl)
theorem dX9_comesBack_117 : decode cX9_comesBack 117 = .ok (.iaload, 1) := dk_46 (dk_at dksX9_comesBack_4 22 rfl rfl)
theorem dX9_comesBack_118 : decode cX9_comesBack 118 = .ok (.invokevirtual 357, 3) := dk_182 1 101 (dk_at dksX9_comesBack_5 0 rfl rfl)
theorem dX9_comesBack_121 : decode cX9_comesBack 121 = .ok (.istore 5, 2) := dk_54 5 (dk_at dksX9_comesBack_5 3 rfl rfl)
theorem dX9_comesBack_123 : decode cX9_comesBack 123 = .ok (.iload 5, 2) := dk_21 5 (dk_at dksX9_comesBack_5 5 rfl rfl)
theorem dX9_comesBack_125 : decode cX9_comesBack 125 = .ok (.ifCond .lt 21, 3) := dk_155 0 21 (dk_at dksX9_comesBack_5 7 rfl rfl)
theorem dX9_comesBack_128 : decode cX9_comesBack 128 = .ok (.aload_n 0, 1) := dk_42 (dk_at dksX9_comesBack_5 10 rfl rfl)
theorem dX9_comesBack_129 : decode cX9_comesBack 129 = .ok (.getfield 99, 3) := dk_180 0 99 (dk_at dksX9_comesBack_5 11 rfl rfl)
theorem dX9_comesBack_132 : decode cX9_comesBack 132 = .ok (.iload 5, 2) := dk_21 5 (dk_at dksX9_comesBack_5 14 rfl rfl)
theorem dX9_comesBack_134 : decode cX9_comesBack 134 = .ok (.iaload, 1) := dk_46 (dk_at dksX9_comesBack_5 16 rfl rfl)
theorem dX9_comesBack_135 : decode cX9_comesBack 135 = .ok (.ifCond .ne 11, 3) := dk_154 0 11 (dk_at dksX9_comesBack_5 17 rfl rfl)
theorem dX9_comesBack_138 : decode cX9_comesBack 138 = .ok (.aload_n 0, 1) := dk_42 (dk_at dksX9_comesBack_5 20 rfl rfl)
theorem dX9_comesBack_139 : decode cX9_comesBack 139 = .ok (.getfield 99, 3) := dk_180 0 99 (dk_at dksX9_comesBack_5 21 rfl rfl)
theorem dX9_comesBack_142 : decode cX9_comesBack 142 = .ok (.iload 5, 2) := dk_21 5 (dk_at dksX9_comesBack_6 0 rfl rfl)
theorem dX9_comesBack_144 : decode cX9_comesBack 144 = .ok (.iconst 1, 1) := dk_4 (dk_at dksX9_comesBack_6 2 rfl rfl)
theorem dX9_comesBack_145 : decode cX9_comesBack 145 = .ok (.iastore, 1) := dk_79 (dk_at dksX9_comesBack_6 3 rfl rfl)
theorem dX9_comesBack_146 : decode cX9_comesBack 146 = .ok (.iinc 4 1, 3) := dk_132 4 1 (dk_at dksX9_comesBack_6 4 rfl rfl)
theorem dX9_comesBack_149 : decode cX9_comesBack 149 = .ok (.goto (-76), 3) := dk_167 255 180 (dk_at dksX9_comesBack_6 7 rfl rfl)
theorem dX9_comesBack_152 : decode cX9_comesBack 152 = .ok (.iinc 3 1, 3) := dk_132 3 1 (dk_at dksX9_comesBack_6 10 rfl rfl)
theorem dX9_comesBack_155 : decode cX9_comesBack 155 = .ok (.goto (-115), 3) := dk_167 255 141 (dk_at dksX9_comesBack_6 13 rfl rfl)
theorem dX9_comesBack_158 : decode cX9_comesBack 158 = .ok (.goto (-126), 3) := dk_167 255 130 (dk_at dksX9_comesBack_6 16 rfl rfl)
theorem dX9_comesBack_161 : decode cX9_comesBack 161 = .ok (.iconst 0, 1) := dk_3 (dk_at dksX9_comesBack_6 19 rfl rfl)
theorem dX9_comesBack_162 : decode cX9_comesBack 162 = .ok (.ireturn, 1) := dk_172 (dk_at dksX9_comesBack_6 20 rfl rfl)
abbrev cX9_length : ByteArray := prog_17_method_65_code
def yX9_length : MethodName := ⟨RX9, "length", "(I[I)I"⟩
def dkwX9_length_3 : List UInt8 := [29, 16, 17, 164, 0, 8, 16, 17, 167, 0, 4, 29, 79, 44, 27, 46, 172]
abbrev dktX9_length_3 : List UInt8 := dkwX9_length_3 ++ []
def dkwX9_length_2 : List UInt8 := [156, 0, 7, 4, 167, 0, 10, 42, 21, 5, 44, 182, 1, 125, 96, 62, 132, 4, 1, 167, 255, 206, 44, 27]
abbrev dktX9_length_2 : List UInt8 := dkwX9_length_2 ++ dktX9_length_3
def dkwX9_length_1 : List UInt8 := [162, 0, 45, 42, 42, 180, 0, 72, 7, 27, 104, 21, 4, 96, 46, 182, 1, 101, 54, 5, 29, 21, 5]
abbrev dktX9_length_1 : List UInt8 := dkwX9_length_1 ++ dktX9_length_2
def dkwX9_length_0 : List UInt8 := [44, 27, 46, 158, 0, 7, 44, 27, 46, 172, 3, 62, 3, 54, 4, 21, 4, 42, 180, 0, 69, 27, 46]
abbrev dktX9_length_0 : List UInt8 := dkwX9_length_0 ++ dktX9_length_1
theorem dksX9_length_0 : cX9_length.data.toList.drop 0 = dktX9_length_0 := by decide +kernel
theorem dksX9_length_1 : cX9_length.data.toList.drop 23 = dktX9_length_1 := dk_seg dksX9_length_0 23 rfl rfl
theorem dksX9_length_2 : cX9_length.data.toList.drop 46 = dktX9_length_2 := dk_seg dksX9_length_1 23 rfl rfl
theorem dksX9_length_3 : cX9_length.data.toList.drop 70 = dktX9_length_3 := dk_seg dksX9_length_2 24 rfl rfl
theorem dX9_length_0 : decode cX9_length 0 = .ok (.aload_n 2, 1) := dk_44 (dk_at dksX9_length_0 0 rfl rfl)
theorem dX9_length_1 : decode cX9_length 1 = .ok (.iload_n 1, 1) := dk_27 (dk_at dksX9_length_0 1 rfl rfl)
theorem dX9_length_2 : decode cX9_length 2 = .ok (.iaload, 1) := dk_46 (dk_at dksX9_length_0 2 rfl rfl)
theorem dX9_length_3 : decode cX9_length 3 = .ok (.ifCond .le 7, 3) := dk_158 0 7 (dk_at dksX9_length_0 3 rfl rfl)
theorem dX9_length_6 : decode cX9_length 6 = .ok (.aload_n 2, 1) := dk_44 (dk_at dksX9_length_0 6 rfl rfl)
theorem dX9_length_7 : decode cX9_length 7 = .ok (.iload_n 1, 1) := dk_27 (dk_at dksX9_length_0 7 rfl rfl)
theorem dX9_length_8 : decode cX9_length 8 = .ok (.iaload, 1) := dk_46 (dk_at dksX9_length_0 8 rfl rfl)
theorem dX9_length_9 : decode cX9_length 9 = .ok (.ireturn, 1) := dk_172 (dk_at dksX9_length_0 9 rfl rfl)
theorem dX9_length_10 : decode cX9_length 10 = .ok (.iconst 0, 1) := dk_3 (dk_at dksX9_length_0 10 rfl rfl)
theorem dX9_length_11 : decode cX9_length 11 = .ok (.istore_n 3, 1) := dk_62 (dk_at dksX9_length_0 11 rfl rfl)
theorem dX9_length_12 : decode cX9_length 12 = .ok (.iconst 0, 1) := dk_3 (dk_at dksX9_length_0 12 rfl rfl)
theorem dX9_length_13 : decode cX9_length 13 = .ok (.istore 4, 2) := dk_54 4 (dk_at dksX9_length_0 13 rfl rfl)
theorem dX9_length_15 : decode cX9_length 15 = .ok (.iload 4, 2) := dk_21 4 (dk_at dksX9_length_0 15 rfl rfl)
theorem dX9_length_17 : decode cX9_length 17 = .ok (.aload_n 0, 1) := dk_42 (dk_at dksX9_length_0 17 rfl rfl)
theorem dX9_length_18 : decode cX9_length 18 = .ok (.getfield 69, 3) := dk_180 0 69 (dk_at dksX9_length_0 18 rfl rfl)
theorem dX9_length_21 : decode cX9_length 21 = .ok (.iload_n 1, 1) := dk_27 (dk_at dksX9_length_0 21 rfl rfl)
theorem dX9_length_22 : decode cX9_length 22 = .ok (.iaload, 1) := dk_46 (dk_at dksX9_length_0 22 rfl rfl)
theorem dX9_length_23 : decode cX9_length 23 = .ok (.if_icmp .ge 45, 3) := dk_162 0 45 (dk_at dksX9_length_1 0 rfl rfl)
theorem dX9_length_26 : decode cX9_length 26 = .ok (.aload_n 0, 1) := dk_42 (dk_at dksX9_length_1 3 rfl rfl)
theorem dX9_length_27 : decode cX9_length 27 = .ok (.aload_n 0, 1) := dk_42 (dk_at dksX9_length_1 4 rfl rfl)
theorem dX9_length_28 : decode cX9_length 28 = .ok (.getfield 72, 3) := dk_180 0 72 (dk_at dksX9_length_1 5 rfl rfl)
theorem dX9_length_31 : decode cX9_length 31 = .ok (.iconst 4, 1) := dk_7 (dk_at dksX9_length_1 8 rfl rfl)
theorem dX9_length_32 : decode cX9_length 32 = .ok (.iload_n 1, 1) := dk_27 (dk_at dksX9_length_1 9 rfl rfl)
theorem dX9_length_33 : decode cX9_length 33 = .ok (.imul, 1) := dk_104 (dk_at dksX9_length_1 10 rfl rfl)
theorem dX9_length_34 : decode cX9_length 34 = .ok (.iload 4, 2) := dk_21 4 (dk_at dksX9_length_1 11 rfl rfl)
theorem dX9_length_36 : decode cX9_length 36 = .ok (.iadd, 1) := dk_96 (dk_at dksX9_length_1 13 rfl rfl)
theorem dX9_length_37 : decode cX9_length 37 = .ok (.iaload, 1) := dk_46 (dk_at dksX9_length_1 14 rfl rfl)
theorem dX9_length_38 : decode cX9_length 38 = .ok (.invokevirtual 357, 3) := dk_182 1 101 (dk_at dksX9_length_1 15 rfl rfl)
theorem dX9_length_41 : decode cX9_length 41 = .ok (.istore 5, 2) := dk_54 5 (dk_at dksX9_length_1 18 rfl rfl)
theorem dX9_length_43 : decode cX9_length 43 = .ok (.iload_n 3, 1) := dk_29 (dk_at dksX9_length_1 20 rfl rfl)
theorem dX9_length_44 : decode cX9_length 44 = .ok (.iload 5, 2) := dk_21 5 (dk_at dksX9_length_1 21 rfl rfl)
theorem dX9_length_46 : decode cX9_length 46 = .ok (.ifCond .ge 7, 3) := dk_156 0 7 (dk_at dksX9_length_2 0 rfl rfl)
theorem dX9_length_49 : decode cX9_length 49 = .ok (.iconst 1, 1) := dk_4 (dk_at dksX9_length_2 3 rfl rfl)
theorem dX9_length_50 : decode cX9_length 50 = .ok (.goto 10, 3) := dk_167 0 10 (dk_at dksX9_length_2 4 rfl rfl)
theorem dX9_length_53 : decode cX9_length 53 = .ok (.aload_n 0, 1) := dk_42 (dk_at dksX9_length_2 7 rfl rfl)
theorem dX9_length_54 : decode cX9_length 54 = .ok (.iload 5, 2) := dk_21 5 (dk_at dksX9_length_2 8 rfl rfl)
theorem dX9_length_56 : decode cX9_length 56 = .ok (.aload_n 2, 1) := dk_44 (dk_at dksX9_length_2 10 rfl rfl)
theorem dX9_length_57 : decode cX9_length 57 = .ok (.invokevirtual 381, 3) := dk_182 1 125 (dk_at dksX9_length_2 11 rfl rfl)
theorem dX9_length_60 : decode cX9_length 60 = .ok (.iadd, 1) := dk_96 (dk_at dksX9_length_2 14 rfl rfl)
theorem dX9_length_61 : decode cX9_length 61 = .ok (.istore_n 3, 1) := dk_62 (dk_at dksX9_length_2 15 rfl rfl)
theorem dX9_length_62 : decode cX9_length 62 = .ok (.iinc 4 1, 3) := dk_132 4 1 (dk_at dksX9_length_2 16 rfl rfl)
theorem dX9_length_65 : decode cX9_length 65 = .ok (.goto (-50), 3) := dk_167 255 206 (dk_at dksX9_length_2 19 rfl rfl)
theorem dX9_length_68 : decode cX9_length 68 = .ok (.aload_n 2, 1) := dk_44 (dk_at dksX9_length_2 22 rfl rfl)
theorem dX9_length_69 : decode cX9_length 69 = .ok (.iload_n 1, 1) := dk_27 (dk_at dksX9_length_2 23 rfl rfl)
theorem dX9_length_70 : decode cX9_length 70 = .ok (.iload_n 3, 1) := dk_29 (dk_at dksX9_length_3 0 rfl rfl)
theorem dX9_length_71 : decode cX9_length 71 = .ok (.bipush 17, 2) := dk_16 17 (dk_at dksX9_length_3 1 rfl rfl)
theorem dX9_length_73 : decode cX9_length 73 = .ok (.if_icmp .le 8, 3) := dk_164 0 8 (dk_at dksX9_length_3 3 rfl rfl)
theorem dX9_length_76 : decode cX9_length 76 = .ok (.bipush 17, 2) := dk_16 17 (dk_at dksX9_length_3 6 rfl rfl)
theorem dX9_length_78 : decode cX9_length 78 = .ok (.goto 4, 3) := dk_167 0 4 (dk_at dksX9_length_3 8 rfl rfl)
theorem dX9_length_81 : decode cX9_length 81 = .ok (.iload_n 3, 1) := dk_29 (dk_at dksX9_length_3 11 rfl rfl)
theorem dX9_length_82 : decode cX9_length 82 = .ok (.iastore, 1) := dk_79 (dk_at dksX9_length_3 12 rfl rfl)
theorem dX9_length_83 : decode cX9_length 83 = .ok (.aload_n 2, 1) := dk_44 (dk_at dksX9_length_3 13 rfl rfl)
theorem dX9_length_84 : decode cX9_length 84 = .ok (.iload_n 1, 1) := dk_27 (dk_at dksX9_length_3 14 rfl rfl)
theorem dX9_length_85 : decode cX9_length 85 = .ok (.iaload, 1) := dk_46 (dk_at dksX9_length_3 15 rfl rfl)
theorem dX9_length_86 : decode cX9_length 86 = .ok (.ireturn, 1) := dk_172 (dk_at dksX9_length_3 16 rfl rfl)
abbrev cX9_begin : ByteArray := prog_17_method_67_code
def yX9_begin : MethodName := ⟨RX9, "begin", "(IIZI)I"⟩
def dkwX9_begin_5 : List UInt8 := [27, 3, 79, 42, 180, 0, 132, 27, 3, 79, 42, 180, 0, 135, 27, 3, 79, 3, 172]
abbrev dktX9_begin_5 : List UInt8 := dkwX9_begin_5 ++ []
def dkwX9_begin_4 : List UInt8 := [180, 0, 117, 27, 3, 79, 42, 180, 0, 120, 27, 7, 79, 42, 180, 0, 123, 27, 3, 79, 42, 180, 0, 129]
abbrev dktX9_begin_4 : List UInt8 := dkwX9_begin_4 ++ dktX9_begin_5
def dkwX9_begin_3 : List UInt8 := [180, 0, 108, 27, 28, 79, 42, 180, 0, 111, 27, 29, 84, 42, 180, 0, 114, 27, 21, 4, 79, 42]
abbrev dktX9_begin_3 : List UInt8 := dkwX9_begin_3 ++ dktX9_begin_4
def dkwX9_begin_2 : List UInt8 := [167, 0, 4, 6, 184, 0, 156, 154, 0, 9, 42, 2, 182, 0, 166, 172, 42, 180, 0, 105, 27, 4, 84, 42]
abbrev dktX9_begin_2 : List UInt8 := dkwX9_begin_2 ++ dktX9_begin_3
def dkwX9_begin_1 : List UInt8 := [180, 0, 13, 28, 51, 154, 0, 10, 42, 16, 251, 182, 0, 166, 172, 21, 4, 3, 29, 153, 0, 7, 7]
abbrev dktX9_begin_1 : List UInt8 := dkwX9_begin_1 ++ dktX9_begin_2
def dkwX9_begin_0 : List UInt8 := [27, 3, 6, 184, 0, 156, 153, 0, 11, 42, 28, 182, 0, 170, 154, 0, 9, 42, 2, 182, 0, 166, 172, 42]
abbrev dktX9_begin_0 : List UInt8 := dkwX9_begin_0 ++ dktX9_begin_1
theorem dksX9_begin_0 : cX9_begin.data.toList.drop 0 = dktX9_begin_0 := by decide +kernel
theorem dksX9_begin_1 : cX9_begin.data.toList.drop 24 = dktX9_begin_1 := dk_seg dksX9_begin_0 24 rfl rfl
theorem dksX9_begin_2 : cX9_begin.data.toList.drop 47 = dktX9_begin_2 := dk_seg dksX9_begin_1 23 rfl rfl
theorem dksX9_begin_3 : cX9_begin.data.toList.drop 71 = dktX9_begin_3 := dk_seg dksX9_begin_2 24 rfl rfl
theorem dksX9_begin_4 : cX9_begin.data.toList.drop 93 = dktX9_begin_4 := dk_seg dksX9_begin_3 22 rfl rfl
theorem dksX9_begin_5 : cX9_begin.data.toList.drop 117 = dktX9_begin_5 := dk_seg dksX9_begin_4 24 rfl rfl
theorem dX9_begin_0 : decode cX9_begin 0 = .ok (.iload_n 1, 1) := dk_27 (dk_at dksX9_begin_0 0 rfl rfl)
theorem dX9_begin_1 : decode cX9_begin 1 = .ok (.iconst 0, 1) := dk_3 (dk_at dksX9_begin_0 1 rfl rfl)
theorem dX9_begin_2 : decode cX9_begin 2 = .ok (.iconst 3, 1) := dk_6 (dk_at dksX9_begin_0 2 rfl rfl)
theorem dX9_begin_3 : decode cX9_begin 3 = .ok (.invokestatic 156, 3) := dk_184 0 156 (dk_at dksX9_begin_0 3 rfl rfl)
theorem dX9_begin_6 : decode cX9_begin 6 = .ok (.ifCond .eq 11, 3) := dk_153 0 11 (dk_at dksX9_begin_0 6 rfl rfl)
theorem dX9_begin_9 : decode cX9_begin 9 = .ok (.aload_n 0, 1) := dk_42 (dk_at dksX9_begin_0 9 rfl rfl)
theorem dX9_begin_10 : decode cX9_begin 10 = .ok (.iload_n 2, 1) := dk_28 (dk_at dksX9_begin_0 10 rfl rfl)
theorem dX9_begin_11 : decode cX9_begin 11 = .ok (.invokevirtual 170, 3) := dk_182 0 170 (dk_at dksX9_begin_0 11 rfl rfl)
theorem dX9_begin_14 : decode cX9_begin 14 = .ok (.ifCond .ne 9, 3) := dk_154 0 9 (dk_at dksX9_begin_0 14 rfl rfl)
theorem dX9_begin_17 : decode cX9_begin 17 = .ok (.aload_n 0, 1) := dk_42 (dk_at dksX9_begin_0 17 rfl rfl)
theorem dX9_begin_18 : decode cX9_begin 18 = .ok (.iconst (-1), 1) := dk_2 (dk_at dksX9_begin_0 18 rfl rfl)
theorem dX9_begin_19 : decode cX9_begin 19 = .ok (.invokevirtual 166, 3) := dk_182 0 166 (dk_at dksX9_begin_0 19 rfl rfl)
theorem dX9_begin_22 : decode cX9_begin 22 = .ok (.ireturn, 1) := dk_172 (dk_at dksX9_begin_0 22 rfl rfl)
theorem dX9_begin_23 : decode cX9_begin 23 = .ok (.aload_n 0, 1) := dk_42 (dk_at dksX9_begin_0 23 rfl rfl)
theorem dX9_begin_24 : decode cX9_begin 24 = .ok (.getfield 13, 3) := dk_180 0 13 (dk_at dksX9_begin_1 0 rfl rfl)
theorem dX9_begin_27 : decode cX9_begin 27 = .ok (.iload_n 2, 1) := dk_28 (dk_at dksX9_begin_1 3 rfl rfl)
theorem dX9_begin_28 : decode cX9_begin 28 = .ok (.baload, 1) := dk_51 (dk_at dksX9_begin_1 4 rfl rfl)
theorem dX9_begin_29 : decode cX9_begin 29 = .ok (.ifCond .ne 10, 3) := dk_154 0 10 (dk_at dksX9_begin_1 5 rfl rfl)
theorem dX9_begin_32 : decode cX9_begin 32 = .ok (.aload_n 0, 1) := dk_42 (dk_at dksX9_begin_1 8 rfl rfl)
theorem dX9_begin_33 : decode cX9_begin 33 = .ok (.bipush (-5), 2) := dk_16 251 (dk_at dksX9_begin_1 9 rfl rfl)
theorem dX9_begin_35 : decode cX9_begin 35 = .ok (.invokevirtual 166, 3) := dk_182 0 166 (dk_at dksX9_begin_1 11 rfl rfl)
theorem dX9_begin_38 : decode cX9_begin 38 = .ok (.ireturn, 1) := dk_172 (dk_at dksX9_begin_1 14 rfl rfl)
theorem dX9_begin_39 : decode cX9_begin 39 = .ok (.iload 4, 2) := dk_21 4 (dk_at dksX9_begin_1 15 rfl rfl)
theorem dX9_begin_41 : decode cX9_begin 41 = .ok (.iconst 0, 1) := dk_3 (dk_at dksX9_begin_1 17 rfl rfl)
theorem dX9_begin_42 : decode cX9_begin 42 = .ok (.iload_n 3, 1) := dk_29 (dk_at dksX9_begin_1 18 rfl rfl)
theorem dX9_begin_43 : decode cX9_begin 43 = .ok (.ifCond .eq 7, 3) := dk_153 0 7 (dk_at dksX9_begin_1 19 rfl rfl)
theorem dX9_begin_46 : decode cX9_begin 46 = .ok (.iconst 4, 1) := dk_7 (dk_at dksX9_begin_1 22 rfl rfl)
theorem dX9_begin_47 : decode cX9_begin 47 = .ok (.goto 4, 3) := dk_167 0 4 (dk_at dksX9_begin_2 0 rfl rfl)
theorem dX9_begin_50 : decode cX9_begin 50 = .ok (.iconst 3, 1) := dk_6 (dk_at dksX9_begin_2 3 rfl rfl)
theorem dX9_begin_51 : decode cX9_begin 51 = .ok (.invokestatic 156, 3) := dk_184 0 156 (dk_at dksX9_begin_2 4 rfl rfl)
theorem dX9_begin_54 : decode cX9_begin 54 = .ok (.ifCond .ne 9, 3) := dk_154 0 9 (dk_at dksX9_begin_2 7 rfl rfl)
theorem dX9_begin_57 : decode cX9_begin 57 = .ok (.aload_n 0, 1) := dk_42 (dk_at dksX9_begin_2 10 rfl rfl)
theorem dX9_begin_58 : decode cX9_begin 58 = .ok (.iconst (-1), 1) := dk_2 (dk_at dksX9_begin_2 11 rfl rfl)
theorem dX9_begin_59 : decode cX9_begin 59 = .ok (.invokevirtual 166, 3) := dk_182 0 166 (dk_at dksX9_begin_2 12 rfl rfl)
theorem dX9_begin_62 : decode cX9_begin 62 = .ok (.ireturn, 1) := dk_172 (dk_at dksX9_begin_2 15 rfl rfl)
theorem dX9_begin_63 : decode cX9_begin 63 = .ok (.aload_n 0, 1) := dk_42 (dk_at dksX9_begin_2 16 rfl rfl)
theorem dX9_begin_64 : decode cX9_begin 64 = .ok (.getfield 105, 3) := dk_180 0 105 (dk_at dksX9_begin_2 17 rfl rfl)
theorem dX9_begin_67 : decode cX9_begin 67 = .ok (.iload_n 1, 1) := dk_27 (dk_at dksX9_begin_2 20 rfl rfl)
theorem dX9_begin_68 : decode cX9_begin 68 = .ok (.iconst 1, 1) := dk_4 (dk_at dksX9_begin_2 21 rfl rfl)
theorem dX9_begin_69 : decode cX9_begin 69 = .ok (.bastore, 1) := dk_84 (dk_at dksX9_begin_2 22 rfl rfl)
theorem dX9_begin_70 : decode cX9_begin 70 = .ok (.aload_n 0, 1) := dk_42 (dk_at dksX9_begin_2 23 rfl rfl)
theorem dX9_begin_71 : decode cX9_begin 71 = .ok (.getfield 108, 3) := dk_180 0 108 (dk_at dksX9_begin_3 0 rfl rfl)
theorem dX9_begin_74 : decode cX9_begin 74 = .ok (.iload_n 1, 1) := dk_27 (dk_at dksX9_begin_3 3 rfl rfl)
theorem dX9_begin_75 : decode cX9_begin 75 = .ok (.iload_n 2, 1) := dk_28 (dk_at dksX9_begin_3 4 rfl rfl)
theorem dX9_begin_76 : decode cX9_begin 76 = .ok (.iastore, 1) := dk_79 (dk_at dksX9_begin_3 5 rfl rfl)
theorem dX9_begin_77 : decode cX9_begin 77 = .ok (.aload_n 0, 1) := dk_42 (dk_at dksX9_begin_3 6 rfl rfl)
theorem dX9_begin_78 : decode cX9_begin 78 = .ok (.getfield 111, 3) := dk_180 0 111 (dk_at dksX9_begin_3 7 rfl rfl)
theorem dX9_begin_81 : decode cX9_begin 81 = .ok (.iload_n 1, 1) := dk_27 (dk_at dksX9_begin_3 10 rfl rfl)
theorem dX9_begin_82 : decode cX9_begin 82 = .ok (.iload_n 3, 1) := dk_29 (dk_at dksX9_begin_3 11 rfl rfl)
theorem dX9_begin_83 : decode cX9_begin 83 = .ok (.bastore, 1) := dk_84 (dk_at dksX9_begin_3 12 rfl rfl)
theorem dX9_begin_84 : decode cX9_begin 84 = .ok (.aload_n 0, 1) := dk_42 (dk_at dksX9_begin_3 13 rfl rfl)
theorem dX9_begin_85 : decode cX9_begin 85 = .ok (.getfield 114, 3) := dk_180 0 114 (dk_at dksX9_begin_3 14 rfl rfl)
theorem dX9_begin_88 : decode cX9_begin 88 = .ok (.iload_n 1, 1) := dk_27 (dk_at dksX9_begin_3 17 rfl rfl)
theorem dX9_begin_89 : decode cX9_begin 89 = .ok (.iload 4, 2) := dk_21 4 (dk_at dksX9_begin_3 18 rfl rfl)
theorem dX9_begin_91 : decode cX9_begin 91 = .ok (.iastore, 1) := dk_79 (dk_at dksX9_begin_3 20 rfl rfl)
theorem dX9_begin_92 : decode cX9_begin 92 = .ok (.aload_n 0, 1) := dk_42 (dk_at dksX9_begin_3 21 rfl rfl)
theorem dX9_begin_93 : decode cX9_begin 93 = .ok (.getfield 117, 3) := dk_180 0 117 (dk_at dksX9_begin_4 0 rfl rfl)
theorem dX9_begin_96 : decode cX9_begin 96 = .ok (.iload_n 1, 1) := dk_27 (dk_at dksX9_begin_4 3 rfl rfl)
theorem dX9_begin_97 : decode cX9_begin 97 = .ok (.iconst 0, 1) := dk_3 (dk_at dksX9_begin_4 4 rfl rfl)
theorem dX9_begin_98 : decode cX9_begin 98 = .ok (.iastore, 1) := dk_79 (dk_at dksX9_begin_4 5 rfl rfl)
theorem dX9_begin_99 : decode cX9_begin 99 = .ok (.aload_n 0, 1) := dk_42 (dk_at dksX9_begin_4 6 rfl rfl)
theorem dX9_begin_100 : decode cX9_begin 100 = .ok (.getfield 120, 3) := dk_180 0 120 (dk_at dksX9_begin_4 7 rfl rfl)
theorem dX9_begin_103 : decode cX9_begin 103 = .ok (.iload_n 1, 1) := dk_27 (dk_at dksX9_begin_4 10 rfl rfl)
theorem dX9_begin_104 : decode cX9_begin 104 = .ok (.iconst 4, 1) := dk_7 (dk_at dksX9_begin_4 11 rfl rfl)
theorem dX9_begin_105 : decode cX9_begin 105 = .ok (.iastore, 1) := dk_79 (dk_at dksX9_begin_4 12 rfl rfl)
theorem dX9_begin_106 : decode cX9_begin 106 = .ok (.aload_n 0, 1) := dk_42 (dk_at dksX9_begin_4 13 rfl rfl)
theorem dX9_begin_107 : decode cX9_begin 107 = .ok (.getfield 123, 3) := dk_180 0 123 (dk_at dksX9_begin_4 14 rfl rfl)
theorem dX9_begin_110 : decode cX9_begin 110 = .ok (.iload_n 1, 1) := dk_27 (dk_at dksX9_begin_4 17 rfl rfl)
theorem dX9_begin_111 : decode cX9_begin 111 = .ok (.iconst 0, 1) := dk_3 (dk_at dksX9_begin_4 18 rfl rfl)
theorem dX9_begin_112 : decode cX9_begin 112 = .ok (.iastore, 1) := dk_79 (dk_at dksX9_begin_4 19 rfl rfl)
theorem dX9_begin_113 : decode cX9_begin 113 = .ok (.aload_n 0, 1) := dk_42 (dk_at dksX9_begin_4 20 rfl rfl)
theorem dX9_begin_114 : decode cX9_begin 114 = .ok (.getfield 129, 3) := dk_180 0 129 (dk_at dksX9_begin_4 21 rfl rfl)
theorem dX9_begin_117 : decode cX9_begin 117 = .ok (.iload_n 1, 1) := dk_27 (dk_at dksX9_begin_5 0 rfl rfl)
theorem dX9_begin_118 : decode cX9_begin 118 = .ok (.iconst 0, 1) := dk_3 (dk_at dksX9_begin_5 1 rfl rfl)
theorem dX9_begin_119 : decode cX9_begin 119 = .ok (.iastore, 1) := dk_79 (dk_at dksX9_begin_5 2 rfl rfl)
theorem dX9_begin_120 : decode cX9_begin 120 = .ok (.aload_n 0, 1) := dk_42 (dk_at dksX9_begin_5 3 rfl rfl)
theorem dX9_begin_121 : decode cX9_begin 121 = .ok (.getfield 132, 3) := dk_180 0 132 (dk_at dksX9_begin_5 4 rfl rfl)
theorem dX9_begin_124 : decode cX9_begin 124 = .ok (.iload_n 1, 1) := dk_27 (dk_at dksX9_begin_5 7 rfl rfl)
theorem dX9_begin_125 : decode cX9_begin 125 = .ok (.iconst 0, 1) := dk_3 (dk_at dksX9_begin_5 8 rfl rfl)
theorem dX9_begin_126 : decode cX9_begin 126 = .ok (.iastore, 1) := dk_79 (dk_at dksX9_begin_5 9 rfl rfl)
theorem dX9_begin_127 : decode cX9_begin 127 = .ok (.aload_n 0, 1) := dk_42 (dk_at dksX9_begin_5 10 rfl rfl)
theorem dX9_begin_128 : decode cX9_begin 128 = .ok (.getfield 135, 3) := dk_180 0 135 (dk_at dksX9_begin_5 11 rfl rfl)
theorem dX9_begin_131 : decode cX9_begin 131 = .ok (.iload_n 1, 1) := dk_27 (dk_at dksX9_begin_5 14 rfl rfl)
theorem dX9_begin_132 : decode cX9_begin 132 = .ok (.iconst 0, 1) := dk_3 (dk_at dksX9_begin_5 15 rfl rfl)
theorem dX9_begin_133 : decode cX9_begin 133 = .ok (.iastore, 1) := dk_79 (dk_at dksX9_begin_5 16 rfl rfl)
theorem dX9_begin_134 : decode cX9_begin 134 = .ok (.iconst 0, 1) := dk_3 (dk_at dksX9_begin_5 17 rfl rfl)
theorem dX9_begin_135 : decode cX9_begin 135 = .ok (.ireturn, 1) := dk_172 (dk_at dksX9_begin_5 18 rfl rfl)
abbrev cX9_feed : ByteArray := prog_17_method_72_code
def yX9_feed : MethodName := ⟨RX9, "feed", "(II)I"⟩
def dkwX9_feed_6 : List UInt8 := [96, 79, 42, 27, 3, 182, 1, 142, 172]
abbrev dktX9_feed_6 : List UInt8 := dkwX9_feed_6 ++ []
def dkwX9_feed_5 : List UInt8 := [180, 0, 126, 16, 8, 27, 104, 42, 180, 0, 123, 27, 46, 96, 28, 79, 42, 180, 0, 123, 27, 92, 46, 4]
abbrev dktX9_feed_5 : List UInt8 := dkwX9_feed_5 ++ dktX9_feed_6
def dkwX9_feed_4 : List UInt8 := [92, 46, 4, 96, 79, 42, 180, 0, 111, 27, 51, 153, 0, 10, 42, 27, 28, 182, 1, 139, 172, 42]
abbrev dktX9_feed_4 : List UInt8 := dkwX9_feed_4 ++ dktX9_feed_5
def dkwX9_feed_3 : List UInt8 := [42, 180, 0, 135, 27, 46, 17, 1, 44, 164, 0, 10, 42, 16, 250, 182, 0, 166, 172, 42, 180, 0, 129, 27]
abbrev dktX9_feed_3 : List UInt8 := dkwX9_feed_3 ++ dktX9_feed_4
def dkwX9_feed_2 : List UInt8 := [153, 0, 9, 19, 1, 138, 167, 0, 6, 17, 0, 255, 184, 0, 156, 154, 0, 9, 42, 2, 182, 0, 166, 172]
abbrev dktX9_feed_2 : List UInt8 := dkwX9_feed_2 ++ dktX9_feed_3
def dkwX9_feed_1 : List UInt8 := [42, 180, 0, 132, 27, 46, 153, 0, 10, 42, 16, 254, 182, 0, 166, 172, 28, 3, 42, 180, 0, 111, 27, 51]
abbrev dktX9_feed_1 : List UInt8 := dkwX9_feed_1 ++ dktX9_feed_2
def dkwX9_feed_0 : List UInt8 := [27, 3, 6, 184, 0, 156, 154, 0, 9, 42, 2, 182, 0, 166, 172, 42, 180, 0, 105, 27, 51, 153, 0, 12]
abbrev dktX9_feed_0 : List UInt8 := dkwX9_feed_0 ++ dktX9_feed_1
theorem dksX9_feed_0 : cX9_feed.data.toList.drop 0 = dktX9_feed_0 := by decide +kernel
theorem dksX9_feed_1 : cX9_feed.data.toList.drop 24 = dktX9_feed_1 := dk_seg dksX9_feed_0 24 rfl rfl
theorem dksX9_feed_2 : cX9_feed.data.toList.drop 48 = dktX9_feed_2 := dk_seg dksX9_feed_1 24 rfl rfl
theorem dksX9_feed_3 : cX9_feed.data.toList.drop 72 = dktX9_feed_3 := dk_seg dksX9_feed_2 24 rfl rfl
theorem dksX9_feed_4 : cX9_feed.data.toList.drop 96 = dktX9_feed_4 := dk_seg dksX9_feed_3 24 rfl rfl
theorem dksX9_feed_5 : cX9_feed.data.toList.drop 118 = dktX9_feed_5 := dk_seg dksX9_feed_4 22 rfl rfl
theorem dksX9_feed_6 : cX9_feed.data.toList.drop 142 = dktX9_feed_6 := dk_seg dksX9_feed_5 24 rfl rfl
theorem dX9_feed_0 : decode cX9_feed 0 = .ok (.iload_n 1, 1) := dk_27 (dk_at dksX9_feed_0 0 rfl rfl)
theorem dX9_feed_1 : decode cX9_feed 1 = .ok (.iconst 0, 1) := dk_3 (dk_at dksX9_feed_0 1 rfl rfl)
theorem dX9_feed_2 : decode cX9_feed 2 = .ok (.iconst 3, 1) := dk_6 (dk_at dksX9_feed_0 2 rfl rfl)
theorem dX9_feed_3 : decode cX9_feed 3 = .ok (.invokestatic 156, 3) := dk_184 0 156 (dk_at dksX9_feed_0 3 rfl rfl)
theorem dX9_feed_6 : decode cX9_feed 6 = .ok (.ifCond .ne 9, 3) := dk_154 0 9 (dk_at dksX9_feed_0 6 rfl rfl)
theorem dX9_feed_9 : decode cX9_feed 9 = .ok (.aload_n 0, 1) := dk_42 (dk_at dksX9_feed_0 9 rfl rfl)
theorem dX9_feed_10 : decode cX9_feed 10 = .ok (.iconst (-1), 1) := dk_2 (dk_at dksX9_feed_0 10 rfl rfl)
theorem dX9_feed_11 : decode cX9_feed 11 = .ok (.invokevirtual 166, 3) := dk_182 0 166 (dk_at dksX9_feed_0 11 rfl rfl)
theorem dX9_feed_14 : decode cX9_feed 14 = .ok (.ireturn, 1) := dk_172 (dk_at dksX9_feed_0 14 rfl rfl)
theorem dX9_feed_15 : decode cX9_feed 15 = .ok (.aload_n 0, 1) := dk_42 (dk_at dksX9_feed_0 15 rfl rfl)
theorem dX9_feed_16 : decode cX9_feed 16 = .ok (.getfield 105, 3) := dk_180 0 105 (dk_at dksX9_feed_0 16 rfl rfl)
theorem dX9_feed_19 : decode cX9_feed 19 = .ok (.iload_n 1, 1) := dk_27 (dk_at dksX9_feed_0 19 rfl rfl)
theorem dX9_feed_20 : decode cX9_feed 20 = .ok (.baload, 1) := dk_51 (dk_at dksX9_feed_0 20 rfl rfl)
theorem dX9_feed_21 : decode cX9_feed 21 = .ok (.ifCond .eq 12, 3) := dk_153 0 12 (dk_at dksX9_feed_0 21 rfl rfl)
theorem dX9_feed_24 : decode cX9_feed 24 = .ok (.aload_n 0, 1) := dk_42 (dk_at dksX9_feed_1 0 rfl rfl)
theorem dX9_feed_25 : decode cX9_feed 25 = .ok (.getfield 132, 3) := dk_180 0 132 (dk_at dksX9_feed_1 1 rfl rfl)
theorem dX9_feed_28 : decode cX9_feed 28 = .ok (.iload_n 1, 1) := dk_27 (dk_at dksX9_feed_1 4 rfl rfl)
theorem dX9_feed_29 : decode cX9_feed 29 = .ok (.iaload, 1) := dk_46 (dk_at dksX9_feed_1 5 rfl rfl)
theorem dX9_feed_30 : decode cX9_feed 30 = .ok (.ifCond .eq 10, 3) := dk_153 0 10 (dk_at dksX9_feed_1 6 rfl rfl)
theorem dX9_feed_33 : decode cX9_feed 33 = .ok (.aload_n 0, 1) := dk_42 (dk_at dksX9_feed_1 9 rfl rfl)
theorem dX9_feed_34 : decode cX9_feed 34 = .ok (.bipush (-2), 2) := dk_16 254 (dk_at dksX9_feed_1 10 rfl rfl)
theorem dX9_feed_36 : decode cX9_feed 36 = .ok (.invokevirtual 166, 3) := dk_182 0 166 (dk_at dksX9_feed_1 12 rfl rfl)
theorem dX9_feed_39 : decode cX9_feed 39 = .ok (.ireturn, 1) := dk_172 (dk_at dksX9_feed_1 15 rfl rfl)
theorem dX9_feed_40 : decode cX9_feed 40 = .ok (.iload_n 2, 1) := dk_28 (dk_at dksX9_feed_1 16 rfl rfl)
theorem dX9_feed_41 : decode cX9_feed 41 = .ok (.iconst 0, 1) := dk_3 (dk_at dksX9_feed_1 17 rfl rfl)
theorem dX9_feed_42 : decode cX9_feed 42 = .ok (.aload_n 0, 1) := dk_42 (dk_at dksX9_feed_1 18 rfl rfl)
theorem dX9_feed_43 : decode cX9_feed 43 = .ok (.getfield 111, 3) := dk_180 0 111 (dk_at dksX9_feed_1 19 rfl rfl)
theorem dX9_feed_46 : decode cX9_feed 46 = .ok (.iload_n 1, 1) := dk_27 (dk_at dksX9_feed_1 22 rfl rfl)
theorem dX9_feed_47 : decode cX9_feed 47 = .ok (.baload, 1) := dk_51 (dk_at dksX9_feed_1 23 rfl rfl)
theorem dX9_feed_48 : decode cX9_feed 48 = .ok (.ifCond .eq 9, 3) := dk_153 0 9 (dk_at dksX9_feed_2 0 rfl rfl)
theorem dX9_feed_51 : decode cX9_feed 51 = .ok (.ldc_w 394, 3) := dk_19 1 138 (dk_at dksX9_feed_2 3 rfl rfl)
theorem dX9_feed_54 : decode cX9_feed 54 = .ok (.goto 6, 3) := dk_167 0 6 (dk_at dksX9_feed_2 6 rfl rfl)
theorem dX9_feed_57 : decode cX9_feed 57 = .ok (.sipush 255, 3) := dk_17 0 255 (dk_at dksX9_feed_2 9 rfl rfl)
theorem dX9_feed_60 : decode cX9_feed 60 = .ok (.invokestatic 156, 3) := dk_184 0 156 (dk_at dksX9_feed_2 12 rfl rfl)
theorem dX9_feed_63 : decode cX9_feed 63 = .ok (.ifCond .ne 9, 3) := dk_154 0 9 (dk_at dksX9_feed_2 15 rfl rfl)
theorem dX9_feed_66 : decode cX9_feed 66 = .ok (.aload_n 0, 1) := dk_42 (dk_at dksX9_feed_2 18 rfl rfl)
theorem dX9_feed_67 : decode cX9_feed 67 = .ok (.iconst (-1), 1) := dk_2 (dk_at dksX9_feed_2 19 rfl rfl)
theorem dX9_feed_68 : decode cX9_feed 68 = .ok (.invokevirtual 166, 3) := dk_182 0 166 (dk_at dksX9_feed_2 20 rfl rfl)
theorem dX9_feed_71 : decode cX9_feed 71 = .ok (.ireturn, 1) := dk_172 (dk_at dksX9_feed_2 23 rfl rfl)
theorem dX9_feed_72 : decode cX9_feed 72 = .ok (.aload_n 0, 1) := dk_42 (dk_at dksX9_feed_3 0 rfl rfl)
theorem dX9_feed_73 : decode cX9_feed 73 = .ok (.getfield 135, 3) := dk_180 0 135 (dk_at dksX9_feed_3 1 rfl rfl)
theorem dX9_feed_76 : decode cX9_feed 76 = .ok (.iload_n 1, 1) := dk_27 (dk_at dksX9_feed_3 4 rfl rfl)
theorem dX9_feed_77 : decode cX9_feed 77 = .ok (.iaload, 1) := dk_46 (dk_at dksX9_feed_3 5 rfl rfl)
theorem dX9_feed_78 : decode cX9_feed 78 = .ok (.sipush 300, 3) := dk_17 1 44 (dk_at dksX9_feed_3 6 rfl rfl)
theorem dX9_feed_81 : decode cX9_feed 81 = .ok (.if_icmp .le 10, 3) := dk_164 0 10 (dk_at dksX9_feed_3 9 rfl rfl)
theorem dX9_feed_84 : decode cX9_feed 84 = .ok (.aload_n 0, 1) := dk_42 (dk_at dksX9_feed_3 12 rfl rfl)
theorem dX9_feed_85 : decode cX9_feed 85 = .ok (.bipush (-6), 2) := dk_16 250 (dk_at dksX9_feed_3 13 rfl rfl)
theorem dX9_feed_87 : decode cX9_feed 87 = .ok (.invokevirtual 166, 3) := dk_182 0 166 (dk_at dksX9_feed_3 15 rfl rfl)
theorem dX9_feed_90 : decode cX9_feed 90 = .ok (.ireturn, 1) := dk_172 (dk_at dksX9_feed_3 18 rfl rfl)
theorem dX9_feed_91 : decode cX9_feed 91 = .ok (.aload_n 0, 1) := dk_42 (dk_at dksX9_feed_3 19 rfl rfl)
theorem dX9_feed_92 : decode cX9_feed 92 = .ok (.getfield 129, 3) := dk_180 0 129 (dk_at dksX9_feed_3 20 rfl rfl)
theorem dX9_feed_95 : decode cX9_feed 95 = .ok (.iload_n 1, 1) := dk_27 (dk_at dksX9_feed_3 23 rfl rfl)
theorem dX9_feed_96 : decode cX9_feed 96 = .ok (.dup2, 1) := dk_92 (dk_at dksX9_feed_4 0 rfl rfl)
theorem dX9_feed_97 : decode cX9_feed 97 = .ok (.iaload, 1) := dk_46 (dk_at dksX9_feed_4 1 rfl rfl)
theorem dX9_feed_98 : decode cX9_feed 98 = .ok (.iconst 1, 1) := dk_4 (dk_at dksX9_feed_4 2 rfl rfl)
theorem dX9_feed_99 : decode cX9_feed 99 = .ok (.iadd, 1) := dk_96 (dk_at dksX9_feed_4 3 rfl rfl)
theorem dX9_feed_100 : decode cX9_feed 100 = .ok (.iastore, 1) := dk_79 (dk_at dksX9_feed_4 4 rfl rfl)
theorem dX9_feed_101 : decode cX9_feed 101 = .ok (.aload_n 0, 1) := dk_42 (dk_at dksX9_feed_4 5 rfl rfl)
theorem dX9_feed_102 : decode cX9_feed 102 = .ok (.getfield 111, 3) := dk_180 0 111 (dk_at dksX9_feed_4 6 rfl rfl)
theorem dX9_feed_105 : decode cX9_feed 105 = .ok (.iload_n 1, 1) := dk_27 (dk_at dksX9_feed_4 9 rfl rfl)
theorem dX9_feed_106 : decode cX9_feed 106 = .ok (.baload, 1) := dk_51 (dk_at dksX9_feed_4 10 rfl rfl)
theorem dX9_feed_107 : decode cX9_feed 107 = .ok (.ifCond .eq 10, 3) := dk_153 0 10 (dk_at dksX9_feed_4 11 rfl rfl)
theorem dX9_feed_110 : decode cX9_feed 110 = .ok (.aload_n 0, 1) := dk_42 (dk_at dksX9_feed_4 14 rfl rfl)
theorem dX9_feed_111 : decode cX9_feed 111 = .ok (.iload_n 1, 1) := dk_27 (dk_at dksX9_feed_4 15 rfl rfl)
theorem dX9_feed_112 : decode cX9_feed 112 = .ok (.iload_n 2, 1) := dk_28 (dk_at dksX9_feed_4 16 rfl rfl)
theorem dX9_feed_113 : decode cX9_feed 113 = .ok (.invokevirtual 395, 3) := dk_182 1 139 (dk_at dksX9_feed_4 17 rfl rfl)
theorem dX9_feed_116 : decode cX9_feed 116 = .ok (.ireturn, 1) := dk_172 (dk_at dksX9_feed_4 20 rfl rfl)
theorem dX9_feed_117 : decode cX9_feed 117 = .ok (.aload_n 0, 1) := dk_42 (dk_at dksX9_feed_4 21 rfl rfl)
theorem dX9_feed_118 : decode cX9_feed 118 = .ok (.getfield 126, 3) := dk_180 0 126 (dk_at dksX9_feed_5 0 rfl rfl)
theorem dX9_feed_121 : decode cX9_feed 121 = .ok (.bipush 8, 2) := dk_16 8 (dk_at dksX9_feed_5 3 rfl rfl)
theorem dX9_feed_123 : decode cX9_feed 123 = .ok (.iload_n 1, 1) := dk_27 (dk_at dksX9_feed_5 5 rfl rfl)
theorem dX9_feed_124 : decode cX9_feed 124 = .ok (.imul, 1) := dk_104 (dk_at dksX9_feed_5 6 rfl rfl)
theorem dX9_feed_125 : decode cX9_feed 125 = .ok (.aload_n 0, 1) := dk_42 (dk_at dksX9_feed_5 7 rfl rfl)
theorem dX9_feed_126 : decode cX9_feed 126 = .ok (.getfield 123, 3) := dk_180 0 123 (dk_at dksX9_feed_5 8 rfl rfl)
theorem dX9_feed_129 : decode cX9_feed 129 = .ok (.iload_n 1, 1) := dk_27 (dk_at dksX9_feed_5 11 rfl rfl)
theorem dX9_feed_130 : decode cX9_feed 130 = .ok (.iaload, 1) := dk_46 (dk_at dksX9_feed_5 12 rfl rfl)
theorem dX9_feed_131 : decode cX9_feed 131 = .ok (.iadd, 1) := dk_96 (dk_at dksX9_feed_5 13 rfl rfl)
theorem dX9_feed_132 : decode cX9_feed 132 = .ok (.iload_n 2, 1) := dk_28 (dk_at dksX9_feed_5 14 rfl rfl)
theorem dX9_feed_133 : decode cX9_feed 133 = .ok (.iastore, 1) := dk_79 (dk_at dksX9_feed_5 15 rfl rfl)
theorem dX9_feed_134 : decode cX9_feed 134 = .ok (.aload_n 0, 1) := dk_42 (dk_at dksX9_feed_5 16 rfl rfl)
theorem dX9_feed_135 : decode cX9_feed 135 = .ok (.getfield 123, 3) := dk_180 0 123 (dk_at dksX9_feed_5 17 rfl rfl)
theorem dX9_feed_138 : decode cX9_feed 138 = .ok (.iload_n 1, 1) := dk_27 (dk_at dksX9_feed_5 20 rfl rfl)
theorem dX9_feed_139 : decode cX9_feed 139 = .ok (.dup2, 1) := dk_92 (dk_at dksX9_feed_5 21 rfl rfl)
theorem dX9_feed_140 : decode cX9_feed 140 = .ok (.iaload, 1) := dk_46 (dk_at dksX9_feed_5 22 rfl rfl)
theorem dX9_feed_141 : decode cX9_feed 141 = .ok (.iconst 1, 1) := dk_4 (dk_at dksX9_feed_5 23 rfl rfl)
theorem dX9_feed_142 : decode cX9_feed 142 = .ok (.iadd, 1) := dk_96 (dk_at dksX9_feed_6 0 rfl rfl)
theorem dX9_feed_143 : decode cX9_feed 143 = .ok (.iastore, 1) := dk_79 (dk_at dksX9_feed_6 1 rfl rfl)
theorem dX9_feed_144 : decode cX9_feed 144 = .ok (.aload_n 0, 1) := dk_42 (dk_at dksX9_feed_6 2 rfl rfl)
theorem dX9_feed_145 : decode cX9_feed 145 = .ok (.iload_n 1, 1) := dk_27 (dk_at dksX9_feed_6 3 rfl rfl)
theorem dX9_feed_146 : decode cX9_feed 146 = .ok (.iconst 0, 1) := dk_3 (dk_at dksX9_feed_6 4 rfl rfl)
theorem dX9_feed_147 : decode cX9_feed 147 = .ok (.invokevirtual 398, 3) := dk_182 1 142 (dk_at dksX9_feed_6 5 rfl rfl)
theorem dX9_feed_150 : decode cX9_feed 150 = .ok (.ireturn, 1) := dk_172 (dk_at dksX9_feed_6 8 rfl rfl)
abbrev cX9_writes : ByteArray := prog_17_method_71_code
def yX9_writes : MethodName := ⟨RX9, "writes", "(II)I"⟩
def dkwX9_writes_11 : List UInt8 := [21, 4, 21, 5, 182, 1, 135, 172]
abbrev dktX9_writes_11 : List UInt8 := dkwX9_writes_11 ++ []
def dkwX9_writes_10 : List UInt8 := [182, 1, 105, 54, 4, 21, 4, 154, 0, 14, 28, 156, 0, 10, 42, 29, 182, 1, 111, 54, 4, 42, 27]
abbrev dktX9_writes_10 : List UInt8 := dkwX9_writes_10 ++ dktX9_writes_11
def dkwX9_writes_9 : List UInt8 := [29, 42, 180, 0, 114, 27, 46, 28, 182, 1, 108, 167, 0, 15, 42, 29, 42, 180, 0, 114, 27, 46, 28]
abbrev dktX9_writes_9 : List UInt8 := dkwX9_writes_9 ++ dktX9_writes_10
def dkwX9_writes_8 : List UInt8 := [16, 8, 27, 104, 28, 79, 42, 180, 0, 123, 27, 4, 79, 167, 0, 39, 28, 184, 1, 45, 153, 0, 18, 42]
abbrev dktX9_writes_8 : List UInt8 := dkwX9_writes_8 ++ dktX9_writes_9
def dkwX9_writes_7 : List UInt8 := [132, 5, 1, 21, 4, 154, 0, 70, 28, 155, 0, 66, 28, 184, 1, 48, 153, 0, 23, 42, 180, 0, 126]
abbrev dktX9_writes_7 : List UInt8 := dkwX9_writes_7 ++ dktX9_writes_8
def dkwX9_writes_6 : List UInt8 := [42, 180, 0, 141, 3, 46, 182, 1, 108, 54, 4, 42, 180, 0, 123, 27, 3, 79, 21, 4, 154, 0, 6]
abbrev dktX9_writes_6 : List UInt8 := dkwX9_writes_6 ++ dktX9_writes_7
def dkwX9_writes_5 : List UInt8 := [21, 5, 182, 1, 135, 172, 42, 180, 0, 123, 27, 46, 4, 160, 0, 37, 42, 29, 42, 180, 0, 114, 27, 46]
abbrev dktX9_writes_5 : List UInt8 := dkwX9_writes_5 ++ dktX9_writes_6
def dkwX9_writes_4 : List UInt8 := [120, 96, 28, 96, 18, 160, 100, 182, 1, 105, 54, 4, 42, 180, 0, 123, 27, 3, 79, 42, 27, 21, 4]
abbrev dktX9_writes_4 : List UInt8 := dkwX9_writes_4 ++ dktX9_writes_5
def dkwX9_writes_3 : List UInt8 := [153, 0, 53, 42, 29, 42, 180, 0, 114, 27, 46, 18, 236, 42, 180, 0, 141, 3, 46, 18, 154, 100, 16, 10]
abbrev dktX9_writes_3 : List UInt8 := dkwX9_writes_3 ++ dktX9_writes_4
def dkwX9_writes_2 : List UInt8 := [4, 160, 0, 18, 28, 155, 0, 14, 28, 184, 1, 45, 153, 0, 7, 4, 167, 0, 4, 3, 54, 6, 21, 6]
abbrev dktX9_writes_2 : List UInt8 := dkwX9_writes_2 ++ dktX9_writes_3
def dkwX9_writes_1 : List UInt8 := [156, 0, 7, 3, 167, 0, 4, 4, 100, 42, 180, 0, 123, 27, 46, 100, 54, 5, 42, 180, 0, 123, 27, 46]
abbrev dktX9_writes_1 : List UInt8 := dkwX9_writes_1 ++ dktX9_writes_2
def dkwX9_writes_0 : List UInt8 := [42, 27, 182, 1, 132, 42, 180, 0, 108, 27, 46, 62, 3, 54, 4, 42, 180, 0, 129, 27, 46, 28]
abbrev dktX9_writes_0 : List UInt8 := dkwX9_writes_0 ++ dktX9_writes_1
theorem dksX9_writes_0 : cX9_writes.data.toList.drop 0 = dktX9_writes_0 := by decide +kernel
theorem dksX9_writes_1 : cX9_writes.data.toList.drop 22 = dktX9_writes_1 := dk_seg dksX9_writes_0 22 rfl rfl
theorem dksX9_writes_2 : cX9_writes.data.toList.drop 46 = dktX9_writes_2 := dk_seg dksX9_writes_1 24 rfl rfl
theorem dksX9_writes_3 : cX9_writes.data.toList.drop 70 = dktX9_writes_3 := dk_seg dksX9_writes_2 24 rfl rfl
theorem dksX9_writes_4 : cX9_writes.data.toList.drop 94 = dktX9_writes_4 := dk_seg dksX9_writes_3 24 rfl rfl
theorem dksX9_writes_5 : cX9_writes.data.toList.drop 117 = dktX9_writes_5 := dk_seg dksX9_writes_4 23 rfl rfl
theorem dksX9_writes_6 : cX9_writes.data.toList.drop 141 = dktX9_writes_6 := dk_seg dksX9_writes_5 24 rfl rfl
theorem dksX9_writes_7 : cX9_writes.data.toList.drop 164 = dktX9_writes_7 := dk_seg dksX9_writes_6 23 rfl rfl
theorem dksX9_writes_8 : cX9_writes.data.toList.drop 187 = dktX9_writes_8 := dk_seg dksX9_writes_7 23 rfl rfl
theorem dksX9_writes_9 : cX9_writes.data.toList.drop 211 = dktX9_writes_9 := dk_seg dksX9_writes_8 24 rfl rfl
theorem dksX9_writes_10 : cX9_writes.data.toList.drop 234 = dktX9_writes_10 := dk_seg dksX9_writes_9 23 rfl rfl
theorem dksX9_writes_11 : cX9_writes.data.toList.drop 257 = dktX9_writes_11 := dk_seg dksX9_writes_10 23 rfl rfl
theorem dX9_writes_0 : decode cX9_writes 0 = .ok (.aload_n 0, 1) := dk_42 (dk_at dksX9_writes_0 0 rfl rfl)
theorem dX9_writes_1 : decode cX9_writes 1 = .ok (.iload_n 1, 1) := dk_27 (dk_at dksX9_writes_0 1 rfl rfl)
theorem dX9_writes_2 : decode cX9_writes 2 = .ok (.invokevirtual 388, 3) := dk_182 1 132 (dk_at dksX9_writes_0 2 rfl rfl)
theorem dX9_writes_5 : decode cX9_writes 5 = .ok (.aload_n 0, 1) := dk_42 (dk_at dksX9_writes_0 5 rfl rfl)
theorem dX9_writes_6 : decode cX9_writes 6 = .ok (.getfield 108, 3) := dk_180 0 108 (dk_at dksX9_writes_0 6 rfl rfl)
theorem dX9_writes_9 : decode cX9_writes 9 = .ok (.iload_n 1, 1) := dk_27 (dk_at dksX9_writes_0 9 rfl rfl)
theorem dX9_writes_10 : decode cX9_writes 10 = .ok (.iaload, 1) := dk_46 (dk_at dksX9_writes_0 10 rfl rfl)
theorem dX9_writes_11 : decode cX9_writes 11 = .ok (.istore_n 3, 1) := dk_62 (dk_at dksX9_writes_0 11 rfl rfl)
theorem dX9_writes_12 : decode cX9_writes 12 = .ok (.iconst 0, 1) := dk_3 (dk_at dksX9_writes_0 12 rfl rfl)
theorem dX9_writes_13 : decode cX9_writes 13 = .ok (.istore 4, 2) := dk_54 4 (dk_at dksX9_writes_0 13 rfl rfl)
theorem dX9_writes_15 : decode cX9_writes 15 = .ok (.aload_n 0, 1) := dk_42 (dk_at dksX9_writes_0 15 rfl rfl)
theorem dX9_writes_16 : decode cX9_writes 16 = .ok (.getfield 129, 3) := dk_180 0 129 (dk_at dksX9_writes_0 16 rfl rfl)
theorem dX9_writes_19 : decode cX9_writes 19 = .ok (.iload_n 1, 1) := dk_27 (dk_at dksX9_writes_0 19 rfl rfl)
theorem dX9_writes_20 : decode cX9_writes 20 = .ok (.iaload, 1) := dk_46 (dk_at dksX9_writes_0 20 rfl rfl)
theorem dX9_writes_21 : decode cX9_writes 21 = .ok (.iload_n 2, 1) := dk_28 (dk_at dksX9_writes_0 21 rfl rfl)
theorem dX9_writes_22 : decode cX9_writes 22 = .ok (.ifCond .ge 7, 3) := dk_156 0 7 (dk_at dksX9_writes_1 0 rfl rfl)
theorem dX9_writes_25 : decode cX9_writes 25 = .ok (.iconst 0, 1) := dk_3 (dk_at dksX9_writes_1 3 rfl rfl)
theorem dX9_writes_26 : decode cX9_writes 26 = .ok (.goto 4, 3) := dk_167 0 4 (dk_at dksX9_writes_1 4 rfl rfl)
theorem dX9_writes_29 : decode cX9_writes 29 = .ok (.iconst 1, 1) := dk_4 (dk_at dksX9_writes_1 7 rfl rfl)
theorem dX9_writes_30 : decode cX9_writes 30 = .ok (.isub, 1) := dk_100 (dk_at dksX9_writes_1 8 rfl rfl)
theorem dX9_writes_31 : decode cX9_writes 31 = .ok (.aload_n 0, 1) := dk_42 (dk_at dksX9_writes_1 9 rfl rfl)
theorem dX9_writes_32 : decode cX9_writes 32 = .ok (.getfield 123, 3) := dk_180 0 123 (dk_at dksX9_writes_1 10 rfl rfl)
theorem dX9_writes_35 : decode cX9_writes 35 = .ok (.iload_n 1, 1) := dk_27 (dk_at dksX9_writes_1 13 rfl rfl)
theorem dX9_writes_36 : decode cX9_writes 36 = .ok (.iaload, 1) := dk_46 (dk_at dksX9_writes_1 14 rfl rfl)
theorem dX9_writes_37 : decode cX9_writes 37 = .ok (.isub, 1) := dk_100 (dk_at dksX9_writes_1 15 rfl rfl)
theorem dX9_writes_38 : decode cX9_writes 38 = .ok (.istore 5, 2) := dk_54 5 (dk_at dksX9_writes_1 16 rfl rfl)
theorem dX9_writes_40 : decode cX9_writes 40 = .ok (.aload_n 0, 1) := dk_42 (dk_at dksX9_writes_1 18 rfl rfl)
theorem dX9_writes_41 : decode cX9_writes 41 = .ok (.getfield 123, 3) := dk_180 0 123 (dk_at dksX9_writes_1 19 rfl rfl)
theorem dX9_writes_44 : decode cX9_writes 44 = .ok (.iload_n 1, 1) := dk_27 (dk_at dksX9_writes_1 22 rfl rfl)
theorem dX9_writes_45 : decode cX9_writes 45 = .ok (.iaload, 1) := dk_46 (dk_at dksX9_writes_1 23 rfl rfl)
theorem dX9_writes_46 : decode cX9_writes 46 = .ok (.iconst 1, 1) := dk_4 (dk_at dksX9_writes_2 0 rfl rfl)
theorem dX9_writes_47 : decode cX9_writes 47 = .ok (.if_icmp .ne 18, 3) := dk_160 0 18 (dk_at dksX9_writes_2 1 rfl rfl)
theorem dX9_writes_50 : decode cX9_writes 50 = .ok (.iload_n 2, 1) := dk_28 (dk_at dksX9_writes_2 4 rfl rfl)
theorem dX9_writes_51 : decode cX9_writes 51 = .ok (.ifCond .lt 14, 3) := dk_155 0 14 (dk_at dksX9_writes_2 5 rfl rfl)
theorem dX9_writes_54 : decode cX9_writes 54 = .ok (.iload_n 2, 1) := dk_28 (dk_at dksX9_writes_2 8 rfl rfl)
theorem dX9_writes_55 : decode cX9_writes 55 = .ok (.invokestatic 301, 3) := dk_184 1 45 (dk_at dksX9_writes_2 9 rfl rfl)
theorem dX9_writes_58 : decode cX9_writes 58 = .ok (.ifCond .eq 7, 3) := dk_153 0 7 (dk_at dksX9_writes_2 12 rfl rfl)
theorem dX9_writes_61 : decode cX9_writes 61 = .ok (.iconst 1, 1) := dk_4 (dk_at dksX9_writes_2 15 rfl rfl)
theorem dX9_writes_62 : decode cX9_writes 62 = .ok (.goto 4, 3) := dk_167 0 4 (dk_at dksX9_writes_2 16 rfl rfl)
theorem dX9_writes_65 : decode cX9_writes 65 = .ok (.iconst 0, 1) := dk_3 (dk_at dksX9_writes_2 19 rfl rfl)
theorem dX9_writes_66 : decode cX9_writes 66 = .ok (.istore 6, 2) := dk_54 6 (dk_at dksX9_writes_2 20 rfl rfl)
theorem dX9_writes_68 : decode cX9_writes 68 = .ok (.iload 6, 2) := dk_21 6 (dk_at dksX9_writes_2 22 rfl rfl)
theorem dX9_writes_70 : decode cX9_writes 70 = .ok (.ifCond .eq 53, 3) := dk_153 0 53 (dk_at dksX9_writes_3 0 rfl rfl)
theorem dX9_writes_73 : decode cX9_writes 73 = .ok (.aload_n 0, 1) := dk_42 (dk_at dksX9_writes_3 3 rfl rfl)
theorem dX9_writes_74 : decode cX9_writes 74 = .ok (.iload_n 3, 1) := dk_29 (dk_at dksX9_writes_3 4 rfl rfl)
theorem dX9_writes_75 : decode cX9_writes 75 = .ok (.aload_n 0, 1) := dk_42 (dk_at dksX9_writes_3 5 rfl rfl)
theorem dX9_writes_76 : decode cX9_writes 76 = .ok (.getfield 114, 3) := dk_180 0 114 (dk_at dksX9_writes_3 6 rfl rfl)
theorem dX9_writes_79 : decode cX9_writes 79 = .ok (.iload_n 1, 1) := dk_27 (dk_at dksX9_writes_3 9 rfl rfl)
theorem dX9_writes_80 : decode cX9_writes 80 = .ok (.iaload, 1) := dk_46 (dk_at dksX9_writes_3 10 rfl rfl)
theorem dX9_writes_81 : decode cX9_writes 81 = .ok (.ldc 236, 2) := dk_18 236 (dk_at dksX9_writes_3 11 rfl rfl)
theorem dX9_writes_83 : decode cX9_writes 83 = .ok (.aload_n 0, 1) := dk_42 (dk_at dksX9_writes_3 13 rfl rfl)
theorem dX9_writes_84 : decode cX9_writes 84 = .ok (.getfield 141, 3) := dk_180 0 141 (dk_at dksX9_writes_3 14 rfl rfl)
theorem dX9_writes_87 : decode cX9_writes 87 = .ok (.iconst 0, 1) := dk_3 (dk_at dksX9_writes_3 17 rfl rfl)
theorem dX9_writes_88 : decode cX9_writes 88 = .ok (.iaload, 1) := dk_46 (dk_at dksX9_writes_3 18 rfl rfl)
theorem dX9_writes_89 : decode cX9_writes 89 = .ok (.ldc 154, 2) := dk_18 154 (dk_at dksX9_writes_3 19 rfl rfl)
theorem dX9_writes_91 : decode cX9_writes 91 = .ok (.isub, 1) := dk_100 (dk_at dksX9_writes_3 21 rfl rfl)
theorem dX9_writes_92 : decode cX9_writes 92 = .ok (.bipush 10, 2) := dk_16 10 (dk_at dksX9_writes_3 22 rfl rfl)
theorem dX9_writes_94 : decode cX9_writes 94 = .ok (.ishl, 1) := dk_120 (dk_at dksX9_writes_4 0 rfl rfl)
theorem dX9_writes_95 : decode cX9_writes 95 = .ok (.iadd, 1) := dk_96 (dk_at dksX9_writes_4 1 rfl rfl)
theorem dX9_writes_96 : decode cX9_writes 96 = .ok (.iload_n 2, 1) := dk_28 (dk_at dksX9_writes_4 2 rfl rfl)
theorem dX9_writes_97 : decode cX9_writes 97 = .ok (.iadd, 1) := dk_96 (dk_at dksX9_writes_4 3 rfl rfl)
theorem dX9_writes_98 : decode cX9_writes 98 = .ok (.ldc 160, 2) := dk_18 160 (dk_at dksX9_writes_4 4 rfl rfl)
theorem dX9_writes_100 : decode cX9_writes 100 = .ok (.isub, 1) := dk_100 (dk_at dksX9_writes_4 6 rfl rfl)
theorem dX9_writes_101 : decode cX9_writes 101 = .ok (.invokevirtual 361, 3) := dk_182 1 105 (dk_at dksX9_writes_4 7 rfl rfl)
theorem dX9_writes_104 : decode cX9_writes 104 = .ok (.istore 4, 2) := dk_54 4 (dk_at dksX9_writes_4 10 rfl rfl)
theorem dX9_writes_106 : decode cX9_writes 106 = .ok (.aload_n 0, 1) := dk_42 (dk_at dksX9_writes_4 12 rfl rfl)
theorem dX9_writes_107 : decode cX9_writes 107 = .ok (.getfield 123, 3) := dk_180 0 123 (dk_at dksX9_writes_4 13 rfl rfl)
theorem dX9_writes_110 : decode cX9_writes 110 = .ok (.iload_n 1, 1) := dk_27 (dk_at dksX9_writes_4 16 rfl rfl)
theorem dX9_writes_111 : decode cX9_writes 111 = .ok (.iconst 0, 1) := dk_3 (dk_at dksX9_writes_4 17 rfl rfl)
theorem dX9_writes_112 : decode cX9_writes 112 = .ok (.iastore, 1) := dk_79 (dk_at dksX9_writes_4 18 rfl rfl)
theorem dX9_writes_113 : decode cX9_writes 113 = .ok (.aload_n 0, 1) := dk_42 (dk_at dksX9_writes_4 19 rfl rfl)
theorem dX9_writes_114 : decode cX9_writes 114 = .ok (.iload_n 1, 1) := dk_27 (dk_at dksX9_writes_4 20 rfl rfl)
theorem dX9_writes_115 : decode cX9_writes 115 = .ok (.iload 4, 2) := dk_21 4 (dk_at dksX9_writes_4 21 rfl rfl)
theorem dX9_writes_117 : decode cX9_writes 117 = .ok (.iload 5, 2) := dk_21 5 (dk_at dksX9_writes_5 0 rfl rfl)
theorem dX9_writes_119 : decode cX9_writes 119 = .ok (.invokevirtual 391, 3) := dk_182 1 135 (dk_at dksX9_writes_5 2 rfl rfl)
theorem dX9_writes_122 : decode cX9_writes 122 = .ok (.ireturn, 1) := dk_172 (dk_at dksX9_writes_5 5 rfl rfl)
theorem dX9_writes_123 : decode cX9_writes 123 = .ok (.aload_n 0, 1) := dk_42 (dk_at dksX9_writes_5 6 rfl rfl)
theorem dX9_writes_124 : decode cX9_writes 124 = .ok (.getfield 123, 3) := dk_180 0 123 (dk_at dksX9_writes_5 7 rfl rfl)
theorem dX9_writes_127 : decode cX9_writes 127 = .ok (.iload_n 1, 1) := dk_27 (dk_at dksX9_writes_5 10 rfl rfl)
theorem dX9_writes_128 : decode cX9_writes 128 = .ok (.iaload, 1) := dk_46 (dk_at dksX9_writes_5 11 rfl rfl)
theorem dX9_writes_129 : decode cX9_writes 129 = .ok (.iconst 1, 1) := dk_4 (dk_at dksX9_writes_5 12 rfl rfl)
theorem dX9_writes_130 : decode cX9_writes 130 = .ok (.if_icmp .ne 37, 3) := dk_160 0 37 (dk_at dksX9_writes_5 13 rfl rfl)
theorem dX9_writes_133 : decode cX9_writes 133 = .ok (.aload_n 0, 1) := dk_42 (dk_at dksX9_writes_5 16 rfl rfl)
theorem dX9_writes_134 : decode cX9_writes 134 = .ok (.iload_n 3, 1) := dk_29 (dk_at dksX9_writes_5 17 rfl rfl)
theorem dX9_writes_135 : decode cX9_writes 135 = .ok (.aload_n 0, 1) := dk_42 (dk_at dksX9_writes_5 18 rfl rfl)
theorem dX9_writes_136 : decode cX9_writes 136 = .ok (.getfield 114, 3) := dk_180 0 114 (dk_at dksX9_writes_5 19 rfl rfl)
theorem dX9_writes_139 : decode cX9_writes 139 = .ok (.iload_n 1, 1) := dk_27 (dk_at dksX9_writes_5 22 rfl rfl)
theorem dX9_writes_140 : decode cX9_writes 140 = .ok (.iaload, 1) := dk_46 (dk_at dksX9_writes_5 23 rfl rfl)
theorem dX9_writes_141 : decode cX9_writes 141 = .ok (.aload_n 0, 1) := dk_42 (dk_at dksX9_writes_6 0 rfl rfl)
theorem dX9_writes_142 : decode cX9_writes 142 = .ok (.getfield 141, 3) := dk_180 0 141 (dk_at dksX9_writes_6 1 rfl rfl)
theorem dX9_writes_145 : decode cX9_writes 145 = .ok (.iconst 0, 1) := dk_3 (dk_at dksX9_writes_6 4 rfl rfl)
theorem dX9_writes_146 : decode cX9_writes 146 = .ok (.iaload, 1) := dk_46 (dk_at dksX9_writes_6 5 rfl rfl)
theorem dX9_writes_147 : decode cX9_writes 147 = .ok (.invokevirtual 364, 3) := dk_182 1 108 (dk_at dksX9_writes_6 6 rfl rfl)
theorem dX9_writes_150 : decode cX9_writes 150 = .ok (.istore 4, 2) := dk_54 4 (dk_at dksX9_writes_6 9 rfl rfl)
theorem dX9_writes_152 : decode cX9_writes 152 = .ok (.aload_n 0, 1) := dk_42 (dk_at dksX9_writes_6 11 rfl rfl)
theorem dX9_writes_153 : decode cX9_writes 153 = .ok (.getfield 123, 3) := dk_180 0 123 (dk_at dksX9_writes_6 12 rfl rfl)
theorem dX9_writes_156 : decode cX9_writes 156 = .ok (.iload_n 1, 1) := dk_27 (dk_at dksX9_writes_6 15 rfl rfl)
theorem dX9_writes_157 : decode cX9_writes 157 = .ok (.iconst 0, 1) := dk_3 (dk_at dksX9_writes_6 16 rfl rfl)
theorem dX9_writes_158 : decode cX9_writes 158 = .ok (.iastore, 1) := dk_79 (dk_at dksX9_writes_6 17 rfl rfl)
theorem dX9_writes_159 : decode cX9_writes 159 = .ok (.iload 4, 2) := dk_21 4 (dk_at dksX9_writes_6 18 rfl rfl)
theorem dX9_writes_161 : decode cX9_writes 161 = .ok (.ifCond .ne 6, 3) := dk_154 0 6 (dk_at dksX9_writes_6 20 rfl rfl)
theorem dX9_writes_164 : decode cX9_writes 164 = .ok (.iinc 5 1, 3) := dk_132 5 1 (dk_at dksX9_writes_7 0 rfl rfl)
theorem dX9_writes_167 : decode cX9_writes 167 = .ok (.iload 4, 2) := dk_21 4 (dk_at dksX9_writes_7 3 rfl rfl)
theorem dX9_writes_169 : decode cX9_writes 169 = .ok (.ifCond .ne 70, 3) := dk_154 0 70 (dk_at dksX9_writes_7 5 rfl rfl)
theorem dX9_writes_172 : decode cX9_writes 172 = .ok (.iload_n 2, 1) := dk_28 (dk_at dksX9_writes_7 8 rfl rfl)
theorem dX9_writes_173 : decode cX9_writes 173 = .ok (.ifCond .lt 66, 3) := dk_155 0 66 (dk_at dksX9_writes_7 9 rfl rfl)
theorem dX9_writes_176 : decode cX9_writes 176 = .ok (.iload_n 2, 1) := dk_28 (dk_at dksX9_writes_7 12 rfl rfl)
theorem dX9_writes_177 : decode cX9_writes 177 = .ok (.invokestatic 304, 3) := dk_184 1 48 (dk_at dksX9_writes_7 13 rfl rfl)
theorem dX9_writes_180 : decode cX9_writes 180 = .ok (.ifCond .eq 23, 3) := dk_153 0 23 (dk_at dksX9_writes_7 16 rfl rfl)
theorem dX9_writes_183 : decode cX9_writes 183 = .ok (.aload_n 0, 1) := dk_42 (dk_at dksX9_writes_7 19 rfl rfl)
theorem dX9_writes_184 : decode cX9_writes 184 = .ok (.getfield 126, 3) := dk_180 0 126 (dk_at dksX9_writes_7 20 rfl rfl)
theorem dX9_writes_187 : decode cX9_writes 187 = .ok (.bipush 8, 2) := dk_16 8 (dk_at dksX9_writes_8 0 rfl rfl)
theorem dX9_writes_189 : decode cX9_writes 189 = .ok (.iload_n 1, 1) := dk_27 (dk_at dksX9_writes_8 2 rfl rfl)
theorem dX9_writes_190 : decode cX9_writes 190 = .ok (.imul, 1) := dk_104 (dk_at dksX9_writes_8 3 rfl rfl)
theorem dX9_writes_191 : decode cX9_writes 191 = .ok (.iload_n 2, 1) := dk_28 (dk_at dksX9_writes_8 4 rfl rfl)
theorem dX9_writes_192 : decode cX9_writes 192 = .ok (.iastore, 1) := dk_79 (dk_at dksX9_writes_8 5 rfl rfl)
theorem dX9_writes_193 : decode cX9_writes 193 = .ok (.aload_n 0, 1) := dk_42 (dk_at dksX9_writes_8 6 rfl rfl)
theorem dX9_writes_194 : decode cX9_writes 194 = .ok (.getfield 123, 3) := dk_180 0 123 (dk_at dksX9_writes_8 7 rfl rfl)
theorem dX9_writes_197 : decode cX9_writes 197 = .ok (.iload_n 1, 1) := dk_27 (dk_at dksX9_writes_8 10 rfl rfl)
theorem dX9_writes_198 : decode cX9_writes 198 = .ok (.iconst 1, 1) := dk_4 (dk_at dksX9_writes_8 11 rfl rfl)
theorem dX9_writes_199 : decode cX9_writes 199 = .ok (.iastore, 1) := dk_79 (dk_at dksX9_writes_8 12 rfl rfl)
theorem dX9_writes_200 : decode cX9_writes 200 = .ok (.goto 39, 3) := dk_167 0 39 (dk_at dksX9_writes_8 13 rfl rfl)
theorem dX9_writes_203 : decode cX9_writes 203 = .ok (.iload_n 2, 1) := dk_28 (dk_at dksX9_writes_8 16 rfl rfl)
theorem dX9_writes_204 : decode cX9_writes 204 = .ok (.invokestatic 301, 3) := dk_184 1 45 (dk_at dksX9_writes_8 17 rfl rfl)
theorem dX9_writes_207 : decode cX9_writes 207 = .ok (.ifCond .eq 18, 3) := dk_153 0 18 (dk_at dksX9_writes_8 20 rfl rfl)
theorem dX9_writes_210 : decode cX9_writes 210 = .ok (.aload_n 0, 1) := dk_42 (dk_at dksX9_writes_8 23 rfl rfl)
theorem dX9_writes_211 : decode cX9_writes 211 = .ok (.iload_n 3, 1) := dk_29 (dk_at dksX9_writes_9 0 rfl rfl)
theorem dX9_writes_212 : decode cX9_writes 212 = .ok (.aload_n 0, 1) := dk_42 (dk_at dksX9_writes_9 1 rfl rfl)
theorem dX9_writes_213 : decode cX9_writes 213 = .ok (.getfield 114, 3) := dk_180 0 114 (dk_at dksX9_writes_9 2 rfl rfl)
theorem dX9_writes_216 : decode cX9_writes 216 = .ok (.iload_n 1, 1) := dk_27 (dk_at dksX9_writes_9 5 rfl rfl)
theorem dX9_writes_217 : decode cX9_writes 217 = .ok (.iaload, 1) := dk_46 (dk_at dksX9_writes_9 6 rfl rfl)
theorem dX9_writes_218 : decode cX9_writes 218 = .ok (.iload_n 2, 1) := dk_28 (dk_at dksX9_writes_9 7 rfl rfl)
theorem dX9_writes_219 : decode cX9_writes 219 = .ok (.invokevirtual 364, 3) := dk_182 1 108 (dk_at dksX9_writes_9 8 rfl rfl)
theorem dX9_writes_222 : decode cX9_writes 222 = .ok (.goto 15, 3) := dk_167 0 15 (dk_at dksX9_writes_9 11 rfl rfl)
theorem dX9_writes_225 : decode cX9_writes 225 = .ok (.aload_n 0, 1) := dk_42 (dk_at dksX9_writes_9 14 rfl rfl)
theorem dX9_writes_226 : decode cX9_writes 226 = .ok (.iload_n 3, 1) := dk_29 (dk_at dksX9_writes_9 15 rfl rfl)
theorem dX9_writes_227 : decode cX9_writes 227 = .ok (.aload_n 0, 1) := dk_42 (dk_at dksX9_writes_9 16 rfl rfl)
theorem dX9_writes_228 : decode cX9_writes 228 = .ok (.getfield 114, 3) := dk_180 0 114 (dk_at dksX9_writes_9 17 rfl rfl)
theorem dX9_writes_231 : decode cX9_writes 231 = .ok (.iload_n 1, 1) := dk_27 (dk_at dksX9_writes_9 20 rfl rfl)
theorem dX9_writes_232 : decode cX9_writes 232 = .ok (.iaload, 1) := dk_46 (dk_at dksX9_writes_9 21 rfl rfl)
theorem dX9_writes_233 : decode cX9_writes 233 = .ok (.iload_n 2, 1) := dk_28 (dk_at dksX9_writes_9 22 rfl rfl)
theorem dX9_writes_234 : decode cX9_writes 234 = .ok (.invokevirtual 361, 3) := dk_182 1 105 (dk_at dksX9_writes_10 0 rfl rfl)
theorem dX9_writes_237 : decode cX9_writes 237 = .ok (.istore 4, 2) := dk_54 4 (dk_at dksX9_writes_10 3 rfl rfl)
theorem dX9_writes_239 : decode cX9_writes 239 = .ok (.iload 4, 2) := dk_21 4 (dk_at dksX9_writes_10 5 rfl rfl)
theorem dX9_writes_241 : decode cX9_writes 241 = .ok (.ifCond .ne 14, 3) := dk_154 0 14 (dk_at dksX9_writes_10 7 rfl rfl)
theorem dX9_writes_244 : decode cX9_writes 244 = .ok (.iload_n 2, 1) := dk_28 (dk_at dksX9_writes_10 10 rfl rfl)
theorem dX9_writes_245 : decode cX9_writes 245 = .ok (.ifCond .ge 10, 3) := dk_156 0 10 (dk_at dksX9_writes_10 11 rfl rfl)
theorem dX9_writes_248 : decode cX9_writes 248 = .ok (.aload_n 0, 1) := dk_42 (dk_at dksX9_writes_10 14 rfl rfl)
theorem dX9_writes_249 : decode cX9_writes 249 = .ok (.iload_n 3, 1) := dk_29 (dk_at dksX9_writes_10 15 rfl rfl)
theorem dX9_writes_250 : decode cX9_writes 250 = .ok (.invokevirtual 367, 3) := dk_182 1 111 (dk_at dksX9_writes_10 16 rfl rfl)
theorem dX9_writes_253 : decode cX9_writes 253 = .ok (.istore 4, 2) := dk_54 4 (dk_at dksX9_writes_10 19 rfl rfl)
theorem dX9_writes_255 : decode cX9_writes 255 = .ok (.aload_n 0, 1) := dk_42 (dk_at dksX9_writes_10 21 rfl rfl)
theorem dX9_writes_256 : decode cX9_writes 256 = .ok (.iload_n 1, 1) := dk_27 (dk_at dksX9_writes_10 22 rfl rfl)
theorem dX9_writes_257 : decode cX9_writes 257 = .ok (.iload 4, 2) := dk_21 4 (dk_at dksX9_writes_11 0 rfl rfl)
theorem dX9_writes_259 : decode cX9_writes 259 = .ok (.iload 5, 2) := dk_21 5 (dk_at dksX9_writes_11 2 rfl rfl)
theorem dX9_writes_261 : decode cX9_writes 261 = .ok (.invokevirtual 391, 3) := dk_182 1 135 (dk_at dksX9_writes_11 4 rfl rfl)
theorem dX9_writes_264 : decode cX9_writes 264 = .ok (.ireturn, 1) := dk_172 (dk_at dksX9_writes_11 7 rfl rfl)
abbrev cX9_load : ByteArray := prog_17_method_68_code
def yX9_load : MethodName := ⟨RX9, "load", "(I)V"⟩
def dkwX9_load_3 : List UInt8 := [79, 132, 2, 1, 167, 255, 226, 177]
abbrev dktX9_load_3 : List UInt8 := dkwX9_load_3 ++ []
def dkwX9_load_2 : List UInt8 := [180, 0, 123, 27, 46, 162, 0, 26, 42, 180, 0, 141, 28, 42, 180, 0, 126, 16, 8, 27, 104, 28, 96, 46]
abbrev dktX9_load_2 : List UInt8 := dkwX9_load_2 ++ dktX9_load_3
def dkwX9_load_1 : List UInt8 := [180, 0, 144, 181, 1, 13, 42, 3, 181, 1, 16, 42, 17, 4, 176, 181, 1, 72, 3, 61, 28, 42]
abbrev dktX9_load_1 : List UInt8 := dkwX9_load_1 ++ dktX9_load_2
def dkwX9_load_0 : List UInt8 := [42, 42, 180, 0, 117, 27, 46, 181, 1, 33, 42, 42, 180, 0, 120, 27, 46, 181, 1, 30, 42, 42]
abbrev dktX9_load_0 : List UInt8 := dkwX9_load_0 ++ dktX9_load_1
theorem dksX9_load_0 : cX9_load.data.toList.drop 0 = dktX9_load_0 := by decide +kernel
theorem dksX9_load_1 : cX9_load.data.toList.drop 22 = dktX9_load_1 := dk_seg dksX9_load_0 22 rfl rfl
theorem dksX9_load_2 : cX9_load.data.toList.drop 44 = dktX9_load_2 := dk_seg dksX9_load_1 22 rfl rfl
theorem dksX9_load_3 : cX9_load.data.toList.drop 68 = dktX9_load_3 := dk_seg dksX9_load_2 24 rfl rfl
theorem dX9_load_0 : decode cX9_load 0 = .ok (.aload_n 0, 1) := dk_42 (dk_at dksX9_load_0 0 rfl rfl)
theorem dX9_load_1 : decode cX9_load 1 = .ok (.aload_n 0, 1) := dk_42 (dk_at dksX9_load_0 1 rfl rfl)
theorem dX9_load_2 : decode cX9_load 2 = .ok (.getfield 117, 3) := dk_180 0 117 (dk_at dksX9_load_0 2 rfl rfl)
theorem dX9_load_5 : decode cX9_load 5 = .ok (.iload_n 1, 1) := dk_27 (dk_at dksX9_load_0 5 rfl rfl)
theorem dX9_load_6 : decode cX9_load 6 = .ok (.iaload, 1) := dk_46 (dk_at dksX9_load_0 6 rfl rfl)
theorem dX9_load_7 : decode cX9_load 7 = .ok (.putfield 289, 3) := dk_181 1 33 (dk_at dksX9_load_0 7 rfl rfl)
theorem dX9_load_10 : decode cX9_load 10 = .ok (.aload_n 0, 1) := dk_42 (dk_at dksX9_load_0 10 rfl rfl)
theorem dX9_load_11 : decode cX9_load 11 = .ok (.aload_n 0, 1) := dk_42 (dk_at dksX9_load_0 11 rfl rfl)
theorem dX9_load_12 : decode cX9_load 12 = .ok (.getfield 120, 3) := dk_180 0 120 (dk_at dksX9_load_0 12 rfl rfl)
theorem dX9_load_15 : decode cX9_load 15 = .ok (.iload_n 1, 1) := dk_27 (dk_at dksX9_load_0 15 rfl rfl)
theorem dX9_load_16 : decode cX9_load 16 = .ok (.iaload, 1) := dk_46 (dk_at dksX9_load_0 16 rfl rfl)
theorem dX9_load_17 : decode cX9_load 17 = .ok (.putfield 286, 3) := dk_181 1 30 (dk_at dksX9_load_0 17 rfl rfl)
theorem dX9_load_20 : decode cX9_load 20 = .ok (.aload_n 0, 1) := dk_42 (dk_at dksX9_load_0 20 rfl rfl)
theorem dX9_load_21 : decode cX9_load 21 = .ok (.aload_n 0, 1) := dk_42 (dk_at dksX9_load_0 21 rfl rfl)
theorem dX9_load_22 : decode cX9_load 22 = .ok (.getfield 144, 3) := dk_180 0 144 (dk_at dksX9_load_1 0 rfl rfl)
theorem dX9_load_25 : decode cX9_load 25 = .ok (.putfield 269, 3) := dk_181 1 13 (dk_at dksX9_load_1 3 rfl rfl)
theorem dX9_load_28 : decode cX9_load 28 = .ok (.aload_n 0, 1) := dk_42 (dk_at dksX9_load_1 6 rfl rfl)
theorem dX9_load_29 : decode cX9_load 29 = .ok (.iconst 0, 1) := dk_3 (dk_at dksX9_load_1 7 rfl rfl)
theorem dX9_load_30 : decode cX9_load 30 = .ok (.putfield 272, 3) := dk_181 1 16 (dk_at dksX9_load_1 8 rfl rfl)
theorem dX9_load_33 : decode cX9_load 33 = .ok (.aload_n 0, 1) := dk_42 (dk_at dksX9_load_1 11 rfl rfl)
theorem dX9_load_34 : decode cX9_load 34 = .ok (.sipush 1200, 3) := dk_17 4 176 (dk_at dksX9_load_1 12 rfl rfl)
theorem dX9_load_37 : decode cX9_load 37 = .ok (.putfield 328, 3) := dk_181 1 72 (dk_at dksX9_load_1 15 rfl rfl)
theorem dX9_load_40 : decode cX9_load 40 = .ok (.iconst 0, 1) := dk_3 (dk_at dksX9_load_1 18 rfl rfl)
theorem dX9_load_41 : decode cX9_load 41 = .ok (.istore_n 2, 1) := dk_61 (dk_at dksX9_load_1 19 rfl rfl)
theorem dX9_load_42 : decode cX9_load 42 = .ok (.iload_n 2, 1) := dk_28 (dk_at dksX9_load_1 20 rfl rfl)
theorem dX9_load_43 : decode cX9_load 43 = .ok (.aload_n 0, 1) := dk_42 (dk_at dksX9_load_1 21 rfl rfl)
theorem dX9_load_44 : decode cX9_load 44 = .ok (.getfield 123, 3) := dk_180 0 123 (dk_at dksX9_load_2 0 rfl rfl)
theorem dX9_load_47 : decode cX9_load 47 = .ok (.iload_n 1, 1) := dk_27 (dk_at dksX9_load_2 3 rfl rfl)
theorem dX9_load_48 : decode cX9_load 48 = .ok (.iaload, 1) := dk_46 (dk_at dksX9_load_2 4 rfl rfl)
theorem dX9_load_49 : decode cX9_load 49 = .ok (.if_icmp .ge 26, 3) := dk_162 0 26 (dk_at dksX9_load_2 5 rfl rfl)
theorem dX9_load_52 : decode cX9_load 52 = .ok (.aload_n 0, 1) := dk_42 (dk_at dksX9_load_2 8 rfl rfl)
theorem dX9_load_53 : decode cX9_load 53 = .ok (.getfield 141, 3) := dk_180 0 141 (dk_at dksX9_load_2 9 rfl rfl)
theorem dX9_load_56 : decode cX9_load 56 = .ok (.iload_n 2, 1) := dk_28 (dk_at dksX9_load_2 12 rfl rfl)
theorem dX9_load_57 : decode cX9_load 57 = .ok (.aload_n 0, 1) := dk_42 (dk_at dksX9_load_2 13 rfl rfl)
theorem dX9_load_58 : decode cX9_load 58 = .ok (.getfield 126, 3) := dk_180 0 126 (dk_at dksX9_load_2 14 rfl rfl)
theorem dX9_load_61 : decode cX9_load 61 = .ok (.bipush 8, 2) := dk_16 8 (dk_at dksX9_load_2 17 rfl rfl)
theorem dX9_load_63 : decode cX9_load 63 = .ok (.iload_n 1, 1) := dk_27 (dk_at dksX9_load_2 19 rfl rfl)
theorem dX9_load_64 : decode cX9_load 64 = .ok (.imul, 1) := dk_104 (dk_at dksX9_load_2 20 rfl rfl)
theorem dX9_load_65 : decode cX9_load 65 = .ok (.iload_n 2, 1) := dk_28 (dk_at dksX9_load_2 21 rfl rfl)
theorem dX9_load_66 : decode cX9_load 66 = .ok (.iadd, 1) := dk_96 (dk_at dksX9_load_2 22 rfl rfl)
theorem dX9_load_67 : decode cX9_load 67 = .ok (.iaload, 1) := dk_46 (dk_at dksX9_load_2 23 rfl rfl)
theorem dX9_load_68 : decode cX9_load 68 = .ok (.iastore, 1) := dk_79 (dk_at dksX9_load_3 0 rfl rfl)
theorem dX9_load_69 : decode cX9_load 69 = .ok (.iinc 2 1, 3) := dk_132 2 1 (dk_at dksX9_load_3 1 rfl rfl)
theorem dX9_load_72 : decode cX9_load 72 = .ok (.goto (-30), 3) := dk_167 255 226 (dk_at dksX9_load_3 4 rfl rfl)
theorem dX9_load_75 : decode cX9_load 75 = .ok (.return_, 1) := dk_177 (dk_at dksX9_load_3 7 rfl rfl)
abbrev cX9_store : ByteArray := prog_17_method_69_code
def yX9_store : MethodName := ⟨RX9, "store", "(III)I"⟩
def dkwX9_store_5 : List UInt8 := [180, 0, 135, 27, 46, 172]
abbrev dktX9_store_5 : List UInt8 := dkwX9_store_5 ++ []
def dkwX9_store_4 : List UInt8 := [181, 1, 65, 42, 180, 0, 123, 27, 3, 79, 42, 180, 0, 132, 27, 5, 79, 42, 28, 182, 0, 166, 172, 42]
abbrev dktX9_store_4 : List UInt8 := dkwX9_store_4 ++ dktX9_store_5
def dkwX9_store_3 : List UInt8 := [180, 0, 120, 27, 28, 153, 0, 7, 7, 167, 0, 7, 42, 180, 1, 30, 79, 28, 153, 0, 28, 42, 29]
abbrev dktX9_store_3 : List UInt8 := dkwX9_store_3 ++ dktX9_store_4
def dkwX9_store_2 : List UInt8 := [180, 0, 135, 27, 92, 46, 42, 180, 1, 16, 96, 79, 42, 180, 0, 117, 27, 42, 180, 1, 33, 79, 42]
abbrev dktX9_store_2 : List UInt8 := dkwX9_store_2 ++ dktX9_store_3
def dkwX9_store_1 : List UInt8 := [180, 0, 135, 27, 46, 96, 21, 4, 96, 42, 180, 0, 144, 21, 4, 46, 79, 132, 4, 1, 167, 255, 217, 42]
abbrev dktX9_store_1 : List UInt8 := dkwX9_store_1 ++ dktX9_store_2
def dkwX9_store_0 : List UInt8 := [3, 54, 4, 21, 4, 42, 180, 1, 16, 162, 0, 36, 42, 180, 0, 138, 17, 4, 176, 27, 104, 42]
abbrev dktX9_store_0 : List UInt8 := dkwX9_store_0 ++ dktX9_store_1
theorem dksX9_store_0 : cX9_store.data.toList.drop 0 = dktX9_store_0 := by decide +kernel
theorem dksX9_store_1 : cX9_store.data.toList.drop 22 = dktX9_store_1 := dk_seg dksX9_store_0 22 rfl rfl
theorem dksX9_store_2 : cX9_store.data.toList.drop 46 = dktX9_store_2 := dk_seg dksX9_store_1 24 rfl rfl
theorem dksX9_store_3 : cX9_store.data.toList.drop 69 = dktX9_store_3 := dk_seg dksX9_store_2 23 rfl rfl
theorem dksX9_store_4 : cX9_store.data.toList.drop 92 = dktX9_store_4 := dk_seg dksX9_store_3 23 rfl rfl
theorem dksX9_store_5 : cX9_store.data.toList.drop 116 = dktX9_store_5 := dk_seg dksX9_store_4 24 rfl rfl
theorem dX9_store_0 : decode cX9_store 0 = .ok (.iconst 0, 1) := dk_3 (dk_at dksX9_store_0 0 rfl rfl)
theorem dX9_store_1 : decode cX9_store 1 = .ok (.istore 4, 2) := dk_54 4 (dk_at dksX9_store_0 1 rfl rfl)
theorem dX9_store_3 : decode cX9_store 3 = .ok (.iload 4, 2) := dk_21 4 (dk_at dksX9_store_0 3 rfl rfl)
theorem dX9_store_5 : decode cX9_store 5 = .ok (.aload_n 0, 1) := dk_42 (dk_at dksX9_store_0 5 rfl rfl)
theorem dX9_store_6 : decode cX9_store 6 = .ok (.getfield 272, 3) := dk_180 1 16 (dk_at dksX9_store_0 6 rfl rfl)
theorem dX9_store_9 : decode cX9_store 9 = .ok (.if_icmp .ge 36, 3) := dk_162 0 36 (dk_at dksX9_store_0 9 rfl rfl)
theorem dX9_store_12 : decode cX9_store 12 = .ok (.aload_n 0, 1) := dk_42 (dk_at dksX9_store_0 12 rfl rfl)
theorem dX9_store_13 : decode cX9_store 13 = .ok (.getfield 138, 3) := dk_180 0 138 (dk_at dksX9_store_0 13 rfl rfl)
theorem dX9_store_16 : decode cX9_store 16 = .ok (.sipush 1200, 3) := dk_17 4 176 (dk_at dksX9_store_0 16 rfl rfl)
theorem dX9_store_19 : decode cX9_store 19 = .ok (.iload_n 1, 1) := dk_27 (dk_at dksX9_store_0 19 rfl rfl)
theorem dX9_store_20 : decode cX9_store 20 = .ok (.imul, 1) := dk_104 (dk_at dksX9_store_0 20 rfl rfl)
theorem dX9_store_21 : decode cX9_store 21 = .ok (.aload_n 0, 1) := dk_42 (dk_at dksX9_store_0 21 rfl rfl)
theorem dX9_store_22 : decode cX9_store 22 = .ok (.getfield 135, 3) := dk_180 0 135 (dk_at dksX9_store_1 0 rfl rfl)
theorem dX9_store_25 : decode cX9_store 25 = .ok (.iload_n 1, 1) := dk_27 (dk_at dksX9_store_1 3 rfl rfl)
theorem dX9_store_26 : decode cX9_store 26 = .ok (.iaload, 1) := dk_46 (dk_at dksX9_store_1 4 rfl rfl)
theorem dX9_store_27 : decode cX9_store 27 = .ok (.iadd, 1) := dk_96 (dk_at dksX9_store_1 5 rfl rfl)
theorem dX9_store_28 : decode cX9_store 28 = .ok (.iload 4, 2) := dk_21 4 (dk_at dksX9_store_1 6 rfl rfl)
theorem dX9_store_30 : decode cX9_store 30 = .ok (.iadd, 1) := dk_96 (dk_at dksX9_store_1 8 rfl rfl)
theorem dX9_store_31 : decode cX9_store 31 = .ok (.aload_n 0, 1) := dk_42 (dk_at dksX9_store_1 9 rfl rfl)
theorem dX9_store_32 : decode cX9_store 32 = .ok (.getfield 144, 3) := dk_180 0 144 (dk_at dksX9_store_1 10 rfl rfl)
theorem dX9_store_35 : decode cX9_store 35 = .ok (.iload 4, 2) := dk_21 4 (dk_at dksX9_store_1 13 rfl rfl)
theorem dX9_store_37 : decode cX9_store 37 = .ok (.iaload, 1) := dk_46 (dk_at dksX9_store_1 15 rfl rfl)
theorem dX9_store_38 : decode cX9_store 38 = .ok (.iastore, 1) := dk_79 (dk_at dksX9_store_1 16 rfl rfl)
theorem dX9_store_39 : decode cX9_store 39 = .ok (.iinc 4 1, 3) := dk_132 4 1 (dk_at dksX9_store_1 17 rfl rfl)
theorem dX9_store_42 : decode cX9_store 42 = .ok (.goto (-39), 3) := dk_167 255 217 (dk_at dksX9_store_1 20 rfl rfl)
theorem dX9_store_45 : decode cX9_store 45 = .ok (.aload_n 0, 1) := dk_42 (dk_at dksX9_store_1 23 rfl rfl)
theorem dX9_store_46 : decode cX9_store 46 = .ok (.getfield 135, 3) := dk_180 0 135 (dk_at dksX9_store_2 0 rfl rfl)
theorem dX9_store_49 : decode cX9_store 49 = .ok (.iload_n 1, 1) := dk_27 (dk_at dksX9_store_2 3 rfl rfl)
theorem dX9_store_50 : decode cX9_store 50 = .ok (.dup2, 1) := dk_92 (dk_at dksX9_store_2 4 rfl rfl)
theorem dX9_store_51 : decode cX9_store 51 = .ok (.iaload, 1) := dk_46 (dk_at dksX9_store_2 5 rfl rfl)
theorem dX9_store_52 : decode cX9_store 52 = .ok (.aload_n 0, 1) := dk_42 (dk_at dksX9_store_2 6 rfl rfl)
theorem dX9_store_53 : decode cX9_store 53 = .ok (.getfield 272, 3) := dk_180 1 16 (dk_at dksX9_store_2 7 rfl rfl)
theorem dX9_store_56 : decode cX9_store 56 = .ok (.iadd, 1) := dk_96 (dk_at dksX9_store_2 10 rfl rfl)
theorem dX9_store_57 : decode cX9_store 57 = .ok (.iastore, 1) := dk_79 (dk_at dksX9_store_2 11 rfl rfl)
theorem dX9_store_58 : decode cX9_store 58 = .ok (.aload_n 0, 1) := dk_42 (dk_at dksX9_store_2 12 rfl rfl)
theorem dX9_store_59 : decode cX9_store 59 = .ok (.getfield 117, 3) := dk_180 0 117 (dk_at dksX9_store_2 13 rfl rfl)
theorem dX9_store_62 : decode cX9_store 62 = .ok (.iload_n 1, 1) := dk_27 (dk_at dksX9_store_2 16 rfl rfl)
theorem dX9_store_63 : decode cX9_store 63 = .ok (.aload_n 0, 1) := dk_42 (dk_at dksX9_store_2 17 rfl rfl)
theorem dX9_store_64 : decode cX9_store 64 = .ok (.getfield 289, 3) := dk_180 1 33 (dk_at dksX9_store_2 18 rfl rfl)
theorem dX9_store_67 : decode cX9_store 67 = .ok (.iastore, 1) := dk_79 (dk_at dksX9_store_2 21 rfl rfl)
theorem dX9_store_68 : decode cX9_store 68 = .ok (.aload_n 0, 1) := dk_42 (dk_at dksX9_store_2 22 rfl rfl)
theorem dX9_store_69 : decode cX9_store 69 = .ok (.getfield 120, 3) := dk_180 0 120 (dk_at dksX9_store_3 0 rfl rfl)
theorem dX9_store_72 : decode cX9_store 72 = .ok (.iload_n 1, 1) := dk_27 (dk_at dksX9_store_3 3 rfl rfl)
theorem dX9_store_73 : decode cX9_store 73 = .ok (.iload_n 2, 1) := dk_28 (dk_at dksX9_store_3 4 rfl rfl)
theorem dX9_store_74 : decode cX9_store 74 = .ok (.ifCond .eq 7, 3) := dk_153 0 7 (dk_at dksX9_store_3 5 rfl rfl)
theorem dX9_store_77 : decode cX9_store 77 = .ok (.iconst 4, 1) := dk_7 (dk_at dksX9_store_3 8 rfl rfl)
theorem dX9_store_78 : decode cX9_store 78 = .ok (.goto 7, 3) := dk_167 0 7 (dk_at dksX9_store_3 9 rfl rfl)
theorem dX9_store_81 : decode cX9_store 81 = .ok (.aload_n 0, 1) := dk_42 (dk_at dksX9_store_3 12 rfl rfl)
theorem dX9_store_82 : decode cX9_store 82 = .ok (.getfield 286, 3) := dk_180 1 30 (dk_at dksX9_store_3 13 rfl rfl)
theorem dX9_store_85 : decode cX9_store 85 = .ok (.iastore, 1) := dk_79 (dk_at dksX9_store_3 16 rfl rfl)
theorem dX9_store_86 : decode cX9_store 86 = .ok (.iload_n 2, 1) := dk_28 (dk_at dksX9_store_3 17 rfl rfl)
theorem dX9_store_87 : decode cX9_store 87 = .ok (.ifCond .eq 28, 3) := dk_153 0 28 (dk_at dksX9_store_3 18 rfl rfl)
theorem dX9_store_90 : decode cX9_store 90 = .ok (.aload_n 0, 1) := dk_42 (dk_at dksX9_store_3 21 rfl rfl)
theorem dX9_store_91 : decode cX9_store 91 = .ok (.iload_n 3, 1) := dk_29 (dk_at dksX9_store_3 22 rfl rfl)
theorem dX9_store_92 : decode cX9_store 92 = .ok (.putfield 321, 3) := dk_181 1 65 (dk_at dksX9_store_4 0 rfl rfl)
theorem dX9_store_95 : decode cX9_store 95 = .ok (.aload_n 0, 1) := dk_42 (dk_at dksX9_store_4 3 rfl rfl)
theorem dX9_store_96 : decode cX9_store 96 = .ok (.getfield 123, 3) := dk_180 0 123 (dk_at dksX9_store_4 4 rfl rfl)
theorem dX9_store_99 : decode cX9_store 99 = .ok (.iload_n 1, 1) := dk_27 (dk_at dksX9_store_4 7 rfl rfl)
theorem dX9_store_100 : decode cX9_store 100 = .ok (.iconst 0, 1) := dk_3 (dk_at dksX9_store_4 8 rfl rfl)
theorem dX9_store_101 : decode cX9_store 101 = .ok (.iastore, 1) := dk_79 (dk_at dksX9_store_4 9 rfl rfl)
theorem dX9_store_102 : decode cX9_store 102 = .ok (.aload_n 0, 1) := dk_42 (dk_at dksX9_store_4 10 rfl rfl)
theorem dX9_store_103 : decode cX9_store 103 = .ok (.getfield 132, 3) := dk_180 0 132 (dk_at dksX9_store_4 11 rfl rfl)
theorem dX9_store_106 : decode cX9_store 106 = .ok (.iload_n 1, 1) := dk_27 (dk_at dksX9_store_4 14 rfl rfl)
theorem dX9_store_107 : decode cX9_store 107 = .ok (.iconst 2, 1) := dk_5 (dk_at dksX9_store_4 15 rfl rfl)
theorem dX9_store_108 : decode cX9_store 108 = .ok (.iastore, 1) := dk_79 (dk_at dksX9_store_4 16 rfl rfl)
theorem dX9_store_109 : decode cX9_store 109 = .ok (.aload_n 0, 1) := dk_42 (dk_at dksX9_store_4 17 rfl rfl)
theorem dX9_store_110 : decode cX9_store 110 = .ok (.iload_n 2, 1) := dk_28 (dk_at dksX9_store_4 18 rfl rfl)
theorem dX9_store_111 : decode cX9_store 111 = .ok (.invokevirtual 166, 3) := dk_182 0 166 (dk_at dksX9_store_4 19 rfl rfl)
theorem dX9_store_114 : decode cX9_store 114 = .ok (.ireturn, 1) := dk_172 (dk_at dksX9_store_4 22 rfl rfl)
theorem dX9_store_115 : decode cX9_store 115 = .ok (.aload_n 0, 1) := dk_42 (dk_at dksX9_store_4 23 rfl rfl)
theorem dX9_store_116 : decode cX9_store 116 = .ok (.getfield 135, 3) := dk_180 0 135 (dk_at dksX9_store_5 0 rfl rfl)
theorem dX9_store_119 : decode cX9_store 119 = .ok (.iload_n 1, 1) := dk_27 (dk_at dksX9_store_5 3 rfl rfl)
theorem dX9_store_120 : decode cX9_store 120 = .ok (.iaload, 1) := dk_46 (dk_at dksX9_store_5 4 rfl rfl)
theorem dX9_store_121 : decode cX9_store 121 = .ok (.ireturn, 1) := dk_172 (dk_at dksX9_store_5 5 rfl rfl)
abbrev cX9_reads : ByteArray := prog_17_method_70_code
def yX9_reads : MethodName := ⟨RX9, "reads", "(IZ)I"⟩
def dkwX9_reads_7 : List UInt8 := [172]
abbrev dktX9_reads_7 : List UInt8 := dkwX9_reads_7 ++ []
def dkwX9_reads_6 : List UInt8 := [27, 92, 46, 29, 100, 79, 42, 27, 21, 4, 156, 0, 8, 21, 4, 167, 0, 4, 3, 21, 5, 182, 1, 135]
abbrev dktX9_reads_6 : List UInt8 := dkwX9_reads_6 ++ dktX9_reads_7
def dkwX9_reads_5 : List UInt8 := [104, 21, 6, 96, 29, 100, 42, 180, 0, 141, 21, 6, 46, 79, 132, 6, 1, 167, 255, 221, 42, 180, 0, 123]
abbrev dktX9_reads_5 : List UInt8 := dkwX9_reads_5 ++ dktX9_reads_6
def dkwX9_reads_4 : List UInt8 := [155, 0, 54, 29, 54, 6, 21, 6, 42, 180, 0, 123, 27, 46, 162, 0, 30, 42, 180, 0, 126, 16, 8, 27]
abbrev dktX9_reads_4 : List UInt8 := dkwX9_reads_4 ++ dktX9_reads_5
def dkwX9_reads_3 : List UInt8 := [62, 167, 255, 197, 42, 180, 0, 129, 27, 46, 42, 180, 0, 123, 27, 46, 100, 29, 96, 54, 5, 21, 4]
abbrev dktX9_reads_3 : List UInt8 := dkwX9_reads_3 ++ dktX9_reads_4
def dkwX9_reads_2 : List UInt8 := [180, 0, 123, 27, 46, 28, 182, 1, 61, 54, 4, 29, 21, 4, 158, 0, 8, 21, 4, 167, 0, 4, 3, 96]
abbrev dktX9_reads_2 : List UInt8 := dkwX9_reads_2 ++ dktX9_reads_3
def dkwX9_reads_1 : List UInt8 := [158, 0, 50, 42, 42, 180, 0, 108, 27, 46, 42, 180, 0, 114, 27, 46, 42, 180, 0, 141, 29, 42]
abbrev dktX9_reads_1 : List UInt8 := dkwX9_reads_1 ++ dktX9_reads_2
def dkwX9_reads_0 : List UInt8 := [42, 27, 182, 1, 132, 3, 62, 4, 54, 4, 29, 42, 180, 0, 123, 27, 46, 162, 0, 55, 21, 4]
abbrev dktX9_reads_0 : List UInt8 := dkwX9_reads_0 ++ dktX9_reads_1
theorem dksX9_reads_0 : cX9_reads.data.toList.drop 0 = dktX9_reads_0 := by decide +kernel
theorem dksX9_reads_1 : cX9_reads.data.toList.drop 22 = dktX9_reads_1 := dk_seg dksX9_reads_0 22 rfl rfl
theorem dksX9_reads_2 : cX9_reads.data.toList.drop 44 = dktX9_reads_2 := dk_seg dksX9_reads_1 22 rfl rfl
theorem dksX9_reads_3 : cX9_reads.data.toList.drop 68 = dktX9_reads_3 := dk_seg dksX9_reads_2 24 rfl rfl
theorem dksX9_reads_4 : cX9_reads.data.toList.drop 91 = dktX9_reads_4 := dk_seg dksX9_reads_3 23 rfl rfl
theorem dksX9_reads_5 : cX9_reads.data.toList.drop 115 = dktX9_reads_5 := dk_seg dksX9_reads_4 24 rfl rfl
theorem dksX9_reads_6 : cX9_reads.data.toList.drop 139 = dktX9_reads_6 := dk_seg dksX9_reads_5 24 rfl rfl
theorem dksX9_reads_7 : cX9_reads.data.toList.drop 163 = dktX9_reads_7 := dk_seg dksX9_reads_6 24 rfl rfl
theorem dX9_reads_0 : decode cX9_reads 0 = .ok (.aload_n 0, 1) := dk_42 (dk_at dksX9_reads_0 0 rfl rfl)
theorem dX9_reads_1 : decode cX9_reads 1 = .ok (.iload_n 1, 1) := dk_27 (dk_at dksX9_reads_0 1 rfl rfl)
theorem dX9_reads_2 : decode cX9_reads 2 = .ok (.invokevirtual 388, 3) := dk_182 1 132 (dk_at dksX9_reads_0 2 rfl rfl)
theorem dX9_reads_5 : decode cX9_reads 5 = .ok (.iconst 0, 1) := dk_3 (dk_at dksX9_reads_0 5 rfl rfl)
theorem dX9_reads_6 : decode cX9_reads 6 = .ok (.istore_n 3, 1) := dk_62 (dk_at dksX9_reads_0 6 rfl rfl)
theorem dX9_reads_7 : decode cX9_reads 7 = .ok (.iconst 1, 1) := dk_4 (dk_at dksX9_reads_0 7 rfl rfl)
theorem dX9_reads_8 : decode cX9_reads 8 = .ok (.istore 4, 2) := dk_54 4 (dk_at dksX9_reads_0 8 rfl rfl)
theorem dX9_reads_10 : decode cX9_reads 10 = .ok (.iload_n 3, 1) := dk_29 (dk_at dksX9_reads_0 10 rfl rfl)
theorem dX9_reads_11 : decode cX9_reads 11 = .ok (.aload_n 0, 1) := dk_42 (dk_at dksX9_reads_0 11 rfl rfl)
theorem dX9_reads_12 : decode cX9_reads 12 = .ok (.getfield 123, 3) := dk_180 0 123 (dk_at dksX9_reads_0 12 rfl rfl)
theorem dX9_reads_15 : decode cX9_reads 15 = .ok (.iload_n 1, 1) := dk_27 (dk_at dksX9_reads_0 15 rfl rfl)
theorem dX9_reads_16 : decode cX9_reads 16 = .ok (.iaload, 1) := dk_46 (dk_at dksX9_reads_0 16 rfl rfl)
theorem dX9_reads_17 : decode cX9_reads 17 = .ok (.if_icmp .ge 55, 3) := dk_162 0 55 (dk_at dksX9_reads_0 17 rfl rfl)
theorem dX9_reads_20 : decode cX9_reads 20 = .ok (.iload 4, 2) := dk_21 4 (dk_at dksX9_reads_0 20 rfl rfl)
theorem dX9_reads_22 : decode cX9_reads 22 = .ok (.ifCond .le 50, 3) := dk_158 0 50 (dk_at dksX9_reads_1 0 rfl rfl)
theorem dX9_reads_25 : decode cX9_reads 25 = .ok (.aload_n 0, 1) := dk_42 (dk_at dksX9_reads_1 3 rfl rfl)
theorem dX9_reads_26 : decode cX9_reads 26 = .ok (.aload_n 0, 1) := dk_42 (dk_at dksX9_reads_1 4 rfl rfl)
theorem dX9_reads_27 : decode cX9_reads 27 = .ok (.getfield 108, 3) := dk_180 0 108 (dk_at dksX9_reads_1 5 rfl rfl)
theorem dX9_reads_30 : decode cX9_reads 30 = .ok (.iload_n 1, 1) := dk_27 (dk_at dksX9_reads_1 8 rfl rfl)
theorem dX9_reads_31 : decode cX9_reads 31 = .ok (.iaload, 1) := dk_46 (dk_at dksX9_reads_1 9 rfl rfl)
theorem dX9_reads_32 : decode cX9_reads 32 = .ok (.aload_n 0, 1) := dk_42 (dk_at dksX9_reads_1 10 rfl rfl)
theorem dX9_reads_33 : decode cX9_reads 33 = .ok (.getfield 114, 3) := dk_180 0 114 (dk_at dksX9_reads_1 11 rfl rfl)
theorem dX9_reads_36 : decode cX9_reads 36 = .ok (.iload_n 1, 1) := dk_27 (dk_at dksX9_reads_1 14 rfl rfl)
theorem dX9_reads_37 : decode cX9_reads 37 = .ok (.iaload, 1) := dk_46 (dk_at dksX9_reads_1 15 rfl rfl)
theorem dX9_reads_38 : decode cX9_reads 38 = .ok (.aload_n 0, 1) := dk_42 (dk_at dksX9_reads_1 16 rfl rfl)
theorem dX9_reads_39 : decode cX9_reads 39 = .ok (.getfield 141, 3) := dk_180 0 141 (dk_at dksX9_reads_1 17 rfl rfl)
theorem dX9_reads_42 : decode cX9_reads 42 = .ok (.iload_n 3, 1) := dk_29 (dk_at dksX9_reads_1 20 rfl rfl)
theorem dX9_reads_43 : decode cX9_reads 43 = .ok (.aload_n 0, 1) := dk_42 (dk_at dksX9_reads_1 21 rfl rfl)
theorem dX9_reads_44 : decode cX9_reads 44 = .ok (.getfield 123, 3) := dk_180 0 123 (dk_at dksX9_reads_2 0 rfl rfl)
theorem dX9_reads_47 : decode cX9_reads 47 = .ok (.iload_n 1, 1) := dk_27 (dk_at dksX9_reads_2 3 rfl rfl)
theorem dX9_reads_48 : decode cX9_reads 48 = .ok (.iaload, 1) := dk_46 (dk_at dksX9_reads_2 4 rfl rfl)
theorem dX9_reads_49 : decode cX9_reads 49 = .ok (.iload_n 2, 1) := dk_28 (dk_at dksX9_reads_2 5 rfl rfl)
theorem dX9_reads_50 : decode cX9_reads 50 = .ok (.invokevirtual 317, 3) := dk_182 1 61 (dk_at dksX9_reads_2 6 rfl rfl)
theorem dX9_reads_53 : decode cX9_reads 53 = .ok (.istore 4, 2) := dk_54 4 (dk_at dksX9_reads_2 9 rfl rfl)
theorem dX9_reads_55 : decode cX9_reads 55 = .ok (.iload_n 3, 1) := dk_29 (dk_at dksX9_reads_2 11 rfl rfl)
theorem dX9_reads_56 : decode cX9_reads 56 = .ok (.iload 4, 2) := dk_21 4 (dk_at dksX9_reads_2 12 rfl rfl)
theorem dX9_reads_58 : decode cX9_reads 58 = .ok (.ifCond .le 8, 3) := dk_158 0 8 (dk_at dksX9_reads_2 14 rfl rfl)
theorem dX9_reads_61 : decode cX9_reads 61 = .ok (.iload 4, 2) := dk_21 4 (dk_at dksX9_reads_2 17 rfl rfl)
theorem dX9_reads_63 : decode cX9_reads 63 = .ok (.goto 4, 3) := dk_167 0 4 (dk_at dksX9_reads_2 19 rfl rfl)
theorem dX9_reads_66 : decode cX9_reads 66 = .ok (.iconst 0, 1) := dk_3 (dk_at dksX9_reads_2 22 rfl rfl)
theorem dX9_reads_67 : decode cX9_reads 67 = .ok (.iadd, 1) := dk_96 (dk_at dksX9_reads_2 23 rfl rfl)
theorem dX9_reads_68 : decode cX9_reads 68 = .ok (.istore_n 3, 1) := dk_62 (dk_at dksX9_reads_3 0 rfl rfl)
theorem dX9_reads_69 : decode cX9_reads 69 = .ok (.goto (-59), 3) := dk_167 255 197 (dk_at dksX9_reads_3 1 rfl rfl)
theorem dX9_reads_72 : decode cX9_reads 72 = .ok (.aload_n 0, 1) := dk_42 (dk_at dksX9_reads_3 4 rfl rfl)
theorem dX9_reads_73 : decode cX9_reads 73 = .ok (.getfield 129, 3) := dk_180 0 129 (dk_at dksX9_reads_3 5 rfl rfl)
theorem dX9_reads_76 : decode cX9_reads 76 = .ok (.iload_n 1, 1) := dk_27 (dk_at dksX9_reads_3 8 rfl rfl)
theorem dX9_reads_77 : decode cX9_reads 77 = .ok (.iaload, 1) := dk_46 (dk_at dksX9_reads_3 9 rfl rfl)
theorem dX9_reads_78 : decode cX9_reads 78 = .ok (.aload_n 0, 1) := dk_42 (dk_at dksX9_reads_3 10 rfl rfl)
theorem dX9_reads_79 : decode cX9_reads 79 = .ok (.getfield 123, 3) := dk_180 0 123 (dk_at dksX9_reads_3 11 rfl rfl)
theorem dX9_reads_82 : decode cX9_reads 82 = .ok (.iload_n 1, 1) := dk_27 (dk_at dksX9_reads_3 14 rfl rfl)
theorem dX9_reads_83 : decode cX9_reads 83 = .ok (.iaload, 1) := dk_46 (dk_at dksX9_reads_3 15 rfl rfl)
theorem dX9_reads_84 : decode cX9_reads 84 = .ok (.isub, 1) := dk_100 (dk_at dksX9_reads_3 16 rfl rfl)
theorem dX9_reads_85 : decode cX9_reads 85 = .ok (.iload_n 3, 1) := dk_29 (dk_at dksX9_reads_3 17 rfl rfl)
theorem dX9_reads_86 : decode cX9_reads 86 = .ok (.iadd, 1) := dk_96 (dk_at dksX9_reads_3 18 rfl rfl)
theorem dX9_reads_87 : decode cX9_reads 87 = .ok (.istore 5, 2) := dk_54 5 (dk_at dksX9_reads_3 19 rfl rfl)
theorem dX9_reads_89 : decode cX9_reads 89 = .ok (.iload 4, 2) := dk_21 4 (dk_at dksX9_reads_3 21 rfl rfl)
theorem dX9_reads_91 : decode cX9_reads 91 = .ok (.ifCond .lt 54, 3) := dk_155 0 54 (dk_at dksX9_reads_4 0 rfl rfl)
theorem dX9_reads_94 : decode cX9_reads 94 = .ok (.iload_n 3, 1) := dk_29 (dk_at dksX9_reads_4 3 rfl rfl)
theorem dX9_reads_95 : decode cX9_reads 95 = .ok (.istore 6, 2) := dk_54 6 (dk_at dksX9_reads_4 4 rfl rfl)
theorem dX9_reads_97 : decode cX9_reads 97 = .ok (.iload 6, 2) := dk_21 6 (dk_at dksX9_reads_4 6 rfl rfl)
theorem dX9_reads_99 : decode cX9_reads 99 = .ok (.aload_n 0, 1) := dk_42 (dk_at dksX9_reads_4 8 rfl rfl)
theorem dX9_reads_100 : decode cX9_reads 100 = .ok (.getfield 123, 3) := dk_180 0 123 (dk_at dksX9_reads_4 9 rfl rfl)
theorem dX9_reads_103 : decode cX9_reads 103 = .ok (.iload_n 1, 1) := dk_27 (dk_at dksX9_reads_4 12 rfl rfl)
theorem dX9_reads_104 : decode cX9_reads 104 = .ok (.iaload, 1) := dk_46 (dk_at dksX9_reads_4 13 rfl rfl)
theorem dX9_reads_105 : decode cX9_reads 105 = .ok (.if_icmp .ge 30, 3) := dk_162 0 30 (dk_at dksX9_reads_4 14 rfl rfl)
theorem dX9_reads_108 : decode cX9_reads 108 = .ok (.aload_n 0, 1) := dk_42 (dk_at dksX9_reads_4 17 rfl rfl)
theorem dX9_reads_109 : decode cX9_reads 109 = .ok (.getfield 126, 3) := dk_180 0 126 (dk_at dksX9_reads_4 18 rfl rfl)
theorem dX9_reads_112 : decode cX9_reads 112 = .ok (.bipush 8, 2) := dk_16 8 (dk_at dksX9_reads_4 21 rfl rfl)
theorem dX9_reads_114 : decode cX9_reads 114 = .ok (.iload_n 1, 1) := dk_27 (dk_at dksX9_reads_4 23 rfl rfl)
theorem dX9_reads_115 : decode cX9_reads 115 = .ok (.imul, 1) := dk_104 (dk_at dksX9_reads_5 0 rfl rfl)
theorem dX9_reads_116 : decode cX9_reads 116 = .ok (.iload 6, 2) := dk_21 6 (dk_at dksX9_reads_5 1 rfl rfl)
theorem dX9_reads_118 : decode cX9_reads 118 = .ok (.iadd, 1) := dk_96 (dk_at dksX9_reads_5 3 rfl rfl)
theorem dX9_reads_119 : decode cX9_reads 119 = .ok (.iload_n 3, 1) := dk_29 (dk_at dksX9_reads_5 4 rfl rfl)
theorem dX9_reads_120 : decode cX9_reads 120 = .ok (.isub, 1) := dk_100 (dk_at dksX9_reads_5 5 rfl rfl)
theorem dX9_reads_121 : decode cX9_reads 121 = .ok (.aload_n 0, 1) := dk_42 (dk_at dksX9_reads_5 6 rfl rfl)
theorem dX9_reads_122 : decode cX9_reads 122 = .ok (.getfield 141, 3) := dk_180 0 141 (dk_at dksX9_reads_5 7 rfl rfl)
theorem dX9_reads_125 : decode cX9_reads 125 = .ok (.iload 6, 2) := dk_21 6 (dk_at dksX9_reads_5 10 rfl rfl)
theorem dX9_reads_127 : decode cX9_reads 127 = .ok (.iaload, 1) := dk_46 (dk_at dksX9_reads_5 12 rfl rfl)
theorem dX9_reads_128 : decode cX9_reads 128 = .ok (.iastore, 1) := dk_79 (dk_at dksX9_reads_5 13 rfl rfl)
theorem dX9_reads_129 : decode cX9_reads 129 = .ok (.iinc 6 1, 3) := dk_132 6 1 (dk_at dksX9_reads_5 14 rfl rfl)
theorem dX9_reads_132 : decode cX9_reads 132 = .ok (.goto (-35), 3) := dk_167 255 221 (dk_at dksX9_reads_5 17 rfl rfl)
theorem dX9_reads_135 : decode cX9_reads 135 = .ok (.aload_n 0, 1) := dk_42 (dk_at dksX9_reads_5 20 rfl rfl)
theorem dX9_reads_136 : decode cX9_reads 136 = .ok (.getfield 123, 3) := dk_180 0 123 (dk_at dksX9_reads_5 21 rfl rfl)
theorem dX9_reads_139 : decode cX9_reads 139 = .ok (.iload_n 1, 1) := dk_27 (dk_at dksX9_reads_6 0 rfl rfl)
theorem dX9_reads_140 : decode cX9_reads 140 = .ok (.dup2, 1) := dk_92 (dk_at dksX9_reads_6 1 rfl rfl)
theorem dX9_reads_141 : decode cX9_reads 141 = .ok (.iaload, 1) := dk_46 (dk_at dksX9_reads_6 2 rfl rfl)
theorem dX9_reads_142 : decode cX9_reads 142 = .ok (.iload_n 3, 1) := dk_29 (dk_at dksX9_reads_6 3 rfl rfl)
theorem dX9_reads_143 : decode cX9_reads 143 = .ok (.isub, 1) := dk_100 (dk_at dksX9_reads_6 4 rfl rfl)
theorem dX9_reads_144 : decode cX9_reads 144 = .ok (.iastore, 1) := dk_79 (dk_at dksX9_reads_6 5 rfl rfl)
theorem dX9_reads_145 : decode cX9_reads 145 = .ok (.aload_n 0, 1) := dk_42 (dk_at dksX9_reads_6 6 rfl rfl)
theorem dX9_reads_146 : decode cX9_reads 146 = .ok (.iload_n 1, 1) := dk_27 (dk_at dksX9_reads_6 7 rfl rfl)
theorem dX9_reads_147 : decode cX9_reads 147 = .ok (.iload 4, 2) := dk_21 4 (dk_at dksX9_reads_6 8 rfl rfl)
theorem dX9_reads_149 : decode cX9_reads 149 = .ok (.ifCond .ge 8, 3) := dk_156 0 8 (dk_at dksX9_reads_6 10 rfl rfl)
theorem dX9_reads_152 : decode cX9_reads 152 = .ok (.iload 4, 2) := dk_21 4 (dk_at dksX9_reads_6 13 rfl rfl)
theorem dX9_reads_154 : decode cX9_reads 154 = .ok (.goto 4, 3) := dk_167 0 4 (dk_at dksX9_reads_6 15 rfl rfl)
theorem dX9_reads_157 : decode cX9_reads 157 = .ok (.iconst 0, 1) := dk_3 (dk_at dksX9_reads_6 18 rfl rfl)
theorem dX9_reads_158 : decode cX9_reads 158 = .ok (.iload 5, 2) := dk_21 5 (dk_at dksX9_reads_6 19 rfl rfl)
theorem dX9_reads_160 : decode cX9_reads 160 = .ok (.invokevirtual 391, 3) := dk_182 1 135 (dk_at dksX9_reads_6 21 rfl rfl)
theorem dX9_reads_163 : decode cX9_reads 163 = .ok (.ireturn, 1) := dk_172 (dk_at dksX9_reads_7 0 rfl rfl)
abbrev cX9_end : ByteArray := prog_17_method_73_code
def yX9_end : MethodName := ⟨RX9, "end", "(I)I"⟩
def dkwX9_end_4 : List UInt8 := [180, 0, 123, 27, 3, 79, 42, 180, 0, 132, 27, 46, 154, 0, 10, 42, 180, 0, 132, 27, 4, 79, 28, 172]
abbrev dktX9_end_4 : List UInt8 := dkwX9_end_4 ++ []
def dkwX9_end_3 : List UInt8 := [2, 182, 1, 139, 167, 0, 9, 42, 27, 4, 182, 1, 142, 61, 42, 180, 0, 120, 27, 7, 79, 42]
abbrev dktX9_end_3 : List UInt8 := dkwX9_end_3 ++ dktX9_end_4
def dkwX9_end_2 : List UInt8 := [17, 1, 44, 164, 0, 10, 42, 16, 250, 182, 0, 166, 172, 42, 180, 0, 111, 27, 51, 153, 0, 12, 42, 27]
abbrev dktX9_end_2 : List UInt8 := dkwX9_end_2 ++ dktX9_end_3
def dkwX9_end_1 : List UInt8 := [42, 180, 0, 132, 27, 46, 153, 0, 10, 42, 16, 254, 182, 0, 166, 172, 42, 180, 0, 135, 27, 46]
abbrev dktX9_end_1 : List UInt8 := dkwX9_end_1 ++ dktX9_end_2
def dkwX9_end_0 : List UInt8 := [27, 3, 6, 184, 0, 156, 154, 0, 9, 42, 2, 182, 0, 166, 172, 42, 180, 0, 105, 27, 51, 153, 0, 12]
abbrev dktX9_end_0 : List UInt8 := dkwX9_end_0 ++ dktX9_end_1
theorem dksX9_end_0 : cX9_end.data.toList.drop 0 = dktX9_end_0 := by decide +kernel
theorem dksX9_end_1 : cX9_end.data.toList.drop 24 = dktX9_end_1 := dk_seg dksX9_end_0 24 rfl rfl
theorem dksX9_end_2 : cX9_end.data.toList.drop 46 = dktX9_end_2 := dk_seg dksX9_end_1 22 rfl rfl
theorem dksX9_end_3 : cX9_end.data.toList.drop 70 = dktX9_end_3 := dk_seg dksX9_end_2 24 rfl rfl
theorem dksX9_end_4 : cX9_end.data.toList.drop 92 = dktX9_end_4 := dk_seg dksX9_end_3 22 rfl rfl
theorem dX9_end_0 : decode cX9_end 0 = .ok (.iload_n 1, 1) := dk_27 (dk_at dksX9_end_0 0 rfl rfl)
theorem dX9_end_1 : decode cX9_end 1 = .ok (.iconst 0, 1) := dk_3 (dk_at dksX9_end_0 1 rfl rfl)
theorem dX9_end_2 : decode cX9_end 2 = .ok (.iconst 3, 1) := dk_6 (dk_at dksX9_end_0 2 rfl rfl)
theorem dX9_end_3 : decode cX9_end 3 = .ok (.invokestatic 156, 3) := dk_184 0 156 (dk_at dksX9_end_0 3 rfl rfl)
theorem dX9_end_6 : decode cX9_end 6 = .ok (.ifCond .ne 9, 3) := dk_154 0 9 (dk_at dksX9_end_0 6 rfl rfl)
theorem dX9_end_9 : decode cX9_end 9 = .ok (.aload_n 0, 1) := dk_42 (dk_at dksX9_end_0 9 rfl rfl)
theorem dX9_end_10 : decode cX9_end 10 = .ok (.iconst (-1), 1) := dk_2 (dk_at dksX9_end_0 10 rfl rfl)
theorem dX9_end_11 : decode cX9_end 11 = .ok (.invokevirtual 166, 3) := dk_182 0 166 (dk_at dksX9_end_0 11 rfl rfl)
theorem dX9_end_14 : decode cX9_end 14 = .ok (.ireturn, 1) := dk_172 (dk_at dksX9_end_0 14 rfl rfl)
theorem dX9_end_15 : decode cX9_end 15 = .ok (.aload_n 0, 1) := dk_42 (dk_at dksX9_end_0 15 rfl rfl)
theorem dX9_end_16 : decode cX9_end 16 = .ok (.getfield 105, 3) := dk_180 0 105 (dk_at dksX9_end_0 16 rfl rfl)
theorem dX9_end_19 : decode cX9_end 19 = .ok (.iload_n 1, 1) := dk_27 (dk_at dksX9_end_0 19 rfl rfl)
theorem dX9_end_20 : decode cX9_end 20 = .ok (.baload, 1) := dk_51 (dk_at dksX9_end_0 20 rfl rfl)
theorem dX9_end_21 : decode cX9_end 21 = .ok (.ifCond .eq 12, 3) := dk_153 0 12 (dk_at dksX9_end_0 21 rfl rfl)
theorem dX9_end_24 : decode cX9_end 24 = .ok (.aload_n 0, 1) := dk_42 (dk_at dksX9_end_1 0 rfl rfl)
theorem dX9_end_25 : decode cX9_end 25 = .ok (.getfield 132, 3) := dk_180 0 132 (dk_at dksX9_end_1 1 rfl rfl)
theorem dX9_end_28 : decode cX9_end 28 = .ok (.iload_n 1, 1) := dk_27 (dk_at dksX9_end_1 4 rfl rfl)
theorem dX9_end_29 : decode cX9_end 29 = .ok (.iaload, 1) := dk_46 (dk_at dksX9_end_1 5 rfl rfl)
theorem dX9_end_30 : decode cX9_end 30 = .ok (.ifCond .eq 10, 3) := dk_153 0 10 (dk_at dksX9_end_1 6 rfl rfl)
theorem dX9_end_33 : decode cX9_end 33 = .ok (.aload_n 0, 1) := dk_42 (dk_at dksX9_end_1 9 rfl rfl)
theorem dX9_end_34 : decode cX9_end 34 = .ok (.bipush (-2), 2) := dk_16 254 (dk_at dksX9_end_1 10 rfl rfl)
theorem dX9_end_36 : decode cX9_end 36 = .ok (.invokevirtual 166, 3) := dk_182 0 166 (dk_at dksX9_end_1 12 rfl rfl)
theorem dX9_end_39 : decode cX9_end 39 = .ok (.ireturn, 1) := dk_172 (dk_at dksX9_end_1 15 rfl rfl)
theorem dX9_end_40 : decode cX9_end 40 = .ok (.aload_n 0, 1) := dk_42 (dk_at dksX9_end_1 16 rfl rfl)
theorem dX9_end_41 : decode cX9_end 41 = .ok (.getfield 135, 3) := dk_180 0 135 (dk_at dksX9_end_1 17 rfl rfl)
theorem dX9_end_44 : decode cX9_end 44 = .ok (.iload_n 1, 1) := dk_27 (dk_at dksX9_end_1 20 rfl rfl)
theorem dX9_end_45 : decode cX9_end 45 = .ok (.iaload, 1) := dk_46 (dk_at dksX9_end_1 21 rfl rfl)
theorem dX9_end_46 : decode cX9_end 46 = .ok (.sipush 300, 3) := dk_17 1 44 (dk_at dksX9_end_2 0 rfl rfl)
theorem dX9_end_49 : decode cX9_end 49 = .ok (.if_icmp .le 10, 3) := dk_164 0 10 (dk_at dksX9_end_2 3 rfl rfl)
theorem dX9_end_52 : decode cX9_end 52 = .ok (.aload_n 0, 1) := dk_42 (dk_at dksX9_end_2 6 rfl rfl)
theorem dX9_end_53 : decode cX9_end 53 = .ok (.bipush (-6), 2) := dk_16 250 (dk_at dksX9_end_2 7 rfl rfl)
theorem dX9_end_55 : decode cX9_end 55 = .ok (.invokevirtual 166, 3) := dk_182 0 166 (dk_at dksX9_end_2 9 rfl rfl)
theorem dX9_end_58 : decode cX9_end 58 = .ok (.ireturn, 1) := dk_172 (dk_at dksX9_end_2 12 rfl rfl)
theorem dX9_end_59 : decode cX9_end 59 = .ok (.aload_n 0, 1) := dk_42 (dk_at dksX9_end_2 13 rfl rfl)
theorem dX9_end_60 : decode cX9_end 60 = .ok (.getfield 111, 3) := dk_180 0 111 (dk_at dksX9_end_2 14 rfl rfl)
theorem dX9_end_63 : decode cX9_end 63 = .ok (.iload_n 1, 1) := dk_27 (dk_at dksX9_end_2 17 rfl rfl)
theorem dX9_end_64 : decode cX9_end 64 = .ok (.baload, 1) := dk_51 (dk_at dksX9_end_2 18 rfl rfl)
theorem dX9_end_65 : decode cX9_end 65 = .ok (.ifCond .eq 12, 3) := dk_153 0 12 (dk_at dksX9_end_2 19 rfl rfl)
theorem dX9_end_68 : decode cX9_end 68 = .ok (.aload_n 0, 1) := dk_42 (dk_at dksX9_end_2 22 rfl rfl)
theorem dX9_end_69 : decode cX9_end 69 = .ok (.iload_n 1, 1) := dk_27 (dk_at dksX9_end_2 23 rfl rfl)
theorem dX9_end_70 : decode cX9_end 70 = .ok (.iconst (-1), 1) := dk_2 (dk_at dksX9_end_3 0 rfl rfl)
theorem dX9_end_71 : decode cX9_end 71 = .ok (.invokevirtual 395, 3) := dk_182 1 139 (dk_at dksX9_end_3 1 rfl rfl)
theorem dX9_end_74 : decode cX9_end 74 = .ok (.goto 9, 3) := dk_167 0 9 (dk_at dksX9_end_3 4 rfl rfl)
theorem dX9_end_77 : decode cX9_end 77 = .ok (.aload_n 0, 1) := dk_42 (dk_at dksX9_end_3 7 rfl rfl)
theorem dX9_end_78 : decode cX9_end 78 = .ok (.iload_n 1, 1) := dk_27 (dk_at dksX9_end_3 8 rfl rfl)
theorem dX9_end_79 : decode cX9_end 79 = .ok (.iconst 1, 1) := dk_4 (dk_at dksX9_end_3 9 rfl rfl)
theorem dX9_end_80 : decode cX9_end 80 = .ok (.invokevirtual 398, 3) := dk_182 1 142 (dk_at dksX9_end_3 10 rfl rfl)
theorem dX9_end_83 : decode cX9_end 83 = .ok (.istore_n 2, 1) := dk_61 (dk_at dksX9_end_3 13 rfl rfl)
theorem dX9_end_84 : decode cX9_end 84 = .ok (.aload_n 0, 1) := dk_42 (dk_at dksX9_end_3 14 rfl rfl)
theorem dX9_end_85 : decode cX9_end 85 = .ok (.getfield 120, 3) := dk_180 0 120 (dk_at dksX9_end_3 15 rfl rfl)
theorem dX9_end_88 : decode cX9_end 88 = .ok (.iload_n 1, 1) := dk_27 (dk_at dksX9_end_3 18 rfl rfl)
theorem dX9_end_89 : decode cX9_end 89 = .ok (.iconst 4, 1) := dk_7 (dk_at dksX9_end_3 19 rfl rfl)
theorem dX9_end_90 : decode cX9_end 90 = .ok (.iastore, 1) := dk_79 (dk_at dksX9_end_3 20 rfl rfl)
theorem dX9_end_91 : decode cX9_end 91 = .ok (.aload_n 0, 1) := dk_42 (dk_at dksX9_end_3 21 rfl rfl)
theorem dX9_end_92 : decode cX9_end 92 = .ok (.getfield 123, 3) := dk_180 0 123 (dk_at dksX9_end_4 0 rfl rfl)
theorem dX9_end_95 : decode cX9_end 95 = .ok (.iload_n 1, 1) := dk_27 (dk_at dksX9_end_4 3 rfl rfl)
theorem dX9_end_96 : decode cX9_end 96 = .ok (.iconst 0, 1) := dk_3 (dk_at dksX9_end_4 4 rfl rfl)
theorem dX9_end_97 : decode cX9_end 97 = .ok (.iastore, 1) := dk_79 (dk_at dksX9_end_4 5 rfl rfl)
theorem dX9_end_98 : decode cX9_end 98 = .ok (.aload_n 0, 1) := dk_42 (dk_at dksX9_end_4 6 rfl rfl)
theorem dX9_end_99 : decode cX9_end 99 = .ok (.getfield 132, 3) := dk_180 0 132 (dk_at dksX9_end_4 7 rfl rfl)
theorem dX9_end_102 : decode cX9_end 102 = .ok (.iload_n 1, 1) := dk_27 (dk_at dksX9_end_4 10 rfl rfl)
theorem dX9_end_103 : decode cX9_end 103 = .ok (.iaload, 1) := dk_46 (dk_at dksX9_end_4 11 rfl rfl)
theorem dX9_end_104 : decode cX9_end 104 = .ok (.ifCond .ne 10, 3) := dk_154 0 10 (dk_at dksX9_end_4 12 rfl rfl)
theorem dX9_end_107 : decode cX9_end 107 = .ok (.aload_n 0, 1) := dk_42 (dk_at dksX9_end_4 15 rfl rfl)
theorem dX9_end_108 : decode cX9_end 108 = .ok (.getfield 132, 3) := dk_180 0 132 (dk_at dksX9_end_4 16 rfl rfl)
theorem dX9_end_111 : decode cX9_end 111 = .ok (.iload_n 1, 1) := dk_27 (dk_at dksX9_end_4 19 rfl rfl)
theorem dX9_end_112 : decode cX9_end 112 = .ok (.iconst 1, 1) := dk_4 (dk_at dksX9_end_4 20 rfl rfl)
theorem dX9_end_113 : decode cX9_end 113 = .ok (.iastore, 1) := dk_79 (dk_at dksX9_end_4 21 rfl rfl)
theorem dX9_end_114 : decode cX9_end 114 = .ok (.iload_n 2, 1) := dk_28 (dk_at dksX9_end_4 22 rfl rfl)
theorem dX9_end_115 : decode cX9_end 115 = .ok (.ireturn, 1) := dk_172 (dk_at dksX9_end_4 23 rfl rfl)
abbrev cX9_take : ByteArray := prog_17_method_74_code
def yX9_take : MethodName := ⟨RX9, "take", "(I)I"⟩
def dkwX9_take_4 : List UInt8 := [96, 4, 96, 46, 79, 132, 3, 1, 167, 255, 217, 28, 172]
abbrev dktX9_take_4 : List UInt8 := dkwX9_take_4 ++ []
def dkwX9_take_3 : List UInt8 := [162, 0, 35, 42, 180, 0, 138, 17, 4, 176, 27, 104, 29, 96, 42, 180, 0, 138, 17, 4, 176, 27, 104, 29]
abbrev dktX9_take_3 : List UInt8 := dkwX9_take_3 ++ dktX9_take_4
def dkwX9_take_2 : List UInt8 := [104, 46, 61, 42, 180, 0, 135, 27, 92, 46, 4, 100, 79, 3, 62, 29, 42, 180, 0, 135, 27, 46]
abbrev dktX9_take_2 : List UInt8 := dkwX9_take_2 ++ dktX9_take_3
def dkwX9_take_1 : List UInt8 := [42, 180, 0, 135, 27, 46, 154, 0, 10, 42, 16, 254, 182, 0, 166, 172, 42, 180, 0, 138, 17, 4, 176, 27]
abbrev dktX9_take_1 : List UInt8 := dkwX9_take_1 ++ dktX9_take_2
def dkwX9_take_0 : List UInt8 := [27, 3, 6, 184, 0, 156, 154, 0, 9, 42, 2, 182, 0, 166, 172, 42, 180, 0, 105, 27, 51, 153, 0, 12]
abbrev dktX9_take_0 : List UInt8 := dkwX9_take_0 ++ dktX9_take_1
theorem dksX9_take_0 : cX9_take.data.toList.drop 0 = dktX9_take_0 := by decide +kernel
theorem dksX9_take_1 : cX9_take.data.toList.drop 24 = dktX9_take_1 := dk_seg dksX9_take_0 24 rfl rfl
theorem dksX9_take_2 : cX9_take.data.toList.drop 48 = dktX9_take_2 := dk_seg dksX9_take_1 24 rfl rfl
theorem dksX9_take_3 : cX9_take.data.toList.drop 70 = dktX9_take_3 := dk_seg dksX9_take_2 22 rfl rfl
theorem dksX9_take_4 : cX9_take.data.toList.drop 94 = dktX9_take_4 := dk_seg dksX9_take_3 24 rfl rfl
theorem dX9_take_0 : decode cX9_take 0 = .ok (.iload_n 1, 1) := dk_27 (dk_at dksX9_take_0 0 rfl rfl)
theorem dX9_take_1 : decode cX9_take 1 = .ok (.iconst 0, 1) := dk_3 (dk_at dksX9_take_0 1 rfl rfl)
theorem dX9_take_2 : decode cX9_take 2 = .ok (.iconst 3, 1) := dk_6 (dk_at dksX9_take_0 2 rfl rfl)
theorem dX9_take_3 : decode cX9_take 3 = .ok (.invokestatic 156, 3) := dk_184 0 156 (dk_at dksX9_take_0 3 rfl rfl)
theorem dX9_take_6 : decode cX9_take 6 = .ok (.ifCond .ne 9, 3) := dk_154 0 9 (dk_at dksX9_take_0 6 rfl rfl)
theorem dX9_take_9 : decode cX9_take 9 = .ok (.aload_n 0, 1) := dk_42 (dk_at dksX9_take_0 9 rfl rfl)
theorem dX9_take_10 : decode cX9_take 10 = .ok (.iconst (-1), 1) := dk_2 (dk_at dksX9_take_0 10 rfl rfl)
theorem dX9_take_11 : decode cX9_take 11 = .ok (.invokevirtual 166, 3) := dk_182 0 166 (dk_at dksX9_take_0 11 rfl rfl)
theorem dX9_take_14 : decode cX9_take 14 = .ok (.ireturn, 1) := dk_172 (dk_at dksX9_take_0 14 rfl rfl)
theorem dX9_take_15 : decode cX9_take 15 = .ok (.aload_n 0, 1) := dk_42 (dk_at dksX9_take_0 15 rfl rfl)
theorem dX9_take_16 : decode cX9_take 16 = .ok (.getfield 105, 3) := dk_180 0 105 (dk_at dksX9_take_0 16 rfl rfl)
theorem dX9_take_19 : decode cX9_take 19 = .ok (.iload_n 1, 1) := dk_27 (dk_at dksX9_take_0 19 rfl rfl)
theorem dX9_take_20 : decode cX9_take 20 = .ok (.baload, 1) := dk_51 (dk_at dksX9_take_0 20 rfl rfl)
theorem dX9_take_21 : decode cX9_take 21 = .ok (.ifCond .eq 12, 3) := dk_153 0 12 (dk_at dksX9_take_0 21 rfl rfl)
theorem dX9_take_24 : decode cX9_take 24 = .ok (.aload_n 0, 1) := dk_42 (dk_at dksX9_take_1 0 rfl rfl)
theorem dX9_take_25 : decode cX9_take 25 = .ok (.getfield 135, 3) := dk_180 0 135 (dk_at dksX9_take_1 1 rfl rfl)
theorem dX9_take_28 : decode cX9_take 28 = .ok (.iload_n 1, 1) := dk_27 (dk_at dksX9_take_1 4 rfl rfl)
theorem dX9_take_29 : decode cX9_take 29 = .ok (.iaload, 1) := dk_46 (dk_at dksX9_take_1 5 rfl rfl)
theorem dX9_take_30 : decode cX9_take 30 = .ok (.ifCond .ne 10, 3) := dk_154 0 10 (dk_at dksX9_take_1 6 rfl rfl)
theorem dX9_take_33 : decode cX9_take 33 = .ok (.aload_n 0, 1) := dk_42 (dk_at dksX9_take_1 9 rfl rfl)
theorem dX9_take_34 : decode cX9_take 34 = .ok (.bipush (-2), 2) := dk_16 254 (dk_at dksX9_take_1 10 rfl rfl)
theorem dX9_take_36 : decode cX9_take 36 = .ok (.invokevirtual 166, 3) := dk_182 0 166 (dk_at dksX9_take_1 12 rfl rfl)
theorem dX9_take_39 : decode cX9_take 39 = .ok (.ireturn, 1) := dk_172 (dk_at dksX9_take_1 15 rfl rfl)
theorem dX9_take_40 : decode cX9_take 40 = .ok (.aload_n 0, 1) := dk_42 (dk_at dksX9_take_1 16 rfl rfl)
theorem dX9_take_41 : decode cX9_take 41 = .ok (.getfield 138, 3) := dk_180 0 138 (dk_at dksX9_take_1 17 rfl rfl)
theorem dX9_take_44 : decode cX9_take 44 = .ok (.sipush 1200, 3) := dk_17 4 176 (dk_at dksX9_take_1 20 rfl rfl)
theorem dX9_take_47 : decode cX9_take 47 = .ok (.iload_n 1, 1) := dk_27 (dk_at dksX9_take_1 23 rfl rfl)
theorem dX9_take_48 : decode cX9_take 48 = .ok (.imul, 1) := dk_104 (dk_at dksX9_take_2 0 rfl rfl)
theorem dX9_take_49 : decode cX9_take 49 = .ok (.iaload, 1) := dk_46 (dk_at dksX9_take_2 1 rfl rfl)
theorem dX9_take_50 : decode cX9_take 50 = .ok (.istore_n 2, 1) := dk_61 (dk_at dksX9_take_2 2 rfl rfl)
theorem dX9_take_51 : decode cX9_take 51 = .ok (.aload_n 0, 1) := dk_42 (dk_at dksX9_take_2 3 rfl rfl)
theorem dX9_take_52 : decode cX9_take 52 = .ok (.getfield 135, 3) := dk_180 0 135 (dk_at dksX9_take_2 4 rfl rfl)
theorem dX9_take_55 : decode cX9_take 55 = .ok (.iload_n 1, 1) := dk_27 (dk_at dksX9_take_2 7 rfl rfl)
theorem dX9_take_56 : decode cX9_take 56 = .ok (.dup2, 1) := dk_92 (dk_at dksX9_take_2 8 rfl rfl)
theorem dX9_take_57 : decode cX9_take 57 = .ok (.iaload, 1) := dk_46 (dk_at dksX9_take_2 9 rfl rfl)
theorem dX9_take_58 : decode cX9_take 58 = .ok (.iconst 1, 1) := dk_4 (dk_at dksX9_take_2 10 rfl rfl)
theorem dX9_take_59 : decode cX9_take 59 = .ok (.isub, 1) := dk_100 (dk_at dksX9_take_2 11 rfl rfl)
theorem dX9_take_60 : decode cX9_take 60 = .ok (.iastore, 1) := dk_79 (dk_at dksX9_take_2 12 rfl rfl)
theorem dX9_take_61 : decode cX9_take 61 = .ok (.iconst 0, 1) := dk_3 (dk_at dksX9_take_2 13 rfl rfl)
theorem dX9_take_62 : decode cX9_take 62 = .ok (.istore_n 3, 1) := dk_62 (dk_at dksX9_take_2 14 rfl rfl)
theorem dX9_take_63 : decode cX9_take 63 = .ok (.iload_n 3, 1) := dk_29 (dk_at dksX9_take_2 15 rfl rfl)
theorem dX9_take_64 : decode cX9_take 64 = .ok (.aload_n 0, 1) := dk_42 (dk_at dksX9_take_2 16 rfl rfl)
theorem dX9_take_65 : decode cX9_take 65 = .ok (.getfield 135, 3) := dk_180 0 135 (dk_at dksX9_take_2 17 rfl rfl)
theorem dX9_take_68 : decode cX9_take 68 = .ok (.iload_n 1, 1) := dk_27 (dk_at dksX9_take_2 20 rfl rfl)
theorem dX9_take_69 : decode cX9_take 69 = .ok (.iaload, 1) := dk_46 (dk_at dksX9_take_2 21 rfl rfl)
theorem dX9_take_70 : decode cX9_take 70 = .ok (.if_icmp .ge 35, 3) := dk_162 0 35 (dk_at dksX9_take_3 0 rfl rfl)
theorem dX9_take_73 : decode cX9_take 73 = .ok (.aload_n 0, 1) := dk_42 (dk_at dksX9_take_3 3 rfl rfl)
theorem dX9_take_74 : decode cX9_take 74 = .ok (.getfield 138, 3) := dk_180 0 138 (dk_at dksX9_take_3 4 rfl rfl)
theorem dX9_take_77 : decode cX9_take 77 = .ok (.sipush 1200, 3) := dk_17 4 176 (dk_at dksX9_take_3 7 rfl rfl)
theorem dX9_take_80 : decode cX9_take 80 = .ok (.iload_n 1, 1) := dk_27 (dk_at dksX9_take_3 10 rfl rfl)
theorem dX9_take_81 : decode cX9_take 81 = .ok (.imul, 1) := dk_104 (dk_at dksX9_take_3 11 rfl rfl)
theorem dX9_take_82 : decode cX9_take 82 = .ok (.iload_n 3, 1) := dk_29 (dk_at dksX9_take_3 12 rfl rfl)
theorem dX9_take_83 : decode cX9_take 83 = .ok (.iadd, 1) := dk_96 (dk_at dksX9_take_3 13 rfl rfl)
theorem dX9_take_84 : decode cX9_take 84 = .ok (.aload_n 0, 1) := dk_42 (dk_at dksX9_take_3 14 rfl rfl)
theorem dX9_take_85 : decode cX9_take 85 = .ok (.getfield 138, 3) := dk_180 0 138 (dk_at dksX9_take_3 15 rfl rfl)
theorem dX9_take_88 : decode cX9_take 88 = .ok (.sipush 1200, 3) := dk_17 4 176 (dk_at dksX9_take_3 18 rfl rfl)
theorem dX9_take_91 : decode cX9_take 91 = .ok (.iload_n 1, 1) := dk_27 (dk_at dksX9_take_3 21 rfl rfl)
theorem dX9_take_92 : decode cX9_take 92 = .ok (.imul, 1) := dk_104 (dk_at dksX9_take_3 22 rfl rfl)
theorem dX9_take_93 : decode cX9_take 93 = .ok (.iload_n 3, 1) := dk_29 (dk_at dksX9_take_3 23 rfl rfl)
theorem dX9_take_94 : decode cX9_take 94 = .ok (.iadd, 1) := dk_96 (dk_at dksX9_take_4 0 rfl rfl)
theorem dX9_take_95 : decode cX9_take 95 = .ok (.iconst 1, 1) := dk_4 (dk_at dksX9_take_4 1 rfl rfl)
theorem dX9_take_96 : decode cX9_take 96 = .ok (.iadd, 1) := dk_96 (dk_at dksX9_take_4 2 rfl rfl)
theorem dX9_take_97 : decode cX9_take 97 = .ok (.iaload, 1) := dk_46 (dk_at dksX9_take_4 3 rfl rfl)
theorem dX9_take_98 : decode cX9_take 98 = .ok (.iastore, 1) := dk_79 (dk_at dksX9_take_4 4 rfl rfl)
theorem dX9_take_99 : decode cX9_take 99 = .ok (.iinc 3 1, 3) := dk_132 3 1 (dk_at dksX9_take_4 5 rfl rfl)
theorem dX9_take_102 : decode cX9_take 102 = .ok (.goto (-39), 3) := dk_167 255 217 (dk_at dksX9_take_4 8 rfl rfl)
theorem dX9_take_105 : decode cX9_take 105 = .ok (.iload_n 2, 1) := dk_28 (dk_at dksX9_take_4 11 rfl rfl)
theorem dX9_take_106 : decode cX9_take 106 = .ok (.ireturn, 1) := dk_172 (dk_at dksX9_take_4 12 rfl rfl)
abbrev cX9_machine : ByteArray := prog_17_method_75_code
def yX9_machine : MethodName := ⟨RX9, "machine", "(II)I"⟩
def dkwX9_machine_4 : List UInt8 := [180, 0, 123, 27, 46, 172, 42, 180, 0, 132, 27, 46, 172, 42, 2, 182, 0, 166, 172]
abbrev dktX9_machine_4 : List UInt8 := dkwX9_machine_4 ++ []
def dkwX9_machine_3 : List UInt8 := [42, 180, 0, 135, 27, 46, 172, 42, 180, 0, 117, 27, 46, 172, 42, 180, 0, 120, 27, 46, 172, 42]
abbrev dktX9_machine_3 : List UInt8 := dkwX9_machine_3 ++ dktX9_machine_4
def dkwX9_machine_2 : List UInt8 := [170, 0, 0, 0, 0, 0, 0, 71, 0, 0, 0, 0, 0, 0, 0, 4, 0, 0, 0, 36, 0, 0, 0, 43, 0, 0, 0, 50, 0, 0, 0, 57, 0, 0, 0, 64]
abbrev dktX9_machine_2 : List UInt8 := dkwX9_machine_2 ++ dktX9_machine_3
def dkwX9_machine_1 : List UInt8 := [42, 16, 254, 182, 0, 166, 172, 28]
abbrev dktX9_machine_1 : List UInt8 := dkwX9_machine_1 ++ dktX9_machine_2
def dkwX9_machine_0 : List UInt8 := [27, 3, 6, 184, 0, 156, 154, 0, 9, 42, 2, 182, 0, 166, 172, 42, 180, 0, 105, 27, 51, 154, 0, 10]
abbrev dktX9_machine_0 : List UInt8 := dkwX9_machine_0 ++ dktX9_machine_1
theorem dksX9_machine_0 : cX9_machine.data.toList.drop 0 = dktX9_machine_0 := by decide +kernel
theorem dksX9_machine_1 : cX9_machine.data.toList.drop 24 = dktX9_machine_1 := dk_seg dksX9_machine_0 24 rfl rfl
theorem dksX9_machine_2 : cX9_machine.data.toList.drop 32 = dktX9_machine_2 := dk_seg dksX9_machine_1 8 rfl rfl
theorem dksX9_machine_3 : cX9_machine.data.toList.drop 68 = dktX9_machine_3 := dk_seg dksX9_machine_2 36 rfl rfl
theorem dksX9_machine_4 : cX9_machine.data.toList.drop 90 = dktX9_machine_4 := dk_seg dksX9_machine_3 22 rfl rfl
theorem dX9_machine_0 : decode cX9_machine 0 = .ok (.iload_n 1, 1) := dk_27 (dk_at dksX9_machine_0 0 rfl rfl)
theorem dX9_machine_1 : decode cX9_machine 1 = .ok (.iconst 0, 1) := dk_3 (dk_at dksX9_machine_0 1 rfl rfl)
theorem dX9_machine_2 : decode cX9_machine 2 = .ok (.iconst 3, 1) := dk_6 (dk_at dksX9_machine_0 2 rfl rfl)
theorem dX9_machine_3 : decode cX9_machine 3 = .ok (.invokestatic 156, 3) := dk_184 0 156 (dk_at dksX9_machine_0 3 rfl rfl)
theorem dX9_machine_6 : decode cX9_machine 6 = .ok (.ifCond .ne 9, 3) := dk_154 0 9 (dk_at dksX9_machine_0 6 rfl rfl)
theorem dX9_machine_9 : decode cX9_machine 9 = .ok (.aload_n 0, 1) := dk_42 (dk_at dksX9_machine_0 9 rfl rfl)
theorem dX9_machine_10 : decode cX9_machine 10 = .ok (.iconst (-1), 1) := dk_2 (dk_at dksX9_machine_0 10 rfl rfl)
theorem dX9_machine_11 : decode cX9_machine 11 = .ok (.invokevirtual 166, 3) := dk_182 0 166 (dk_at dksX9_machine_0 11 rfl rfl)
theorem dX9_machine_14 : decode cX9_machine 14 = .ok (.ireturn, 1) := dk_172 (dk_at dksX9_machine_0 14 rfl rfl)
theorem dX9_machine_15 : decode cX9_machine 15 = .ok (.aload_n 0, 1) := dk_42 (dk_at dksX9_machine_0 15 rfl rfl)
theorem dX9_machine_16 : decode cX9_machine 16 = .ok (.getfield 105, 3) := dk_180 0 105 (dk_at dksX9_machine_0 16 rfl rfl)
theorem dX9_machine_19 : decode cX9_machine 19 = .ok (.iload_n 1, 1) := dk_27 (dk_at dksX9_machine_0 19 rfl rfl)
theorem dX9_machine_20 : decode cX9_machine 20 = .ok (.baload, 1) := dk_51 (dk_at dksX9_machine_0 20 rfl rfl)
theorem dX9_machine_21 : decode cX9_machine 21 = .ok (.ifCond .ne 10, 3) := dk_154 0 10 (dk_at dksX9_machine_0 21 rfl rfl)
theorem dX9_machine_24 : decode cX9_machine 24 = .ok (.aload_n 0, 1) := dk_42 (dk_at dksX9_machine_1 0 rfl rfl)
theorem dX9_machine_25 : decode cX9_machine 25 = .ok (.bipush (-2), 2) := dk_16 254 (dk_at dksX9_machine_1 1 rfl rfl)
theorem dX9_machine_27 : decode cX9_machine 27 = .ok (.invokevirtual 166, 3) := dk_182 0 166 (dk_at dksX9_machine_1 3 rfl rfl)
theorem dX9_machine_30 : decode cX9_machine 30 = .ok (.ireturn, 1) := dk_172 (dk_at dksX9_machine_1 6 rfl rfl)
theorem dX9_machine_31 : decode cX9_machine 31 = .ok (.iload_n 2, 1) := dk_28 (dk_at dksX9_machine_1 7 rfl rfl)
theorem dX9_machine_32 : decode cX9_machine 32 = .ok (.tableswitch 71 0 4 #[36, 43, 50, 57, 64], 36) := by decide +kernel
theorem dX9_machine_68 : decode cX9_machine 68 = .ok (.aload_n 0, 1) := dk_42 (dk_at dksX9_machine_3 0 rfl rfl)
theorem dX9_machine_69 : decode cX9_machine 69 = .ok (.getfield 135, 3) := dk_180 0 135 (dk_at dksX9_machine_3 1 rfl rfl)
theorem dX9_machine_72 : decode cX9_machine 72 = .ok (.iload_n 1, 1) := dk_27 (dk_at dksX9_machine_3 4 rfl rfl)
theorem dX9_machine_73 : decode cX9_machine 73 = .ok (.iaload, 1) := dk_46 (dk_at dksX9_machine_3 5 rfl rfl)
theorem dX9_machine_74 : decode cX9_machine 74 = .ok (.ireturn, 1) := dk_172 (dk_at dksX9_machine_3 6 rfl rfl)
theorem dX9_machine_75 : decode cX9_machine 75 = .ok (.aload_n 0, 1) := dk_42 (dk_at dksX9_machine_3 7 rfl rfl)
theorem dX9_machine_76 : decode cX9_machine 76 = .ok (.getfield 117, 3) := dk_180 0 117 (dk_at dksX9_machine_3 8 rfl rfl)
theorem dX9_machine_79 : decode cX9_machine 79 = .ok (.iload_n 1, 1) := dk_27 (dk_at dksX9_machine_3 11 rfl rfl)
theorem dX9_machine_80 : decode cX9_machine 80 = .ok (.iaload, 1) := dk_46 (dk_at dksX9_machine_3 12 rfl rfl)
theorem dX9_machine_81 : decode cX9_machine 81 = .ok (.ireturn, 1) := dk_172 (dk_at dksX9_machine_3 13 rfl rfl)
theorem dX9_machine_82 : decode cX9_machine 82 = .ok (.aload_n 0, 1) := dk_42 (dk_at dksX9_machine_3 14 rfl rfl)
theorem dX9_machine_83 : decode cX9_machine 83 = .ok (.getfield 120, 3) := dk_180 0 120 (dk_at dksX9_machine_3 15 rfl rfl)
theorem dX9_machine_86 : decode cX9_machine 86 = .ok (.iload_n 1, 1) := dk_27 (dk_at dksX9_machine_3 18 rfl rfl)
theorem dX9_machine_87 : decode cX9_machine 87 = .ok (.iaload, 1) := dk_46 (dk_at dksX9_machine_3 19 rfl rfl)
theorem dX9_machine_88 : decode cX9_machine 88 = .ok (.ireturn, 1) := dk_172 (dk_at dksX9_machine_3 20 rfl rfl)
theorem dX9_machine_89 : decode cX9_machine 89 = .ok (.aload_n 0, 1) := dk_42 (dk_at dksX9_machine_3 21 rfl rfl)
theorem dX9_machine_90 : decode cX9_machine 90 = .ok (.getfield 123, 3) := dk_180 0 123 (dk_at dksX9_machine_4 0 rfl rfl)
theorem dX9_machine_93 : decode cX9_machine 93 = .ok (.iload_n 1, 1) := dk_27 (dk_at dksX9_machine_4 3 rfl rfl)
theorem dX9_machine_94 : decode cX9_machine 94 = .ok (.iaload, 1) := dk_46 (dk_at dksX9_machine_4 4 rfl rfl)
theorem dX9_machine_95 : decode cX9_machine 95 = .ok (.ireturn, 1) := dk_172 (dk_at dksX9_machine_4 5 rfl rfl)
theorem dX9_machine_96 : decode cX9_machine 96 = .ok (.aload_n 0, 1) := dk_42 (dk_at dksX9_machine_4 6 rfl rfl)
theorem dX9_machine_97 : decode cX9_machine 97 = .ok (.getfield 132, 3) := dk_180 0 132 (dk_at dksX9_machine_4 7 rfl rfl)
theorem dX9_machine_100 : decode cX9_machine 100 = .ok (.iload_n 1, 1) := dk_27 (dk_at dksX9_machine_4 10 rfl rfl)
theorem dX9_machine_101 : decode cX9_machine 101 = .ok (.iaload, 1) := dk_46 (dk_at dksX9_machine_4 11 rfl rfl)
theorem dX9_machine_102 : decode cX9_machine 102 = .ok (.ireturn, 1) := dk_172 (dk_at dksX9_machine_4 12 rfl rfl)
theorem dX9_machine_103 : decode cX9_machine 103 = .ok (.aload_n 0, 1) := dk_42 (dk_at dksX9_machine_4 13 rfl rfl)
theorem dX9_machine_104 : decode cX9_machine 104 = .ok (.iconst (-1), 1) := dk_2 (dk_at dksX9_machine_4 14 rfl rfl)
theorem dX9_machine_105 : decode cX9_machine 105 = .ok (.invokevirtual 166, 3) := dk_182 0 166 (dk_at dksX9_machine_4 15 rfl rfl)
theorem dX9_machine_108 : decode cX9_machine 108 = .ok (.ireturn, 1) := dk_172 (dk_at dksX9_machine_4 18 rfl rfl)
abbrev cX9_coverage : ByteArray := prog_17_method_76_code
def yX9_coverage : MethodName := ⟨RX9, "coverage", "(III)I"⟩
def dkwX9_coverage_5 : List UInt8 := [172]
abbrev dktX9_coverage_5 : List UInt8 := dkwX9_coverage_5 ++ []
def dkwX9_coverage_4 : List UInt8 := [21, 5, 182, 0, 252, 153, 0, 7, 4, 167, 0, 4, 3, 96, 54, 4, 132, 5, 1, 167, 255, 219, 21, 4]
abbrev dktX9_coverage_4 : List UInt8 := dkwX9_coverage_4 ++ dktX9_coverage_5
def dkwX9_coverage_3 : List UInt8 := [54, 4, 28, 54, 5, 21, 5, 29, 163, 0, 37, 21, 4, 21, 5, 184, 0, 187, 153, 0, 17, 42, 27]
abbrev dktX9_coverage_3 : List UInt8 := dkwX9_coverage_3 ++ dktX9_coverage_4
def dkwX9_coverage_2 : List UInt8 := [153, 0, 16, 29, 28, 161, 0, 11, 29, 28, 100, 18, 236, 161, 0, 9, 42, 2, 182, 0, 166, 172, 3]
abbrev dktX9_coverage_2 : List UInt8 := dkwX9_coverage_2 ++ dktX9_coverage_3
def dkwX9_coverage_1 : List UInt8 := [16, 251, 182, 0, 166, 172, 28, 3, 18, 162, 184, 0, 156, 153, 0, 26, 29, 3, 18, 162, 184, 0, 156]
abbrev dktX9_coverage_1 : List UInt8 := dkwX9_coverage_1 ++ dktX9_coverage_2
def dkwX9_coverage_0 : List UInt8 := [42, 27, 182, 0, 170, 154, 0, 9, 42, 2, 182, 0, 166, 172, 42, 180, 0, 13, 27, 51, 154, 0, 10, 42]
abbrev dktX9_coverage_0 : List UInt8 := dkwX9_coverage_0 ++ dktX9_coverage_1
theorem dksX9_coverage_0 : cX9_coverage.data.toList.drop 0 = dktX9_coverage_0 := by decide +kernel
theorem dksX9_coverage_1 : cX9_coverage.data.toList.drop 24 = dktX9_coverage_1 := dk_seg dksX9_coverage_0 24 rfl rfl
theorem dksX9_coverage_2 : cX9_coverage.data.toList.drop 47 = dktX9_coverage_2 := dk_seg dksX9_coverage_1 23 rfl rfl
theorem dksX9_coverage_3 : cX9_coverage.data.toList.drop 70 = dktX9_coverage_3 := dk_seg dksX9_coverage_2 23 rfl rfl
theorem dksX9_coverage_4 : cX9_coverage.data.toList.drop 93 = dktX9_coverage_4 := dk_seg dksX9_coverage_3 23 rfl rfl
theorem dksX9_coverage_5 : cX9_coverage.data.toList.drop 117 = dktX9_coverage_5 := dk_seg dksX9_coverage_4 24 rfl rfl
theorem dX9_coverage_0 : decode cX9_coverage 0 = .ok (.aload_n 0, 1) := dk_42 (dk_at dksX9_coverage_0 0 rfl rfl)
theorem dX9_coverage_1 : decode cX9_coverage 1 = .ok (.iload_n 1, 1) := dk_27 (dk_at dksX9_coverage_0 1 rfl rfl)
theorem dX9_coverage_2 : decode cX9_coverage 2 = .ok (.invokevirtual 170, 3) := dk_182 0 170 (dk_at dksX9_coverage_0 2 rfl rfl)
theorem dX9_coverage_5 : decode cX9_coverage 5 = .ok (.ifCond .ne 9, 3) := dk_154 0 9 (dk_at dksX9_coverage_0 5 rfl rfl)
theorem dX9_coverage_8 : decode cX9_coverage 8 = .ok (.aload_n 0, 1) := dk_42 (dk_at dksX9_coverage_0 8 rfl rfl)
theorem dX9_coverage_9 : decode cX9_coverage 9 = .ok (.iconst (-1), 1) := dk_2 (dk_at dksX9_coverage_0 9 rfl rfl)
theorem dX9_coverage_10 : decode cX9_coverage 10 = .ok (.invokevirtual 166, 3) := dk_182 0 166 (dk_at dksX9_coverage_0 10 rfl rfl)
theorem dX9_coverage_13 : decode cX9_coverage 13 = .ok (.ireturn, 1) := dk_172 (dk_at dksX9_coverage_0 13 rfl rfl)
theorem dX9_coverage_14 : decode cX9_coverage 14 = .ok (.aload_n 0, 1) := dk_42 (dk_at dksX9_coverage_0 14 rfl rfl)
theorem dX9_coverage_15 : decode cX9_coverage 15 = .ok (.getfield 13, 3) := dk_180 0 13 (dk_at dksX9_coverage_0 15 rfl rfl)
theorem dX9_coverage_18 : decode cX9_coverage 18 = .ok (.iload_n 1, 1) := dk_27 (dk_at dksX9_coverage_0 18 rfl rfl)
theorem dX9_coverage_19 : decode cX9_coverage 19 = .ok (.baload, 1) := dk_51 (dk_at dksX9_coverage_0 19 rfl rfl)
theorem dX9_coverage_20 : decode cX9_coverage 20 = .ok (.ifCond .ne 10, 3) := dk_154 0 10 (dk_at dksX9_coverage_0 20 rfl rfl)
theorem dX9_coverage_23 : decode cX9_coverage 23 = .ok (.aload_n 0, 1) := dk_42 (dk_at dksX9_coverage_0 23 rfl rfl)
theorem dX9_coverage_24 : decode cX9_coverage 24 = .ok (.bipush (-5), 2) := dk_16 251 (dk_at dksX9_coverage_1 0 rfl rfl)
theorem dX9_coverage_26 : decode cX9_coverage 26 = .ok (.invokevirtual 166, 3) := dk_182 0 166 (dk_at dksX9_coverage_1 2 rfl rfl)
theorem dX9_coverage_29 : decode cX9_coverage 29 = .ok (.ireturn, 1) := dk_172 (dk_at dksX9_coverage_1 5 rfl rfl)
theorem dX9_coverage_30 : decode cX9_coverage 30 = .ok (.iload_n 2, 1) := dk_28 (dk_at dksX9_coverage_1 6 rfl rfl)
theorem dX9_coverage_31 : decode cX9_coverage 31 = .ok (.iconst 0, 1) := dk_3 (dk_at dksX9_coverage_1 7 rfl rfl)
theorem dX9_coverage_32 : decode cX9_coverage 32 = .ok (.ldc 162, 2) := dk_18 162 (dk_at dksX9_coverage_1 8 rfl rfl)
theorem dX9_coverage_34 : decode cX9_coverage 34 = .ok (.invokestatic 156, 3) := dk_184 0 156 (dk_at dksX9_coverage_1 10 rfl rfl)
theorem dX9_coverage_37 : decode cX9_coverage 37 = .ok (.ifCond .eq 26, 3) := dk_153 0 26 (dk_at dksX9_coverage_1 13 rfl rfl)
theorem dX9_coverage_40 : decode cX9_coverage 40 = .ok (.iload_n 3, 1) := dk_29 (dk_at dksX9_coverage_1 16 rfl rfl)
theorem dX9_coverage_41 : decode cX9_coverage 41 = .ok (.iconst 0, 1) := dk_3 (dk_at dksX9_coverage_1 17 rfl rfl)
theorem dX9_coverage_42 : decode cX9_coverage 42 = .ok (.ldc 162, 2) := dk_18 162 (dk_at dksX9_coverage_1 18 rfl rfl)
theorem dX9_coverage_44 : decode cX9_coverage 44 = .ok (.invokestatic 156, 3) := dk_184 0 156 (dk_at dksX9_coverage_1 20 rfl rfl)
theorem dX9_coverage_47 : decode cX9_coverage 47 = .ok (.ifCond .eq 16, 3) := dk_153 0 16 (dk_at dksX9_coverage_2 0 rfl rfl)
theorem dX9_coverage_50 : decode cX9_coverage 50 = .ok (.iload_n 3, 1) := dk_29 (dk_at dksX9_coverage_2 3 rfl rfl)
theorem dX9_coverage_51 : decode cX9_coverage 51 = .ok (.iload_n 2, 1) := dk_28 (dk_at dksX9_coverage_2 4 rfl rfl)
theorem dX9_coverage_52 : decode cX9_coverage 52 = .ok (.if_icmp .lt 11, 3) := dk_161 0 11 (dk_at dksX9_coverage_2 5 rfl rfl)
theorem dX9_coverage_55 : decode cX9_coverage 55 = .ok (.iload_n 3, 1) := dk_29 (dk_at dksX9_coverage_2 8 rfl rfl)
theorem dX9_coverage_56 : decode cX9_coverage 56 = .ok (.iload_n 2, 1) := dk_28 (dk_at dksX9_coverage_2 9 rfl rfl)
theorem dX9_coverage_57 : decode cX9_coverage 57 = .ok (.isub, 1) := dk_100 (dk_at dksX9_coverage_2 10 rfl rfl)
theorem dX9_coverage_58 : decode cX9_coverage 58 = .ok (.ldc 236, 2) := dk_18 236 (dk_at dksX9_coverage_2 11 rfl rfl)
theorem dX9_coverage_60 : decode cX9_coverage 60 = .ok (.if_icmp .lt 9, 3) := dk_161 0 9 (dk_at dksX9_coverage_2 13 rfl rfl)
theorem dX9_coverage_63 : decode cX9_coverage 63 = .ok (.aload_n 0, 1) := dk_42 (dk_at dksX9_coverage_2 16 rfl rfl)
theorem dX9_coverage_64 : decode cX9_coverage 64 = .ok (.iconst (-1), 1) := dk_2 (dk_at dksX9_coverage_2 17 rfl rfl)
theorem dX9_coverage_65 : decode cX9_coverage 65 = .ok (.invokevirtual 166, 3) := dk_182 0 166 (dk_at dksX9_coverage_2 18 rfl rfl)
theorem dX9_coverage_68 : decode cX9_coverage 68 = .ok (.ireturn, 1) := dk_172 (dk_at dksX9_coverage_2 21 rfl rfl)
theorem dX9_coverage_69 : decode cX9_coverage 69 = .ok (.iconst 0, 1) := dk_3 (dk_at dksX9_coverage_2 22 rfl rfl)
theorem dX9_coverage_70 : decode cX9_coverage 70 = .ok (.istore 4, 2) := dk_54 4 (dk_at dksX9_coverage_3 0 rfl rfl)
theorem dX9_coverage_72 : decode cX9_coverage 72 = .ok (.iload_n 2, 1) := dk_28 (dk_at dksX9_coverage_3 2 rfl rfl)
theorem dX9_coverage_73 : decode cX9_coverage 73 = .ok (.istore 5, 2) := dk_54 5 (dk_at dksX9_coverage_3 3 rfl rfl)
theorem dX9_coverage_75 : decode cX9_coverage 75 = .ok (.iload 5, 2) := dk_21 5 (dk_at dksX9_coverage_3 5 rfl rfl)
theorem dX9_coverage_77 : decode cX9_coverage 77 = .ok (.iload_n 3, 1) := dk_29 (dk_at dksX9_coverage_3 7 rfl rfl)
theorem dX9_coverage_78 : decode cX9_coverage 78 = .ok (.if_icmp .gt 37, 3) := dk_163 0 37 (dk_at dksX9_coverage_3 8 rfl rfl)
theorem dX9_coverage_81 : decode cX9_coverage 81 = .ok (.iload 4, 2) := dk_21 4 (dk_at dksX9_coverage_3 11 rfl rfl)
theorem dX9_coverage_83 : decode cX9_coverage 83 = .ok (.iload 5, 2) := dk_21 5 (dk_at dksX9_coverage_3 13 rfl rfl)
theorem dX9_coverage_85 : decode cX9_coverage 85 = .ok (.invokestatic 187, 3) := dk_184 0 187 (dk_at dksX9_coverage_3 15 rfl rfl)
theorem dX9_coverage_88 : decode cX9_coverage 88 = .ok (.ifCond .eq 17, 3) := dk_153 0 17 (dk_at dksX9_coverage_3 18 rfl rfl)
theorem dX9_coverage_91 : decode cX9_coverage 91 = .ok (.aload_n 0, 1) := dk_42 (dk_at dksX9_coverage_3 21 rfl rfl)
theorem dX9_coverage_92 : decode cX9_coverage 92 = .ok (.iload_n 1, 1) := dk_27 (dk_at dksX9_coverage_3 22 rfl rfl)
theorem dX9_coverage_93 : decode cX9_coverage 93 = .ok (.iload 5, 2) := dk_21 5 (dk_at dksX9_coverage_4 0 rfl rfl)
theorem dX9_coverage_95 : decode cX9_coverage 95 = .ok (.invokevirtual 252, 3) := dk_182 0 252 (dk_at dksX9_coverage_4 2 rfl rfl)
theorem dX9_coverage_98 : decode cX9_coverage 98 = .ok (.ifCond .eq 7, 3) := dk_153 0 7 (dk_at dksX9_coverage_4 5 rfl rfl)
theorem dX9_coverage_101 : decode cX9_coverage 101 = .ok (.iconst 1, 1) := dk_4 (dk_at dksX9_coverage_4 8 rfl rfl)
theorem dX9_coverage_102 : decode cX9_coverage 102 = .ok (.goto 4, 3) := dk_167 0 4 (dk_at dksX9_coverage_4 9 rfl rfl)
theorem dX9_coverage_105 : decode cX9_coverage 105 = .ok (.iconst 0, 1) := dk_3 (dk_at dksX9_coverage_4 12 rfl rfl)
theorem dX9_coverage_106 : decode cX9_coverage 106 = .ok (.iadd, 1) := dk_96 (dk_at dksX9_coverage_4 13 rfl rfl)
theorem dX9_coverage_107 : decode cX9_coverage 107 = .ok (.istore 4, 2) := dk_54 4 (dk_at dksX9_coverage_4 14 rfl rfl)
theorem dX9_coverage_109 : decode cX9_coverage 109 = .ok (.iinc 5 1, 3) := dk_132 5 1 (dk_at dksX9_coverage_4 16 rfl rfl)
theorem dX9_coverage_112 : decode cX9_coverage 112 = .ok (.goto (-37), 3) := dk_167 255 219 (dk_at dksX9_coverage_4 19 rfl rfl)
theorem dX9_coverage_115 : decode cX9_coverage 115 = .ok (.iload 4, 2) := dk_21 4 (dk_at dksX9_coverage_4 22 rfl rfl)
theorem dX9_coverage_117 : decode cX9_coverage 117 = .ok (.ireturn, 1) := dk_172 (dk_at dksX9_coverage_5 0 rfl rfl)
abbrev cX9_differ : ByteArray := prog_17_method_78_code
def yX9_differ : MethodName := ⟨RX9, "differ", "(III)I"⟩
def dkwX9_differ_9 : List UInt8 := [132, 4, 1, 167, 255, 114, 42, 16, 254, 182, 0, 166, 172]
abbrev dktX9_differ_9 : List UInt8 := dkwX9_differ_9 ++ []
def dkwX9_differ_8 : List UInt8 := [160, 0, 7, 4, 167, 0, 4, 3, 54, 6, 132, 7, 1, 167, 255, 217, 21, 6, 154, 0, 6, 21, 4, 172]
abbrev dktX9_differ_8 : List UInt8 := dkwX9_differ_8 ++ dktX9_differ_9
def dkwX9_differ_7 : List UInt8 := [162, 0, 38, 21, 6, 153, 0, 33, 42, 180, 0, 147, 21, 7, 46, 42, 180, 0, 144, 21, 7, 46]
abbrev dktX9_differ_7 : List UInt8 := dkwX9_differ_7 ++ dktX9_differ_8
def dkwX9_differ_6 : List UInt8 := [182, 1, 146, 21, 5, 160, 0, 7, 4, 167, 0, 4, 3, 54, 6, 3, 54, 7, 21, 7, 21, 5]
abbrev dktX9_differ_6 : List UInt8 := dkwX9_differ_6 ++ dktX9_differ_7
def dkwX9_differ_5 : List UInt8 := [180, 0, 147, 21, 6, 42, 180, 0, 144, 21, 6, 46, 79, 132, 6, 1, 167, 255, 232, 42, 28, 21, 4]
abbrev dktX9_differ_5 : List UInt8 := dkwX9_differ_5 ++ dktX9_differ_6
def dkwX9_differ_4 : List UInt8 := [167, 0, 114, 42, 27, 21, 4, 182, 1, 146, 54, 5, 3, 54, 6, 21, 6, 21, 5, 162, 0, 23, 42]
abbrev dktX9_differ_4 : List UInt8 := dkwX9_differ_4 ++ dktX9_differ_5
def dkwX9_differ_3 : List UInt8 := [17, 16, 0, 96, 162, 0, 138, 21, 4, 18, 162, 163, 0, 131, 21, 4, 184, 0, 187, 154, 0, 6]
abbrev dktX9_differ_3 : List UInt8 := dkwX9_differ_3 ++ dktX9_differ_4
def dkwX9_differ_2 : List UInt8 := [29, 3, 18, 162, 184, 0, 156, 154, 0, 9, 42, 2, 182, 0, 166, 172, 29, 54, 4, 21, 4, 29]
abbrev dktX9_differ_2 : List UInt8 := dkwX9_differ_2 ++ dktX9_differ_3
def dkwX9_differ_1 : List UInt8 := [180, 0, 13, 27, 51, 153, 0, 12, 42, 180, 0, 13, 28, 51, 154, 0, 10, 42, 16, 251, 182, 0, 166, 172]
abbrev dktX9_differ_1 : List UInt8 := dkwX9_differ_1 ++ dktX9_differ_2
def dkwX9_differ_0 : List UInt8 := [42, 27, 182, 0, 170, 153, 0, 11, 42, 28, 182, 0, 170, 154, 0, 9, 42, 2, 182, 0, 166, 172, 42]
abbrev dktX9_differ_0 : List UInt8 := dkwX9_differ_0 ++ dktX9_differ_1
theorem dksX9_differ_0 : cX9_differ.data.toList.drop 0 = dktX9_differ_0 := by decide +kernel
theorem dksX9_differ_1 : cX9_differ.data.toList.drop 23 = dktX9_differ_1 := dk_seg dksX9_differ_0 23 rfl rfl
theorem dksX9_differ_2 : cX9_differ.data.toList.drop 47 = dktX9_differ_2 := dk_seg dksX9_differ_1 24 rfl rfl
theorem dksX9_differ_3 : cX9_differ.data.toList.drop 69 = dktX9_differ_3 := dk_seg dksX9_differ_2 22 rfl rfl
theorem dksX9_differ_4 : cX9_differ.data.toList.drop 91 = dktX9_differ_4 := dk_seg dksX9_differ_3 22 rfl rfl
theorem dksX9_differ_5 : cX9_differ.data.toList.drop 114 = dktX9_differ_5 := dk_seg dksX9_differ_4 23 rfl rfl
theorem dksX9_differ_6 : cX9_differ.data.toList.drop 137 = dktX9_differ_6 := dk_seg dksX9_differ_5 23 rfl rfl
theorem dksX9_differ_7 : cX9_differ.data.toList.drop 159 = dktX9_differ_7 := dk_seg dksX9_differ_6 22 rfl rfl
theorem dksX9_differ_8 : cX9_differ.data.toList.drop 181 = dktX9_differ_8 := dk_seg dksX9_differ_7 22 rfl rfl
theorem dksX9_differ_9 : cX9_differ.data.toList.drop 205 = dktX9_differ_9 := dk_seg dksX9_differ_8 24 rfl rfl
theorem dX9_differ_0 : decode cX9_differ 0 = .ok (.aload_n 0, 1) := dk_42 (dk_at dksX9_differ_0 0 rfl rfl)
theorem dX9_differ_1 : decode cX9_differ 1 = .ok (.iload_n 1, 1) := dk_27 (dk_at dksX9_differ_0 1 rfl rfl)
theorem dX9_differ_2 : decode cX9_differ 2 = .ok (.invokevirtual 170, 3) := dk_182 0 170 (dk_at dksX9_differ_0 2 rfl rfl)
theorem dX9_differ_5 : decode cX9_differ 5 = .ok (.ifCond .eq 11, 3) := dk_153 0 11 (dk_at dksX9_differ_0 5 rfl rfl)
theorem dX9_differ_8 : decode cX9_differ 8 = .ok (.aload_n 0, 1) := dk_42 (dk_at dksX9_differ_0 8 rfl rfl)
theorem dX9_differ_9 : decode cX9_differ 9 = .ok (.iload_n 2, 1) := dk_28 (dk_at dksX9_differ_0 9 rfl rfl)
theorem dX9_differ_10 : decode cX9_differ 10 = .ok (.invokevirtual 170, 3) := dk_182 0 170 (dk_at dksX9_differ_0 10 rfl rfl)
theorem dX9_differ_13 : decode cX9_differ 13 = .ok (.ifCond .ne 9, 3) := dk_154 0 9 (dk_at dksX9_differ_0 13 rfl rfl)
theorem dX9_differ_16 : decode cX9_differ 16 = .ok (.aload_n 0, 1) := dk_42 (dk_at dksX9_differ_0 16 rfl rfl)
theorem dX9_differ_17 : decode cX9_differ 17 = .ok (.iconst (-1), 1) := dk_2 (dk_at dksX9_differ_0 17 rfl rfl)
theorem dX9_differ_18 : decode cX9_differ 18 = .ok (.invokevirtual 166, 3) := dk_182 0 166 (dk_at dksX9_differ_0 18 rfl rfl)
theorem dX9_differ_21 : decode cX9_differ 21 = .ok (.ireturn, 1) := dk_172 (dk_at dksX9_differ_0 21 rfl rfl)
theorem dX9_differ_22 : decode cX9_differ 22 = .ok (.aload_n 0, 1) := dk_42 (dk_at dksX9_differ_0 22 rfl rfl)
theorem dX9_differ_23 : decode cX9_differ 23 = .ok (.getfield 13, 3) := dk_180 0 13 (dk_at dksX9_differ_1 0 rfl rfl)
theorem dX9_differ_26 : decode cX9_differ 26 = .ok (.iload_n 1, 1) := dk_27 (dk_at dksX9_differ_1 3 rfl rfl)
theorem dX9_differ_27 : decode cX9_differ 27 = .ok (.baload, 1) := dk_51 (dk_at dksX9_differ_1 4 rfl rfl)
theorem dX9_differ_28 : decode cX9_differ 28 = .ok (.ifCond .eq 12, 3) := dk_153 0 12 (dk_at dksX9_differ_1 5 rfl rfl)
theorem dX9_differ_31 : decode cX9_differ 31 = .ok (.aload_n 0, 1) := dk_42 (dk_at dksX9_differ_1 8 rfl rfl)
theorem dX9_differ_32 : decode cX9_differ 32 = .ok (.getfield 13, 3) := dk_180 0 13 (dk_at dksX9_differ_1 9 rfl rfl)
theorem dX9_differ_35 : decode cX9_differ 35 = .ok (.iload_n 2, 1) := dk_28 (dk_at dksX9_differ_1 12 rfl rfl)
theorem dX9_differ_36 : decode cX9_differ 36 = .ok (.baload, 1) := dk_51 (dk_at dksX9_differ_1 13 rfl rfl)
theorem dX9_differ_37 : decode cX9_differ 37 = .ok (.ifCond .ne 10, 3) := dk_154 0 10 (dk_at dksX9_differ_1 14 rfl rfl)
theorem dX9_differ_40 : decode cX9_differ 40 = .ok (.aload_n 0, 1) := dk_42 (dk_at dksX9_differ_1 17 rfl rfl)
theorem dX9_differ_41 : decode cX9_differ 41 = .ok (.bipush (-5), 2) := dk_16 251 (dk_at dksX9_differ_1 18 rfl rfl)
theorem dX9_differ_43 : decode cX9_differ 43 = .ok (.invokevirtual 166, 3) := dk_182 0 166 (dk_at dksX9_differ_1 20 rfl rfl)
theorem dX9_differ_46 : decode cX9_differ 46 = .ok (.ireturn, 1) := dk_172 (dk_at dksX9_differ_1 23 rfl rfl)
theorem dX9_differ_47 : decode cX9_differ 47 = .ok (.iload_n 3, 1) := dk_29 (dk_at dksX9_differ_2 0 rfl rfl)
theorem dX9_differ_48 : decode cX9_differ 48 = .ok (.iconst 0, 1) := dk_3 (dk_at dksX9_differ_2 1 rfl rfl)
theorem dX9_differ_49 : decode cX9_differ 49 = .ok (.ldc 162, 2) := dk_18 162 (dk_at dksX9_differ_2 2 rfl rfl)
theorem dX9_differ_51 : decode cX9_differ 51 = .ok (.invokestatic 156, 3) := dk_184 0 156 (dk_at dksX9_differ_2 4 rfl rfl)
theorem dX9_differ_54 : decode cX9_differ 54 = .ok (.ifCond .ne 9, 3) := dk_154 0 9 (dk_at dksX9_differ_2 7 rfl rfl)
theorem dX9_differ_57 : decode cX9_differ 57 = .ok (.aload_n 0, 1) := dk_42 (dk_at dksX9_differ_2 10 rfl rfl)
theorem dX9_differ_58 : decode cX9_differ 58 = .ok (.iconst (-1), 1) := dk_2 (dk_at dksX9_differ_2 11 rfl rfl)
theorem dX9_differ_59 : decode cX9_differ 59 = .ok (.invokevirtual 166, 3) := dk_182 0 166 (dk_at dksX9_differ_2 12 rfl rfl)
theorem dX9_differ_62 : decode cX9_differ 62 = .ok (.ireturn, 1) := dk_172 (dk_at dksX9_differ_2 15 rfl rfl)
theorem dX9_differ_63 : decode cX9_differ 63 = .ok (.iload_n 3, 1) := dk_29 (dk_at dksX9_differ_2 16 rfl rfl)
theorem dX9_differ_64 : decode cX9_differ 64 = .ok (.istore 4, 2) := dk_54 4 (dk_at dksX9_differ_2 17 rfl rfl)
theorem dX9_differ_66 : decode cX9_differ 66 = .ok (.iload 4, 2) := dk_21 4 (dk_at dksX9_differ_2 19 rfl rfl)
theorem dX9_differ_68 : decode cX9_differ 68 = .ok (.iload_n 3, 1) := dk_29 (dk_at dksX9_differ_2 21 rfl rfl)
theorem dX9_differ_69 : decode cX9_differ 69 = .ok (.sipush 4096, 3) := dk_17 16 0 (dk_at dksX9_differ_3 0 rfl rfl)
theorem dX9_differ_72 : decode cX9_differ 72 = .ok (.iadd, 1) := dk_96 (dk_at dksX9_differ_3 3 rfl rfl)
theorem dX9_differ_73 : decode cX9_differ 73 = .ok (.if_icmp .ge 138, 3) := dk_162 0 138 (dk_at dksX9_differ_3 4 rfl rfl)
theorem dX9_differ_76 : decode cX9_differ 76 = .ok (.iload 4, 2) := dk_21 4 (dk_at dksX9_differ_3 7 rfl rfl)
theorem dX9_differ_78 : decode cX9_differ 78 = .ok (.ldc 162, 2) := dk_18 162 (dk_at dksX9_differ_3 9 rfl rfl)
theorem dX9_differ_80 : decode cX9_differ 80 = .ok (.if_icmp .gt 131, 3) := dk_163 0 131 (dk_at dksX9_differ_3 11 rfl rfl)
theorem dX9_differ_83 : decode cX9_differ 83 = .ok (.iload 4, 2) := dk_21 4 (dk_at dksX9_differ_3 14 rfl rfl)
theorem dX9_differ_85 : decode cX9_differ 85 = .ok (.invokestatic 187, 3) := dk_184 0 187 (dk_at dksX9_differ_3 16 rfl rfl)
theorem dX9_differ_88 : decode cX9_differ 88 = .ok (.ifCond .ne 6, 3) := dk_154 0 6 (dk_at dksX9_differ_3 19 rfl rfl)
theorem dX9_differ_91 : decode cX9_differ 91 = .ok (.goto 114, 3) := dk_167 0 114 (dk_at dksX9_differ_4 0 rfl rfl)
theorem dX9_differ_94 : decode cX9_differ 94 = .ok (.aload_n 0, 1) := dk_42 (dk_at dksX9_differ_4 3 rfl rfl)
theorem dX9_differ_95 : decode cX9_differ 95 = .ok (.iload_n 1, 1) := dk_27 (dk_at dksX9_differ_4 4 rfl rfl)
theorem dX9_differ_96 : decode cX9_differ 96 = .ok (.iload 4, 2) := dk_21 4 (dk_at dksX9_differ_4 5 rfl rfl)
theorem dX9_differ_98 : decode cX9_differ 98 = .ok (.invokevirtual 402, 3) := dk_182 1 146 (dk_at dksX9_differ_4 7 rfl rfl)
theorem dX9_differ_101 : decode cX9_differ 101 = .ok (.istore 5, 2) := dk_54 5 (dk_at dksX9_differ_4 10 rfl rfl)
theorem dX9_differ_103 : decode cX9_differ 103 = .ok (.iconst 0, 1) := dk_3 (dk_at dksX9_differ_4 12 rfl rfl)
theorem dX9_differ_104 : decode cX9_differ 104 = .ok (.istore 6, 2) := dk_54 6 (dk_at dksX9_differ_4 13 rfl rfl)
theorem dX9_differ_106 : decode cX9_differ 106 = .ok (.iload 6, 2) := dk_21 6 (dk_at dksX9_differ_4 15 rfl rfl)
theorem dX9_differ_108 : decode cX9_differ 108 = .ok (.iload 5, 2) := dk_21 5 (dk_at dksX9_differ_4 17 rfl rfl)
theorem dX9_differ_110 : decode cX9_differ 110 = .ok (.if_icmp .ge 23, 3) := dk_162 0 23 (dk_at dksX9_differ_4 19 rfl rfl)
theorem dX9_differ_113 : decode cX9_differ 113 = .ok (.aload_n 0, 1) := dk_42 (dk_at dksX9_differ_4 22 rfl rfl)
theorem dX9_differ_114 : decode cX9_differ 114 = .ok (.getfield 147, 3) := dk_180 0 147 (dk_at dksX9_differ_5 0 rfl rfl)
theorem dX9_differ_117 : decode cX9_differ 117 = .ok (.iload 6, 2) := dk_21 6 (dk_at dksX9_differ_5 3 rfl rfl)
theorem dX9_differ_119 : decode cX9_differ 119 = .ok (.aload_n 0, 1) := dk_42 (dk_at dksX9_differ_5 5 rfl rfl)
theorem dX9_differ_120 : decode cX9_differ 120 = .ok (.getfield 144, 3) := dk_180 0 144 (dk_at dksX9_differ_5 6 rfl rfl)
theorem dX9_differ_123 : decode cX9_differ 123 = .ok (.iload 6, 2) := dk_21 6 (dk_at dksX9_differ_5 9 rfl rfl)
theorem dX9_differ_125 : decode cX9_differ 125 = .ok (.iaload, 1) := dk_46 (dk_at dksX9_differ_5 11 rfl rfl)
theorem dX9_differ_126 : decode cX9_differ 126 = .ok (.iastore, 1) := dk_79 (dk_at dksX9_differ_5 12 rfl rfl)
theorem dX9_differ_127 : decode cX9_differ 127 = .ok (.iinc 6 1, 3) := dk_132 6 1 (dk_at dksX9_differ_5 13 rfl rfl)
theorem dX9_differ_130 : decode cX9_differ 130 = .ok (.goto (-24), 3) := dk_167 255 232 (dk_at dksX9_differ_5 16 rfl rfl)
theorem dX9_differ_133 : decode cX9_differ 133 = .ok (.aload_n 0, 1) := dk_42 (dk_at dksX9_differ_5 19 rfl rfl)
theorem dX9_differ_134 : decode cX9_differ 134 = .ok (.iload_n 2, 1) := dk_28 (dk_at dksX9_differ_5 20 rfl rfl)
theorem dX9_differ_135 : decode cX9_differ 135 = .ok (.iload 4, 2) := dk_21 4 (dk_at dksX9_differ_5 21 rfl rfl)
theorem dX9_differ_137 : decode cX9_differ 137 = .ok (.invokevirtual 402, 3) := dk_182 1 146 (dk_at dksX9_differ_6 0 rfl rfl)
theorem dX9_differ_140 : decode cX9_differ 140 = .ok (.iload 5, 2) := dk_21 5 (dk_at dksX9_differ_6 3 rfl rfl)
theorem dX9_differ_142 : decode cX9_differ 142 = .ok (.if_icmp .ne 7, 3) := dk_160 0 7 (dk_at dksX9_differ_6 5 rfl rfl)
theorem dX9_differ_145 : decode cX9_differ 145 = .ok (.iconst 1, 1) := dk_4 (dk_at dksX9_differ_6 8 rfl rfl)
theorem dX9_differ_146 : decode cX9_differ 146 = .ok (.goto 4, 3) := dk_167 0 4 (dk_at dksX9_differ_6 9 rfl rfl)
theorem dX9_differ_149 : decode cX9_differ 149 = .ok (.iconst 0, 1) := dk_3 (dk_at dksX9_differ_6 12 rfl rfl)
theorem dX9_differ_150 : decode cX9_differ 150 = .ok (.istore 6, 2) := dk_54 6 (dk_at dksX9_differ_6 13 rfl rfl)
theorem dX9_differ_152 : decode cX9_differ 152 = .ok (.iconst 0, 1) := dk_3 (dk_at dksX9_differ_6 15 rfl rfl)
theorem dX9_differ_153 : decode cX9_differ 153 = .ok (.istore 7, 2) := dk_54 7 (dk_at dksX9_differ_6 16 rfl rfl)
theorem dX9_differ_155 : decode cX9_differ 155 = .ok (.iload 7, 2) := dk_21 7 (dk_at dksX9_differ_6 18 rfl rfl)
theorem dX9_differ_157 : decode cX9_differ 157 = .ok (.iload 5, 2) := dk_21 5 (dk_at dksX9_differ_6 20 rfl rfl)
theorem dX9_differ_159 : decode cX9_differ 159 = .ok (.if_icmp .ge 38, 3) := dk_162 0 38 (dk_at dksX9_differ_7 0 rfl rfl)
theorem dX9_differ_162 : decode cX9_differ 162 = .ok (.iload 6, 2) := dk_21 6 (dk_at dksX9_differ_7 3 rfl rfl)
theorem dX9_differ_164 : decode cX9_differ 164 = .ok (.ifCond .eq 33, 3) := dk_153 0 33 (dk_at dksX9_differ_7 5 rfl rfl)
theorem dX9_differ_167 : decode cX9_differ 167 = .ok (.aload_n 0, 1) := dk_42 (dk_at dksX9_differ_7 8 rfl rfl)
theorem dX9_differ_168 : decode cX9_differ 168 = .ok (.getfield 147, 3) := dk_180 0 147 (dk_at dksX9_differ_7 9 rfl rfl)
theorem dX9_differ_171 : decode cX9_differ 171 = .ok (.iload 7, 2) := dk_21 7 (dk_at dksX9_differ_7 12 rfl rfl)
theorem dX9_differ_173 : decode cX9_differ 173 = .ok (.iaload, 1) := dk_46 (dk_at dksX9_differ_7 14 rfl rfl)
theorem dX9_differ_174 : decode cX9_differ 174 = .ok (.aload_n 0, 1) := dk_42 (dk_at dksX9_differ_7 15 rfl rfl)
theorem dX9_differ_175 : decode cX9_differ 175 = .ok (.getfield 144, 3) := dk_180 0 144 (dk_at dksX9_differ_7 16 rfl rfl)
theorem dX9_differ_178 : decode cX9_differ 178 = .ok (.iload 7, 2) := dk_21 7 (dk_at dksX9_differ_7 19 rfl rfl)
theorem dX9_differ_180 : decode cX9_differ 180 = .ok (.iaload, 1) := dk_46 (dk_at dksX9_differ_7 21 rfl rfl)
theorem dX9_differ_181 : decode cX9_differ 181 = .ok (.if_icmp .ne 7, 3) := dk_160 0 7 (dk_at dksX9_differ_8 0 rfl rfl)
theorem dX9_differ_184 : decode cX9_differ 184 = .ok (.iconst 1, 1) := dk_4 (dk_at dksX9_differ_8 3 rfl rfl)
theorem dX9_differ_185 : decode cX9_differ 185 = .ok (.goto 4, 3) := dk_167 0 4 (dk_at dksX9_differ_8 4 rfl rfl)
theorem dX9_differ_188 : decode cX9_differ 188 = .ok (.iconst 0, 1) := dk_3 (dk_at dksX9_differ_8 7 rfl rfl)
theorem dX9_differ_189 : decode cX9_differ 189 = .ok (.istore 6, 2) := dk_54 6 (dk_at dksX9_differ_8 8 rfl rfl)
theorem dX9_differ_191 : decode cX9_differ 191 = .ok (.iinc 7 1, 3) := dk_132 7 1 (dk_at dksX9_differ_8 10 rfl rfl)
theorem dX9_differ_194 : decode cX9_differ 194 = .ok (.goto (-39), 3) := dk_167 255 217 (dk_at dksX9_differ_8 13 rfl rfl)
theorem dX9_differ_197 : decode cX9_differ 197 = .ok (.iload 6, 2) := dk_21 6 (dk_at dksX9_differ_8 16 rfl rfl)
theorem dX9_differ_199 : decode cX9_differ 199 = .ok (.ifCond .ne 6, 3) := dk_154 0 6 (dk_at dksX9_differ_8 18 rfl rfl)
theorem dX9_differ_202 : decode cX9_differ 202 = .ok (.iload 4, 2) := dk_21 4 (dk_at dksX9_differ_8 21 rfl rfl)
theorem dX9_differ_204 : decode cX9_differ 204 = .ok (.ireturn, 1) := dk_172 (dk_at dksX9_differ_8 23 rfl rfl)
theorem dX9_differ_205 : decode cX9_differ 205 = .ok (.iinc 4 1, 3) := dk_132 4 1 (dk_at dksX9_differ_9 0 rfl rfl)
theorem dX9_differ_208 : decode cX9_differ 208 = .ok (.goto (-142), 3) := dk_167 255 114 (dk_at dksX9_differ_9 3 rfl rfl)
theorem dX9_differ_211 : decode cX9_differ 211 = .ok (.aload_n 0, 1) := dk_42 (dk_at dksX9_differ_9 6 rfl rfl)
theorem dX9_differ_212 : decode cX9_differ 212 = .ok (.bipush (-2), 2) := dk_16 254 (dk_at dksX9_differ_9 7 rfl rfl)
theorem dX9_differ_214 : decode cX9_differ 214 = .ok (.invokevirtual 166, 3) := dk_182 0 166 (dk_at dksX9_differ_9 9 rfl rfl)
theorem dX9_differ_217 : decode cX9_differ 217 = .ok (.ireturn, 1) := dk_172 (dk_at dksX9_differ_9 12 rfl rfl)
abbrev cX9_aloneOf : ByteArray := prog_17_method_77_code
def yX9_aloneOf : MethodName := ⟨RX9, "aloneOf", "(II)I"⟩
def dkwX9_aloneOf_2 : List UInt8 := [154, 0, 14, 29, 154, 0, 10, 42, 180, 1, 16, 167, 0, 4, 2, 172]
abbrev dktX9_aloneOf_2 : List UInt8 := dkwX9_aloneOf_2 ++ []
def dkwX9_aloneOf_1 : List UInt8 := [42, 3, 181, 1, 16, 42, 17, 4, 176, 181, 1, 72, 42, 27, 182, 1, 92, 62, 42, 27, 182, 1, 111]
abbrev dktX9_aloneOf_1 : List UInt8 := dkwX9_aloneOf_1 ++ dktX9_aloneOf_2
def dkwX9_aloneOf_0 : List UInt8 := [42, 27, 28, 182, 0, 252, 154, 0, 5, 2, 172, 42, 3, 181, 1, 33, 42, 42, 180, 0, 144, 181, 1, 13]
abbrev dktX9_aloneOf_0 : List UInt8 := dkwX9_aloneOf_0 ++ dktX9_aloneOf_1
theorem dksX9_aloneOf_0 : cX9_aloneOf.data.toList.drop 0 = dktX9_aloneOf_0 := by decide +kernel
theorem dksX9_aloneOf_1 : cX9_aloneOf.data.toList.drop 24 = dktX9_aloneOf_1 := dk_seg dksX9_aloneOf_0 24 rfl rfl
theorem dksX9_aloneOf_2 : cX9_aloneOf.data.toList.drop 47 = dktX9_aloneOf_2 := dk_seg dksX9_aloneOf_1 23 rfl rfl
theorem dX9_aloneOf_0 : decode cX9_aloneOf 0 = .ok (.aload_n 0, 1) := dk_42 (dk_at dksX9_aloneOf_0 0 rfl rfl)
theorem dX9_aloneOf_1 : decode cX9_aloneOf 1 = .ok (.iload_n 1, 1) := dk_27 (dk_at dksX9_aloneOf_0 1 rfl rfl)
theorem dX9_aloneOf_2 : decode cX9_aloneOf 2 = .ok (.iload_n 2, 1) := dk_28 (dk_at dksX9_aloneOf_0 2 rfl rfl)
theorem dX9_aloneOf_3 : decode cX9_aloneOf 3 = .ok (.invokevirtual 252, 3) := dk_182 0 252 (dk_at dksX9_aloneOf_0 3 rfl rfl)
theorem dX9_aloneOf_6 : decode cX9_aloneOf 6 = .ok (.ifCond .ne 5, 3) := dk_154 0 5 (dk_at dksX9_aloneOf_0 6 rfl rfl)
theorem dX9_aloneOf_9 : decode cX9_aloneOf 9 = .ok (.iconst (-1), 1) := dk_2 (dk_at dksX9_aloneOf_0 9 rfl rfl)
theorem dX9_aloneOf_10 : decode cX9_aloneOf 10 = .ok (.ireturn, 1) := dk_172 (dk_at dksX9_aloneOf_0 10 rfl rfl)
theorem dX9_aloneOf_11 : decode cX9_aloneOf 11 = .ok (.aload_n 0, 1) := dk_42 (dk_at dksX9_aloneOf_0 11 rfl rfl)
theorem dX9_aloneOf_12 : decode cX9_aloneOf 12 = .ok (.iconst 0, 1) := dk_3 (dk_at dksX9_aloneOf_0 12 rfl rfl)
theorem dX9_aloneOf_13 : decode cX9_aloneOf 13 = .ok (.putfield 289, 3) := dk_181 1 33 (dk_at dksX9_aloneOf_0 13 rfl rfl)
theorem dX9_aloneOf_16 : decode cX9_aloneOf 16 = .ok (.aload_n 0, 1) := dk_42 (dk_at dksX9_aloneOf_0 16 rfl rfl)
theorem dX9_aloneOf_17 : decode cX9_aloneOf 17 = .ok (.aload_n 0, 1) := dk_42 (dk_at dksX9_aloneOf_0 17 rfl rfl)
theorem dX9_aloneOf_18 : decode cX9_aloneOf 18 = .ok (.getfield 144, 3) := dk_180 0 144 (dk_at dksX9_aloneOf_0 18 rfl rfl)
theorem dX9_aloneOf_21 : decode cX9_aloneOf 21 = .ok (.putfield 269, 3) := dk_181 1 13 (dk_at dksX9_aloneOf_0 21 rfl rfl)
theorem dX9_aloneOf_24 : decode cX9_aloneOf 24 = .ok (.aload_n 0, 1) := dk_42 (dk_at dksX9_aloneOf_1 0 rfl rfl)
theorem dX9_aloneOf_25 : decode cX9_aloneOf 25 = .ok (.iconst 0, 1) := dk_3 (dk_at dksX9_aloneOf_1 1 rfl rfl)
theorem dX9_aloneOf_26 : decode cX9_aloneOf 26 = .ok (.putfield 272, 3) := dk_181 1 16 (dk_at dksX9_aloneOf_1 2 rfl rfl)
theorem dX9_aloneOf_29 : decode cX9_aloneOf 29 = .ok (.aload_n 0, 1) := dk_42 (dk_at dksX9_aloneOf_1 5 rfl rfl)
theorem dX9_aloneOf_30 : decode cX9_aloneOf 30 = .ok (.sipush 1200, 3) := dk_17 4 176 (dk_at dksX9_aloneOf_1 6 rfl rfl)
theorem dX9_aloneOf_33 : decode cX9_aloneOf 33 = .ok (.putfield 328, 3) := dk_181 1 72 (dk_at dksX9_aloneOf_1 9 rfl rfl)
theorem dX9_aloneOf_36 : decode cX9_aloneOf 36 = .ok (.aload_n 0, 1) := dk_42 (dk_at dksX9_aloneOf_1 12 rfl rfl)
theorem dX9_aloneOf_37 : decode cX9_aloneOf 37 = .ok (.iload_n 1, 1) := dk_27 (dk_at dksX9_aloneOf_1 13 rfl rfl)
theorem dX9_aloneOf_38 : decode cX9_aloneOf 38 = .ok (.invokevirtual 348, 3) := dk_182 1 92 (dk_at dksX9_aloneOf_1 14 rfl rfl)
theorem dX9_aloneOf_41 : decode cX9_aloneOf 41 = .ok (.istore_n 3, 1) := dk_62 (dk_at dksX9_aloneOf_1 17 rfl rfl)
theorem dX9_aloneOf_42 : decode cX9_aloneOf 42 = .ok (.aload_n 0, 1) := dk_42 (dk_at dksX9_aloneOf_1 18 rfl rfl)
theorem dX9_aloneOf_43 : decode cX9_aloneOf 43 = .ok (.iload_n 1, 1) := dk_27 (dk_at dksX9_aloneOf_1 19 rfl rfl)
theorem dX9_aloneOf_44 : decode cX9_aloneOf 44 = .ok (.invokevirtual 367, 3) := dk_182 1 111 (dk_at dksX9_aloneOf_1 20 rfl rfl)
theorem dX9_aloneOf_47 : decode cX9_aloneOf 47 = .ok (.ifCond .ne 14, 3) := dk_154 0 14 (dk_at dksX9_aloneOf_2 0 rfl rfl)
theorem dX9_aloneOf_50 : decode cX9_aloneOf 50 = .ok (.iload_n 3, 1) := dk_29 (dk_at dksX9_aloneOf_2 3 rfl rfl)
theorem dX9_aloneOf_51 : decode cX9_aloneOf 51 = .ok (.ifCond .ne 10, 3) := dk_154 0 10 (dk_at dksX9_aloneOf_2 4 rfl rfl)
theorem dX9_aloneOf_54 : decode cX9_aloneOf 54 = .ok (.aload_n 0, 1) := dk_42 (dk_at dksX9_aloneOf_2 7 rfl rfl)
theorem dX9_aloneOf_55 : decode cX9_aloneOf 55 = .ok (.getfield 272, 3) := dk_180 1 16 (dk_at dksX9_aloneOf_2 8 rfl rfl)
theorem dX9_aloneOf_58 : decode cX9_aloneOf 58 = .ok (.goto 4, 3) := dk_167 0 4 (dk_at dksX9_aloneOf_2 11 rfl rfl)
theorem dX9_aloneOf_61 : decode cX9_aloneOf 61 = .ok (.iconst (-1), 1) := dk_2 (dk_at dksX9_aloneOf_2 14 rfl rfl)
theorem dX9_aloneOf_62 : decode cX9_aloneOf 62 = .ok (.ireturn, 1) := dk_172 (dk_at dksX9_aloneOf_2 15 rfl rfl)
abbrev cX9_misread : ByteArray := prog_17_method_79_code
def yX9_misread : MethodName := ⟨RX9, "misread", "(II)I"⟩
def dkwX9_misread_5 : List UInt8 := [21, 6, 46, 160, 0, 7, 3, 167, 0, 4, 4, 96, 54, 5, 132, 6, 1, 167, 255, 213, 21, 5, 172]
abbrev dktX9_misread_5 : List UInt8 := dkwX9_misread_5 ++ []
def dkwX9_misread_4 : List UInt8 := [162, 0, 43, 21, 6, 21, 4, 162, 0, 36, 21, 5, 42, 180, 0, 84, 21, 6, 46, 42, 180, 0, 87]
abbrev dktX9_misread_4 : List UInt8 := dkwX9_misread_4 ++ dktX9_misread_5
def dkwX9_misread_3 : List UInt8 := [21, 4, 164, 0, 10, 29, 21, 4, 100, 167, 0, 7, 21, 4, 29, 100, 54, 5, 3, 54, 6, 21, 6, 29]
abbrev dktX9_misread_3 : List UInt8 := dkwX9_misread_3 ++ dktX9_misread_4
def dkwX9_misread_2 : List UInt8 := [42, 27, 6, 42, 180, 0, 84, 182, 1, 114, 62, 42, 28, 6, 42, 180, 0, 87, 182, 1, 114, 54, 4, 29]
abbrev dktX9_misread_2 : List UInt8 := dkwX9_misread_2 ++ dktX9_misread_3
def dkwX9_misread_1 : List UInt8 := [180, 0, 13, 27, 51, 153, 0, 12, 42, 180, 0, 13, 28, 51, 154, 0, 10, 42, 16, 251, 182, 0, 166, 172]
abbrev dktX9_misread_1 : List UInt8 := dkwX9_misread_1 ++ dktX9_misread_2
def dkwX9_misread_0 : List UInt8 := [42, 27, 182, 0, 170, 153, 0, 11, 42, 28, 182, 0, 170, 154, 0, 9, 42, 2, 182, 0, 166, 172, 42]
abbrev dktX9_misread_0 : List UInt8 := dkwX9_misread_0 ++ dktX9_misread_1
theorem dksX9_misread_0 : cX9_misread.data.toList.drop 0 = dktX9_misread_0 := by decide +kernel
theorem dksX9_misread_1 : cX9_misread.data.toList.drop 23 = dktX9_misread_1 := dk_seg dksX9_misread_0 23 rfl rfl
theorem dksX9_misread_2 : cX9_misread.data.toList.drop 47 = dktX9_misread_2 := dk_seg dksX9_misread_1 24 rfl rfl
theorem dksX9_misread_3 : cX9_misread.data.toList.drop 71 = dktX9_misread_3 := dk_seg dksX9_misread_2 24 rfl rfl
theorem dksX9_misread_4 : cX9_misread.data.toList.drop 95 = dktX9_misread_4 := dk_seg dksX9_misread_3 24 rfl rfl
theorem dksX9_misread_5 : cX9_misread.data.toList.drop 118 = dktX9_misread_5 := dk_seg dksX9_misread_4 23 rfl rfl
theorem dX9_misread_0 : decode cX9_misread 0 = .ok (.aload_n 0, 1) := dk_42 (dk_at dksX9_misread_0 0 rfl rfl)
theorem dX9_misread_1 : decode cX9_misread 1 = .ok (.iload_n 1, 1) := dk_27 (dk_at dksX9_misread_0 1 rfl rfl)
theorem dX9_misread_2 : decode cX9_misread 2 = .ok (.invokevirtual 170, 3) := dk_182 0 170 (dk_at dksX9_misread_0 2 rfl rfl)
theorem dX9_misread_5 : decode cX9_misread 5 = .ok (.ifCond .eq 11, 3) := dk_153 0 11 (dk_at dksX9_misread_0 5 rfl rfl)
theorem dX9_misread_8 : decode cX9_misread 8 = .ok (.aload_n 0, 1) := dk_42 (dk_at dksX9_misread_0 8 rfl rfl)
theorem dX9_misread_9 : decode cX9_misread 9 = .ok (.iload_n 2, 1) := dk_28 (dk_at dksX9_misread_0 9 rfl rfl)
theorem dX9_misread_10 : decode cX9_misread 10 = .ok (.invokevirtual 170, 3) := dk_182 0 170 (dk_at dksX9_misread_0 10 rfl rfl)
theorem dX9_misread_13 : decode cX9_misread 13 = .ok (.ifCond .ne 9, 3) := dk_154 0 9 (dk_at dksX9_misread_0 13 rfl rfl)
theorem dX9_misread_16 : decode cX9_misread 16 = .ok (.aload_n 0, 1) := dk_42 (dk_at dksX9_misread_0 16 rfl rfl)
theorem dX9_misread_17 : decode cX9_misread 17 = .ok (.iconst (-1), 1) := dk_2 (dk_at dksX9_misread_0 17 rfl rfl)
theorem dX9_misread_18 : decode cX9_misread 18 = .ok (.invokevirtual 166, 3) := dk_182 0 166 (dk_at dksX9_misread_0 18 rfl rfl)
theorem dX9_misread_21 : decode cX9_misread 21 = .ok (.ireturn, 1) := dk_172 (dk_at dksX9_misread_0 21 rfl rfl)
theorem dX9_misread_22 : decode cX9_misread 22 = .ok (.aload_n 0, 1) := dk_42 (dk_at dksX9_misread_0 22 rfl rfl)
theorem dX9_misread_23 : decode cX9_misread 23 = .ok (.getfield 13, 3) := dk_180 0 13 (dk_at dksX9_misread_1 0 rfl rfl)
theorem dX9_misread_26 : decode cX9_misread 26 = .ok (.iload_n 1, 1) := dk_27 (dk_at dksX9_misread_1 3 rfl rfl)
theorem dX9_misread_27 : decode cX9_misread 27 = .ok (.baload, 1) := dk_51 (dk_at dksX9_misread_1 4 rfl rfl)
theorem dX9_misread_28 : decode cX9_misread 28 = .ok (.ifCond .eq 12, 3) := dk_153 0 12 (dk_at dksX9_misread_1 5 rfl rfl)
theorem dX9_misread_31 : decode cX9_misread 31 = .ok (.aload_n 0, 1) := dk_42 (dk_at dksX9_misread_1 8 rfl rfl)
theorem dX9_misread_32 : decode cX9_misread 32 = .ok (.getfield 13, 3) := dk_180 0 13 (dk_at dksX9_misread_1 9 rfl rfl)
theorem dX9_misread_35 : decode cX9_misread 35 = .ok (.iload_n 2, 1) := dk_28 (dk_at dksX9_misread_1 12 rfl rfl)
theorem dX9_misread_36 : decode cX9_misread 36 = .ok (.baload, 1) := dk_51 (dk_at dksX9_misread_1 13 rfl rfl)
theorem dX9_misread_37 : decode cX9_misread 37 = .ok (.ifCond .ne 10, 3) := dk_154 0 10 (dk_at dksX9_misread_1 14 rfl rfl)
theorem dX9_misread_40 : decode cX9_misread 40 = .ok (.aload_n 0, 1) := dk_42 (dk_at dksX9_misread_1 17 rfl rfl)
theorem dX9_misread_41 : decode cX9_misread 41 = .ok (.bipush (-5), 2) := dk_16 251 (dk_at dksX9_misread_1 18 rfl rfl)
theorem dX9_misread_43 : decode cX9_misread 43 = .ok (.invokevirtual 166, 3) := dk_182 0 166 (dk_at dksX9_misread_1 20 rfl rfl)
theorem dX9_misread_46 : decode cX9_misread 46 = .ok (.ireturn, 1) := dk_172 (dk_at dksX9_misread_1 23 rfl rfl)
theorem dX9_misread_47 : decode cX9_misread 47 = .ok (.aload_n 0, 1) := dk_42 (dk_at dksX9_misread_2 0 rfl rfl)
theorem dX9_misread_48 : decode cX9_misread 48 = .ok (.iload_n 1, 1) := dk_27 (dk_at dksX9_misread_2 1 rfl rfl)
theorem dX9_misread_49 : decode cX9_misread 49 = .ok (.iconst 3, 1) := dk_6 (dk_at dksX9_misread_2 2 rfl rfl)
theorem dX9_misread_50 : decode cX9_misread 50 = .ok (.aload_n 0, 1) := dk_42 (dk_at dksX9_misread_2 3 rfl rfl)
theorem dX9_misread_51 : decode cX9_misread 51 = .ok (.getfield 84, 3) := dk_180 0 84 (dk_at dksX9_misread_2 4 rfl rfl)
theorem dX9_misread_54 : decode cX9_misread 54 = .ok (.invokevirtual 370, 3) := dk_182 1 114 (dk_at dksX9_misread_2 7 rfl rfl)
theorem dX9_misread_57 : decode cX9_misread 57 = .ok (.istore_n 3, 1) := dk_62 (dk_at dksX9_misread_2 10 rfl rfl)
theorem dX9_misread_58 : decode cX9_misread 58 = .ok (.aload_n 0, 1) := dk_42 (dk_at dksX9_misread_2 11 rfl rfl)
theorem dX9_misread_59 : decode cX9_misread 59 = .ok (.iload_n 2, 1) := dk_28 (dk_at dksX9_misread_2 12 rfl rfl)
theorem dX9_misread_60 : decode cX9_misread 60 = .ok (.iconst 3, 1) := dk_6 (dk_at dksX9_misread_2 13 rfl rfl)
theorem dX9_misread_61 : decode cX9_misread 61 = .ok (.aload_n 0, 1) := dk_42 (dk_at dksX9_misread_2 14 rfl rfl)
theorem dX9_misread_62 : decode cX9_misread 62 = .ok (.getfield 87, 3) := dk_180 0 87 (dk_at dksX9_misread_2 15 rfl rfl)
theorem dX9_misread_65 : decode cX9_misread 65 = .ok (.invokevirtual 370, 3) := dk_182 1 114 (dk_at dksX9_misread_2 18 rfl rfl)
theorem dX9_misread_68 : decode cX9_misread 68 = .ok (.istore 4, 2) := dk_54 4 (dk_at dksX9_misread_2 21 rfl rfl)
theorem dX9_misread_70 : decode cX9_misread 70 = .ok (.iload_n 3, 1) := dk_29 (dk_at dksX9_misread_2 23 rfl rfl)
theorem dX9_misread_71 : decode cX9_misread 71 = .ok (.iload 4, 2) := dk_21 4 (dk_at dksX9_misread_3 0 rfl rfl)
theorem dX9_misread_73 : decode cX9_misread 73 = .ok (.if_icmp .le 10, 3) := dk_164 0 10 (dk_at dksX9_misread_3 2 rfl rfl)
theorem dX9_misread_76 : decode cX9_misread 76 = .ok (.iload_n 3, 1) := dk_29 (dk_at dksX9_misread_3 5 rfl rfl)
theorem dX9_misread_77 : decode cX9_misread 77 = .ok (.iload 4, 2) := dk_21 4 (dk_at dksX9_misread_3 6 rfl rfl)
theorem dX9_misread_79 : decode cX9_misread 79 = .ok (.isub, 1) := dk_100 (dk_at dksX9_misread_3 8 rfl rfl)
theorem dX9_misread_80 : decode cX9_misread 80 = .ok (.goto 7, 3) := dk_167 0 7 (dk_at dksX9_misread_3 9 rfl rfl)
theorem dX9_misread_83 : decode cX9_misread 83 = .ok (.iload 4, 2) := dk_21 4 (dk_at dksX9_misread_3 12 rfl rfl)
theorem dX9_misread_85 : decode cX9_misread 85 = .ok (.iload_n 3, 1) := dk_29 (dk_at dksX9_misread_3 14 rfl rfl)
theorem dX9_misread_86 : decode cX9_misread 86 = .ok (.isub, 1) := dk_100 (dk_at dksX9_misread_3 15 rfl rfl)
theorem dX9_misread_87 : decode cX9_misread 87 = .ok (.istore 5, 2) := dk_54 5 (dk_at dksX9_misread_3 16 rfl rfl)
theorem dX9_misread_89 : decode cX9_misread 89 = .ok (.iconst 0, 1) := dk_3 (dk_at dksX9_misread_3 18 rfl rfl)
theorem dX9_misread_90 : decode cX9_misread 90 = .ok (.istore 6, 2) := dk_54 6 (dk_at dksX9_misread_3 19 rfl rfl)
theorem dX9_misread_92 : decode cX9_misread 92 = .ok (.iload 6, 2) := dk_21 6 (dk_at dksX9_misread_3 21 rfl rfl)
theorem dX9_misread_94 : decode cX9_misread 94 = .ok (.iload_n 3, 1) := dk_29 (dk_at dksX9_misread_3 23 rfl rfl)
theorem dX9_misread_95 : decode cX9_misread 95 = .ok (.if_icmp .ge 43, 3) := dk_162 0 43 (dk_at dksX9_misread_4 0 rfl rfl)
theorem dX9_misread_98 : decode cX9_misread 98 = .ok (.iload 6, 2) := dk_21 6 (dk_at dksX9_misread_4 3 rfl rfl)
theorem dX9_misread_100 : decode cX9_misread 100 = .ok (.iload 4, 2) := dk_21 4 (dk_at dksX9_misread_4 5 rfl rfl)
theorem dX9_misread_102 : decode cX9_misread 102 = .ok (.if_icmp .ge 36, 3) := dk_162 0 36 (dk_at dksX9_misread_4 7 rfl rfl)
theorem dX9_misread_105 : decode cX9_misread 105 = .ok (.iload 5, 2) := dk_21 5 (dk_at dksX9_misread_4 10 rfl rfl)
theorem dX9_misread_107 : decode cX9_misread 107 = .ok (.aload_n 0, 1) := dk_42 (dk_at dksX9_misread_4 12 rfl rfl)
theorem dX9_misread_108 : decode cX9_misread 108 = .ok (.getfield 84, 3) := dk_180 0 84 (dk_at dksX9_misread_4 13 rfl rfl)
theorem dX9_misread_111 : decode cX9_misread 111 = .ok (.iload 6, 2) := dk_21 6 (dk_at dksX9_misread_4 16 rfl rfl)
theorem dX9_misread_113 : decode cX9_misread 113 = .ok (.iaload, 1) := dk_46 (dk_at dksX9_misread_4 18 rfl rfl)
theorem dX9_misread_114 : decode cX9_misread 114 = .ok (.aload_n 0, 1) := dk_42 (dk_at dksX9_misread_4 19 rfl rfl)
theorem dX9_misread_115 : decode cX9_misread 115 = .ok (.getfield 87, 3) := dk_180 0 87 (dk_at dksX9_misread_4 20 rfl rfl)
theorem dX9_misread_118 : decode cX9_misread 118 = .ok (.iload 6, 2) := dk_21 6 (dk_at dksX9_misread_5 0 rfl rfl)
theorem dX9_misread_120 : decode cX9_misread 120 = .ok (.iaload, 1) := dk_46 (dk_at dksX9_misread_5 2 rfl rfl)
theorem dX9_misread_121 : decode cX9_misread 121 = .ok (.if_icmp .ne 7, 3) := dk_160 0 7 (dk_at dksX9_misread_5 3 rfl rfl)
theorem dX9_misread_124 : decode cX9_misread 124 = .ok (.iconst 0, 1) := dk_3 (dk_at dksX9_misread_5 6 rfl rfl)
theorem dX9_misread_125 : decode cX9_misread 125 = .ok (.goto 4, 3) := dk_167 0 4 (dk_at dksX9_misread_5 7 rfl rfl)
theorem dX9_misread_128 : decode cX9_misread 128 = .ok (.iconst 1, 1) := dk_4 (dk_at dksX9_misread_5 10 rfl rfl)
theorem dX9_misread_129 : decode cX9_misread 129 = .ok (.iadd, 1) := dk_96 (dk_at dksX9_misread_5 11 rfl rfl)
theorem dX9_misread_130 : decode cX9_misread 130 = .ok (.istore 5, 2) := dk_54 5 (dk_at dksX9_misread_5 12 rfl rfl)
theorem dX9_misread_132 : decode cX9_misread 132 = .ok (.iinc 6 1, 3) := dk_132 6 1 (dk_at dksX9_misread_5 14 rfl rfl)
theorem dX9_misread_135 : decode cX9_misread 135 = .ok (.goto (-43), 3) := dk_167 255 213 (dk_at dksX9_misread_5 17 rfl rfl)
theorem dX9_misread_138 : decode cX9_misread 138 = .ok (.iload 5, 2) := dk_21 5 (dk_at dksX9_misread_5 20 rfl rfl)
theorem dX9_misread_140 : decode cX9_misread 140 = .ok (.ireturn, 1) := dk_172 (dk_at dksX9_misread_5 22 rfl rfl)
abbrev cX9_faults : ByteArray := prog_17_method_80_code
def yX9_faults : MethodName := ⟨RX9, "faults", "(I)I"⟩
def dkwX9_faults_1 : List UInt8 := [16, 251, 182, 0, 166, 172, 42, 27, 5, 42, 180, 0, 84, 182, 1, 114, 61, 42, 180, 1, 58, 172]
abbrev dktX9_faults_1 : List UInt8 := dkwX9_faults_1 ++ []
def dkwX9_faults_0 : List UInt8 := [42, 27, 182, 0, 170, 154, 0, 9, 42, 2, 182, 0, 166, 172, 42, 180, 0, 13, 27, 51, 154, 0, 10, 42]
abbrev dktX9_faults_0 : List UInt8 := dkwX9_faults_0 ++ dktX9_faults_1
theorem dksX9_faults_0 : cX9_faults.data.toList.drop 0 = dktX9_faults_0 := by decide +kernel
theorem dksX9_faults_1 : cX9_faults.data.toList.drop 24 = dktX9_faults_1 := dk_seg dksX9_faults_0 24 rfl rfl
theorem dX9_faults_0 : decode cX9_faults 0 = .ok (.aload_n 0, 1) := dk_42 (dk_at dksX9_faults_0 0 rfl rfl)
theorem dX9_faults_1 : decode cX9_faults 1 = .ok (.iload_n 1, 1) := dk_27 (dk_at dksX9_faults_0 1 rfl rfl)
theorem dX9_faults_2 : decode cX9_faults 2 = .ok (.invokevirtual 170, 3) := dk_182 0 170 (dk_at dksX9_faults_0 2 rfl rfl)
theorem dX9_faults_5 : decode cX9_faults 5 = .ok (.ifCond .ne 9, 3) := dk_154 0 9 (dk_at dksX9_faults_0 5 rfl rfl)
theorem dX9_faults_8 : decode cX9_faults 8 = .ok (.aload_n 0, 1) := dk_42 (dk_at dksX9_faults_0 8 rfl rfl)
theorem dX9_faults_9 : decode cX9_faults 9 = .ok (.iconst (-1), 1) := dk_2 (dk_at dksX9_faults_0 9 rfl rfl)
theorem dX9_faults_10 : decode cX9_faults 10 = .ok (.invokevirtual 166, 3) := dk_182 0 166 (dk_at dksX9_faults_0 10 rfl rfl)
theorem dX9_faults_13 : decode cX9_faults 13 = .ok (.ireturn, 1) := dk_172 (dk_at dksX9_faults_0 13 rfl rfl)
theorem dX9_faults_14 : decode cX9_faults 14 = .ok (.aload_n 0, 1) := dk_42 (dk_at dksX9_faults_0 14 rfl rfl)
theorem dX9_faults_15 : decode cX9_faults 15 = .ok (.getfield 13, 3) := dk_180 0 13 (dk_at dksX9_faults_0 15 rfl rfl)
theorem dX9_faults_18 : decode cX9_faults 18 = .ok (.iload_n 1, 1) := dk_27 (dk_at dksX9_faults_0 18 rfl rfl)
theorem dX9_faults_19 : decode cX9_faults 19 = .ok (.baload, 1) := dk_51 (dk_at dksX9_faults_0 19 rfl rfl)
theorem dX9_faults_20 : decode cX9_faults 20 = .ok (.ifCond .ne 10, 3) := dk_154 0 10 (dk_at dksX9_faults_0 20 rfl rfl)
theorem dX9_faults_23 : decode cX9_faults 23 = .ok (.aload_n 0, 1) := dk_42 (dk_at dksX9_faults_0 23 rfl rfl)
theorem dX9_faults_24 : decode cX9_faults 24 = .ok (.bipush (-5), 2) := dk_16 251 (dk_at dksX9_faults_1 0 rfl rfl)
theorem dX9_faults_26 : decode cX9_faults 26 = .ok (.invokevirtual 166, 3) := dk_182 0 166 (dk_at dksX9_faults_1 2 rfl rfl)
theorem dX9_faults_29 : decode cX9_faults 29 = .ok (.ireturn, 1) := dk_172 (dk_at dksX9_faults_1 5 rfl rfl)
theorem dX9_faults_30 : decode cX9_faults 30 = .ok (.aload_n 0, 1) := dk_42 (dk_at dksX9_faults_1 6 rfl rfl)
theorem dX9_faults_31 : decode cX9_faults 31 = .ok (.iload_n 1, 1) := dk_27 (dk_at dksX9_faults_1 7 rfl rfl)
theorem dX9_faults_32 : decode cX9_faults 32 = .ok (.iconst 2, 1) := dk_5 (dk_at dksX9_faults_1 8 rfl rfl)
theorem dX9_faults_33 : decode cX9_faults 33 = .ok (.aload_n 0, 1) := dk_42 (dk_at dksX9_faults_1 9 rfl rfl)
theorem dX9_faults_34 : decode cX9_faults 34 = .ok (.getfield 84, 3) := dk_180 0 84 (dk_at dksX9_faults_1 10 rfl rfl)
theorem dX9_faults_37 : decode cX9_faults 37 = .ok (.invokevirtual 370, 3) := dk_182 1 114 (dk_at dksX9_faults_1 13 rfl rfl)
theorem dX9_faults_40 : decode cX9_faults 40 = .ok (.istore_n 2, 1) := dk_61 (dk_at dksX9_faults_1 16 rfl rfl)
theorem dX9_faults_41 : decode cX9_faults 41 = .ok (.aload_n 0, 1) := dk_42 (dk_at dksX9_faults_1 17 rfl rfl)
theorem dX9_faults_42 : decode cX9_faults 42 = .ok (.getfield 314, 3) := dk_180 1 58 (dk_at dksX9_faults_1 18 rfl rfl)
theorem dX9_faults_45 : decode cX9_faults 45 = .ok (.ireturn, 1) := dk_172 (dk_at dksX9_faults_1 21 rfl rfl)
abbrev cX9_detect : ByteArray := prog_17_method_81_code
def yX9_detect : MethodName := ⟨RX9, "detect", "()I"⟩
def dkwX9_detect_3 : List UInt8 := [16, 254, 182, 0, 166, 167, 0, 4, 27, 172]
abbrev dktX9_detect_3 : List UInt8 := dkwX9_detect_3 ++ []
def dkwX9_detect_2 : List UInt8 := [161, 0, 6, 167, 0, 10, 29, 60, 42, 180, 1, 58, 61, 132, 3, 1, 167, 255, 199, 27, 156, 0, 12, 42]
abbrev dktX9_detect_2 : List UInt8 := dkwX9_detect_2 ++ dktX9_detect_3
def dkwX9_detect_1 : List UInt8 := [167, 0, 37, 42, 29, 5, 42, 180, 0, 84, 182, 1, 114, 54, 4, 27, 155, 0, 14, 42, 180, 1, 58, 28]
abbrev dktX9_detect_1 : List UInt8 := dkwX9_detect_1 ++ dktX9_detect_2
def dkwX9_detect_0 : List UInt8 := [2, 60, 3, 61, 3, 62, 29, 42, 180, 0, 163, 162, 0, 55, 42, 180, 0, 13, 29, 51, 154, 0, 6]
abbrev dktX9_detect_0 : List UInt8 := dkwX9_detect_0 ++ dktX9_detect_1
theorem dksX9_detect_0 : cX9_detect.data.toList.drop 0 = dktX9_detect_0 := by decide +kernel
theorem dksX9_detect_1 : cX9_detect.data.toList.drop 23 = dktX9_detect_1 := dk_seg dksX9_detect_0 23 rfl rfl
theorem dksX9_detect_2 : cX9_detect.data.toList.drop 47 = dktX9_detect_2 := dk_seg dksX9_detect_1 24 rfl rfl
theorem dksX9_detect_3 : cX9_detect.data.toList.drop 71 = dktX9_detect_3 := dk_seg dksX9_detect_2 24 rfl rfl
theorem dX9_detect_0 : decode cX9_detect 0 = .ok (.iconst (-1), 1) := dk_2 (dk_at dksX9_detect_0 0 rfl rfl)
theorem dX9_detect_1 : decode cX9_detect 1 = .ok (.istore_n 1, 1) := dk_60 (dk_at dksX9_detect_0 1 rfl rfl)
theorem dX9_detect_2 : decode cX9_detect 2 = .ok (.iconst 0, 1) := dk_3 (dk_at dksX9_detect_0 2 rfl rfl)
theorem dX9_detect_3 : decode cX9_detect 3 = .ok (.istore_n 2, 1) := dk_61 (dk_at dksX9_detect_0 3 rfl rfl)
theorem dX9_detect_4 : decode cX9_detect 4 = .ok (.iconst 0, 1) := dk_3 (dk_at dksX9_detect_0 4 rfl rfl)
theorem dX9_detect_5 : decode cX9_detect 5 = .ok (.istore_n 3, 1) := dk_62 (dk_at dksX9_detect_0 5 rfl rfl)
theorem dX9_detect_6 : decode cX9_detect 6 = .ok (.iload_n 3, 1) := dk_29 (dk_at dksX9_detect_0 6 rfl rfl)
theorem dX9_detect_7 : decode cX9_detect 7 = .ok (.aload_n 0, 1) := dk_42 (dk_at dksX9_detect_0 7 rfl rfl)
theorem dX9_detect_8 : decode cX9_detect 8 = .ok (.getfield 163, 3) := dk_180 0 163 (dk_at dksX9_detect_0 8 rfl rfl)
theorem dX9_detect_11 : decode cX9_detect 11 = .ok (.if_icmp .ge 55, 3) := dk_162 0 55 (dk_at dksX9_detect_0 11 rfl rfl)
theorem dX9_detect_14 : decode cX9_detect 14 = .ok (.aload_n 0, 1) := dk_42 (dk_at dksX9_detect_0 14 rfl rfl)
theorem dX9_detect_15 : decode cX9_detect 15 = .ok (.getfield 13, 3) := dk_180 0 13 (dk_at dksX9_detect_0 15 rfl rfl)
theorem dX9_detect_18 : decode cX9_detect 18 = .ok (.iload_n 3, 1) := dk_29 (dk_at dksX9_detect_0 18 rfl rfl)
theorem dX9_detect_19 : decode cX9_detect 19 = .ok (.baload, 1) := dk_51 (dk_at dksX9_detect_0 19 rfl rfl)
theorem dX9_detect_20 : decode cX9_detect 20 = .ok (.ifCond .ne 6, 3) := dk_154 0 6 (dk_at dksX9_detect_0 20 rfl rfl)
theorem dX9_detect_23 : decode cX9_detect 23 = .ok (.goto 37, 3) := dk_167 0 37 (dk_at dksX9_detect_1 0 rfl rfl)
theorem dX9_detect_26 : decode cX9_detect 26 = .ok (.aload_n 0, 1) := dk_42 (dk_at dksX9_detect_1 3 rfl rfl)
theorem dX9_detect_27 : decode cX9_detect 27 = .ok (.iload_n 3, 1) := dk_29 (dk_at dksX9_detect_1 4 rfl rfl)
theorem dX9_detect_28 : decode cX9_detect 28 = .ok (.iconst 2, 1) := dk_5 (dk_at dksX9_detect_1 5 rfl rfl)
theorem dX9_detect_29 : decode cX9_detect 29 = .ok (.aload_n 0, 1) := dk_42 (dk_at dksX9_detect_1 6 rfl rfl)
theorem dX9_detect_30 : decode cX9_detect 30 = .ok (.getfield 84, 3) := dk_180 0 84 (dk_at dksX9_detect_1 7 rfl rfl)
theorem dX9_detect_33 : decode cX9_detect 33 = .ok (.invokevirtual 370, 3) := dk_182 1 114 (dk_at dksX9_detect_1 10 rfl rfl)
theorem dX9_detect_36 : decode cX9_detect 36 = .ok (.istore 4, 2) := dk_54 4 (dk_at dksX9_detect_1 13 rfl rfl)
theorem dX9_detect_38 : decode cX9_detect 38 = .ok (.iload_n 1, 1) := dk_27 (dk_at dksX9_detect_1 15 rfl rfl)
theorem dX9_detect_39 : decode cX9_detect 39 = .ok (.ifCond .lt 14, 3) := dk_155 0 14 (dk_at dksX9_detect_1 16 rfl rfl)
theorem dX9_detect_42 : decode cX9_detect 42 = .ok (.aload_n 0, 1) := dk_42 (dk_at dksX9_detect_1 19 rfl rfl)
theorem dX9_detect_43 : decode cX9_detect 43 = .ok (.getfield 314, 3) := dk_180 1 58 (dk_at dksX9_detect_1 20 rfl rfl)
theorem dX9_detect_46 : decode cX9_detect 46 = .ok (.iload_n 2, 1) := dk_28 (dk_at dksX9_detect_1 23 rfl rfl)
theorem dX9_detect_47 : decode cX9_detect 47 = .ok (.if_icmp .lt 6, 3) := dk_161 0 6 (dk_at dksX9_detect_2 0 rfl rfl)
theorem dX9_detect_50 : decode cX9_detect 50 = .ok (.goto 10, 3) := dk_167 0 10 (dk_at dksX9_detect_2 3 rfl rfl)
theorem dX9_detect_53 : decode cX9_detect 53 = .ok (.iload_n 3, 1) := dk_29 (dk_at dksX9_detect_2 6 rfl rfl)
theorem dX9_detect_54 : decode cX9_detect 54 = .ok (.istore_n 1, 1) := dk_60 (dk_at dksX9_detect_2 7 rfl rfl)
theorem dX9_detect_55 : decode cX9_detect 55 = .ok (.aload_n 0, 1) := dk_42 (dk_at dksX9_detect_2 8 rfl rfl)
theorem dX9_detect_56 : decode cX9_detect 56 = .ok (.getfield 314, 3) := dk_180 1 58 (dk_at dksX9_detect_2 9 rfl rfl)
theorem dX9_detect_59 : decode cX9_detect 59 = .ok (.istore_n 2, 1) := dk_61 (dk_at dksX9_detect_2 12 rfl rfl)
theorem dX9_detect_60 : decode cX9_detect 60 = .ok (.iinc 3 1, 3) := dk_132 3 1 (dk_at dksX9_detect_2 13 rfl rfl)
theorem dX9_detect_63 : decode cX9_detect 63 = .ok (.goto (-57), 3) := dk_167 255 199 (dk_at dksX9_detect_2 16 rfl rfl)
theorem dX9_detect_66 : decode cX9_detect 66 = .ok (.iload_n 1, 1) := dk_27 (dk_at dksX9_detect_2 19 rfl rfl)
theorem dX9_detect_67 : decode cX9_detect 67 = .ok (.ifCond .ge 12, 3) := dk_156 0 12 (dk_at dksX9_detect_2 20 rfl rfl)
theorem dX9_detect_70 : decode cX9_detect 70 = .ok (.aload_n 0, 1) := dk_42 (dk_at dksX9_detect_2 23 rfl rfl)
theorem dX9_detect_71 : decode cX9_detect 71 = .ok (.bipush (-2), 2) := dk_16 254 (dk_at dksX9_detect_3 0 rfl rfl)
theorem dX9_detect_73 : decode cX9_detect 73 = .ok (.invokevirtual 166, 3) := dk_182 0 166 (dk_at dksX9_detect_3 2 rfl rfl)
theorem dX9_detect_76 : decode cX9_detect 76 = .ok (.goto 4, 3) := dk_167 0 4 (dk_at dksX9_detect_3 5 rfl rfl)
theorem dX9_detect_79 : decode cX9_detect 79 = .ok (.iload_n 1, 1) := dk_27 (dk_at dksX9_detect_3 8 rfl rfl)
theorem dX9_detect_80 : decode cX9_detect 80 = .ok (.ireturn, 1) := dk_172 (dk_at dksX9_detect_3 9 rfl rfl)
abbrev cX9_lengths : ByteArray := prog_17_method_82_code
def yX9_lengths : MethodName := ⟨RX9, "lengths", "(II)I"⟩
def dkwX9_lengths_7 : List UInt8 := [167, 255, 142, 29, 172]
abbrev dktX9_lengths_7 : List UInt8 := dkwX9_lengths_7 ++ []
def dkwX9_lengths_6 : List UInt8 := [162, 0, 17, 167, 0, 9, 21, 5, 29, 164, 0, 8, 21, 5, 167, 0, 4, 29, 62, 132, 4, 1]
abbrev dktX9_lengths_6 : List UInt8 := dkwX9_lengths_6 ++ dktX9_lengths_7
def dkwX9_lengths_5 : List UInt8 := [21, 5, 156, 0, 10, 42, 21, 5, 182, 0, 166, 172, 29, 155, 0, 22, 28, 154, 0, 12, 21, 5, 29]
abbrev dktX9_lengths_5 : List UInt8 := dkwX9_lengths_5 ++ dktX9_lengths_6
def dkwX9_lengths_4 : List UInt8 := [42, 180, 0, 53, 42, 180, 1, 2, 21, 4, 19, 1, 149, 182, 1, 121, 54, 5, 42, 3, 181, 1, 75]
abbrev dktX9_lengths_4 : List UInt8 := dkwX9_lengths_4 ++ dktX9_lengths_5
def dkwX9_lengths_3 : List UInt8 := [180, 0, 9, 27, 46, 153, 0, 11, 21, 4, 158, 0, 6, 167, 0, 76, 42, 4, 181, 1, 75, 42, 27, 3]
abbrev dktX9_lengths_3 : List UInt8 := dkwX9_lengths_3 ++ dktX9_lengths_4
def dkwX9_lengths_2 : List UInt8 := [54, 4, 21, 4, 7, 162, 0, 114, 42, 27, 182, 0, 217, 42, 180, 0, 75, 21, 4, 51, 153, 0, 93, 42]
abbrev dktX9_lengths_2 : List UInt8 := dkwX9_lengths_2 ++ dktX9_lengths_3
def dkwX9_lengths_1 : List UInt8 := [16, 251, 182, 0, 166, 172, 28, 3, 4, 184, 0, 156, 154, 0, 9, 42, 2, 182, 0, 166, 172, 2, 62, 3]
abbrev dktX9_lengths_1 : List UInt8 := dkwX9_lengths_1 ++ dktX9_lengths_2
def dkwX9_lengths_0 : List UInt8 := [42, 27, 182, 0, 170, 154, 0, 9, 42, 2, 182, 0, 166, 172, 42, 180, 0, 13, 27, 51, 154, 0, 10, 42]
abbrev dktX9_lengths_0 : List UInt8 := dkwX9_lengths_0 ++ dktX9_lengths_1
theorem dksX9_lengths_0 : cX9_lengths.data.toList.drop 0 = dktX9_lengths_0 := by decide +kernel
theorem dksX9_lengths_1 : cX9_lengths.data.toList.drop 24 = dktX9_lengths_1 := dk_seg dksX9_lengths_0 24 rfl rfl
theorem dksX9_lengths_2 : cX9_lengths.data.toList.drop 48 = dktX9_lengths_2 := dk_seg dksX9_lengths_1 24 rfl rfl
theorem dksX9_lengths_3 : cX9_lengths.data.toList.drop 72 = dktX9_lengths_3 := dk_seg dksX9_lengths_2 24 rfl rfl
theorem dksX9_lengths_4 : cX9_lengths.data.toList.drop 96 = dktX9_lengths_4 := dk_seg dksX9_lengths_3 24 rfl rfl
theorem dksX9_lengths_5 : cX9_lengths.data.toList.drop 119 = dktX9_lengths_5 := dk_seg dksX9_lengths_4 23 rfl rfl
theorem dksX9_lengths_6 : cX9_lengths.data.toList.drop 142 = dktX9_lengths_6 := dk_seg dksX9_lengths_5 23 rfl rfl
theorem dksX9_lengths_7 : cX9_lengths.data.toList.drop 164 = dktX9_lengths_7 := dk_seg dksX9_lengths_6 22 rfl rfl
theorem dX9_lengths_0 : decode cX9_lengths 0 = .ok (.aload_n 0, 1) := dk_42 (dk_at dksX9_lengths_0 0 rfl rfl)
theorem dX9_lengths_1 : decode cX9_lengths 1 = .ok (.iload_n 1, 1) := dk_27 (dk_at dksX9_lengths_0 1 rfl rfl)
theorem dX9_lengths_2 : decode cX9_lengths 2 = .ok (.invokevirtual 170, 3) := dk_182 0 170 (dk_at dksX9_lengths_0 2 rfl rfl)
theorem dX9_lengths_5 : decode cX9_lengths 5 = .ok (.ifCond .ne 9, 3) := dk_154 0 9 (dk_at dksX9_lengths_0 5 rfl rfl)
theorem dX9_lengths_8 : decode cX9_lengths 8 = .ok (.aload_n 0, 1) := dk_42 (dk_at dksX9_lengths_0 8 rfl rfl)
theorem dX9_lengths_9 : decode cX9_lengths 9 = .ok (.iconst (-1), 1) := dk_2 (dk_at dksX9_lengths_0 9 rfl rfl)
theorem dX9_lengths_10 : decode cX9_lengths 10 = .ok (.invokevirtual 166, 3) := dk_182 0 166 (dk_at dksX9_lengths_0 10 rfl rfl)
theorem dX9_lengths_13 : decode cX9_lengths 13 = .ok (.ireturn, 1) := dk_172 (dk_at dksX9_lengths_0 13 rfl rfl)
theorem dX9_lengths_14 : decode cX9_lengths 14 = .ok (.aload_n 0, 1) := dk_42 (dk_at dksX9_lengths_0 14 rfl rfl)
theorem dX9_lengths_15 : decode cX9_lengths 15 = .ok (.getfield 13, 3) := dk_180 0 13 (dk_at dksX9_lengths_0 15 rfl rfl)
theorem dX9_lengths_18 : decode cX9_lengths 18 = .ok (.iload_n 1, 1) := dk_27 (dk_at dksX9_lengths_0 18 rfl rfl)
theorem dX9_lengths_19 : decode cX9_lengths 19 = .ok (.baload, 1) := dk_51 (dk_at dksX9_lengths_0 19 rfl rfl)
theorem dX9_lengths_20 : decode cX9_lengths 20 = .ok (.ifCond .ne 10, 3) := dk_154 0 10 (dk_at dksX9_lengths_0 20 rfl rfl)
theorem dX9_lengths_23 : decode cX9_lengths 23 = .ok (.aload_n 0, 1) := dk_42 (dk_at dksX9_lengths_0 23 rfl rfl)
theorem dX9_lengths_24 : decode cX9_lengths 24 = .ok (.bipush (-5), 2) := dk_16 251 (dk_at dksX9_lengths_1 0 rfl rfl)
theorem dX9_lengths_26 : decode cX9_lengths 26 = .ok (.invokevirtual 166, 3) := dk_182 0 166 (dk_at dksX9_lengths_1 2 rfl rfl)
theorem dX9_lengths_29 : decode cX9_lengths 29 = .ok (.ireturn, 1) := dk_172 (dk_at dksX9_lengths_1 5 rfl rfl)
theorem dX9_lengths_30 : decode cX9_lengths 30 = .ok (.iload_n 2, 1) := dk_28 (dk_at dksX9_lengths_1 6 rfl rfl)
theorem dX9_lengths_31 : decode cX9_lengths 31 = .ok (.iconst 0, 1) := dk_3 (dk_at dksX9_lengths_1 7 rfl rfl)
theorem dX9_lengths_32 : decode cX9_lengths 32 = .ok (.iconst 1, 1) := dk_4 (dk_at dksX9_lengths_1 8 rfl rfl)
theorem dX9_lengths_33 : decode cX9_lengths 33 = .ok (.invokestatic 156, 3) := dk_184 0 156 (dk_at dksX9_lengths_1 9 rfl rfl)
theorem dX9_lengths_36 : decode cX9_lengths 36 = .ok (.ifCond .ne 9, 3) := dk_154 0 9 (dk_at dksX9_lengths_1 12 rfl rfl)
theorem dX9_lengths_39 : decode cX9_lengths 39 = .ok (.aload_n 0, 1) := dk_42 (dk_at dksX9_lengths_1 15 rfl rfl)
theorem dX9_lengths_40 : decode cX9_lengths 40 = .ok (.iconst (-1), 1) := dk_2 (dk_at dksX9_lengths_1 16 rfl rfl)
theorem dX9_lengths_41 : decode cX9_lengths 41 = .ok (.invokevirtual 166, 3) := dk_182 0 166 (dk_at dksX9_lengths_1 17 rfl rfl)
theorem dX9_lengths_44 : decode cX9_lengths 44 = .ok (.ireturn, 1) := dk_172 (dk_at dksX9_lengths_1 20 rfl rfl)
theorem dX9_lengths_45 : decode cX9_lengths 45 = .ok (.iconst (-1), 1) := dk_2 (dk_at dksX9_lengths_1 21 rfl rfl)
theorem dX9_lengths_46 : decode cX9_lengths 46 = .ok (.istore_n 3, 1) := dk_62 (dk_at dksX9_lengths_1 22 rfl rfl)
theorem dX9_lengths_47 : decode cX9_lengths 47 = .ok (.iconst 0, 1) := dk_3 (dk_at dksX9_lengths_1 23 rfl rfl)
theorem dX9_lengths_48 : decode cX9_lengths 48 = .ok (.istore 4, 2) := dk_54 4 (dk_at dksX9_lengths_2 0 rfl rfl)
theorem dX9_lengths_50 : decode cX9_lengths 50 = .ok (.iload 4, 2) := dk_21 4 (dk_at dksX9_lengths_2 2 rfl rfl)
theorem dX9_lengths_52 : decode cX9_lengths 52 = .ok (.iconst 4, 1) := dk_7 (dk_at dksX9_lengths_2 4 rfl rfl)
theorem dX9_lengths_53 : decode cX9_lengths 53 = .ok (.if_icmp .ge 114, 3) := dk_162 0 114 (dk_at dksX9_lengths_2 5 rfl rfl)
theorem dX9_lengths_56 : decode cX9_lengths 56 = .ok (.aload_n 0, 1) := dk_42 (dk_at dksX9_lengths_2 8 rfl rfl)
theorem dX9_lengths_57 : decode cX9_lengths 57 = .ok (.iload_n 1, 1) := dk_27 (dk_at dksX9_lengths_2 9 rfl rfl)
theorem dX9_lengths_58 : decode cX9_lengths 58 = .ok (.invokevirtual 217, 3) := dk_182 0 217 (dk_at dksX9_lengths_2 10 rfl rfl)
theorem dX9_lengths_61 : decode cX9_lengths 61 = .ok (.aload_n 0, 1) := dk_42 (dk_at dksX9_lengths_2 13 rfl rfl)
theorem dX9_lengths_62 : decode cX9_lengths 62 = .ok (.getfield 75, 3) := dk_180 0 75 (dk_at dksX9_lengths_2 14 rfl rfl)
theorem dX9_lengths_65 : decode cX9_lengths 65 = .ok (.iload 4, 2) := dk_21 4 (dk_at dksX9_lengths_2 17 rfl rfl)
theorem dX9_lengths_67 : decode cX9_lengths 67 = .ok (.baload, 1) := dk_51 (dk_at dksX9_lengths_2 19 rfl rfl)
theorem dX9_lengths_68 : decode cX9_lengths 68 = .ok (.ifCond .eq 93, 3) := dk_153 0 93 (dk_at dksX9_lengths_2 20 rfl rfl)
theorem dX9_lengths_71 : decode cX9_lengths 71 = .ok (.aload_n 0, 1) := dk_42 (dk_at dksX9_lengths_2 23 rfl rfl)
theorem dX9_lengths_72 : decode cX9_lengths 72 = .ok (.getfield 9, 3) := dk_180 0 9 (dk_at dksX9_lengths_3 0 rfl rfl)
theorem dX9_lengths_75 : decode cX9_lengths 75 = .ok (.iload_n 1, 1) := dk_27 (dk_at dksX9_lengths_3 3 rfl rfl)
theorem dX9_lengths_76 : decode cX9_lengths 76 = .ok (.iaload, 1) := dk_46 (dk_at dksX9_lengths_3 4 rfl rfl)
theorem dX9_lengths_77 : decode cX9_lengths 77 = .ok (.ifCond .eq 11, 3) := dk_153 0 11 (dk_at dksX9_lengths_3 5 rfl rfl)
theorem dX9_lengths_80 : decode cX9_lengths 80 = .ok (.iload 4, 2) := dk_21 4 (dk_at dksX9_lengths_3 8 rfl rfl)
theorem dX9_lengths_82 : decode cX9_lengths 82 = .ok (.ifCond .le 6, 3) := dk_158 0 6 (dk_at dksX9_lengths_3 10 rfl rfl)
theorem dX9_lengths_85 : decode cX9_lengths 85 = .ok (.goto 76, 3) := dk_167 0 76 (dk_at dksX9_lengths_3 13 rfl rfl)
theorem dX9_lengths_88 : decode cX9_lengths 88 = .ok (.aload_n 0, 1) := dk_42 (dk_at dksX9_lengths_3 16 rfl rfl)
theorem dX9_lengths_89 : decode cX9_lengths 89 = .ok (.iconst 1, 1) := dk_4 (dk_at dksX9_lengths_3 17 rfl rfl)
theorem dX9_lengths_90 : decode cX9_lengths 90 = .ok (.putfield 331, 3) := dk_181 1 75 (dk_at dksX9_lengths_3 18 rfl rfl)
theorem dX9_lengths_93 : decode cX9_lengths 93 = .ok (.aload_n 0, 1) := dk_42 (dk_at dksX9_lengths_3 21 rfl rfl)
theorem dX9_lengths_94 : decode cX9_lengths 94 = .ok (.iload_n 1, 1) := dk_27 (dk_at dksX9_lengths_3 22 rfl rfl)
theorem dX9_lengths_95 : decode cX9_lengths 95 = .ok (.iconst 0, 1) := dk_3 (dk_at dksX9_lengths_3 23 rfl rfl)
theorem dX9_lengths_96 : decode cX9_lengths 96 = .ok (.aload_n 0, 1) := dk_42 (dk_at dksX9_lengths_4 0 rfl rfl)
theorem dX9_lengths_97 : decode cX9_lengths 97 = .ok (.getfield 53, 3) := dk_180 0 53 (dk_at dksX9_lengths_4 1 rfl rfl)
theorem dX9_lengths_100 : decode cX9_lengths 100 = .ok (.aload_n 0, 1) := dk_42 (dk_at dksX9_lengths_4 4 rfl rfl)
theorem dX9_lengths_101 : decode cX9_lengths 101 = .ok (.getfield 258, 3) := dk_180 1 2 (dk_at dksX9_lengths_4 5 rfl rfl)
theorem dX9_lengths_104 : decode cX9_lengths 104 = .ok (.iload 4, 2) := dk_21 4 (dk_at dksX9_lengths_4 8 rfl rfl)
theorem dX9_lengths_106 : decode cX9_lengths 106 = .ok (.ldc_w 405, 3) := dk_19 1 149 (dk_at dksX9_lengths_4 10 rfl rfl)
theorem dX9_lengths_109 : decode cX9_lengths 109 = .ok (.invokevirtual 377, 3) := dk_182 1 121 (dk_at dksX9_lengths_4 13 rfl rfl)
theorem dX9_lengths_112 : decode cX9_lengths 112 = .ok (.istore 5, 2) := dk_54 5 (dk_at dksX9_lengths_4 16 rfl rfl)
theorem dX9_lengths_114 : decode cX9_lengths 114 = .ok (.aload_n 0, 1) := dk_42 (dk_at dksX9_lengths_4 18 rfl rfl)
theorem dX9_lengths_115 : decode cX9_lengths 115 = .ok (.iconst 0, 1) := dk_3 (dk_at dksX9_lengths_4 19 rfl rfl)
theorem dX9_lengths_116 : decode cX9_lengths 116 = .ok (.putfield 331, 3) := dk_181 1 75 (dk_at dksX9_lengths_4 20 rfl rfl)
theorem dX9_lengths_119 : decode cX9_lengths 119 = .ok (.iload 5, 2) := dk_21 5 (dk_at dksX9_lengths_5 0 rfl rfl)
theorem dX9_lengths_121 : decode cX9_lengths 121 = .ok (.ifCond .ge 10, 3) := dk_156 0 10 (dk_at dksX9_lengths_5 2 rfl rfl)
theorem dX9_lengths_124 : decode cX9_lengths 124 = .ok (.aload_n 0, 1) := dk_42 (dk_at dksX9_lengths_5 5 rfl rfl)
theorem dX9_lengths_125 : decode cX9_lengths 125 = .ok (.iload 5, 2) := dk_21 5 (dk_at dksX9_lengths_5 6 rfl rfl)
theorem dX9_lengths_127 : decode cX9_lengths 127 = .ok (.invokevirtual 166, 3) := dk_182 0 166 (dk_at dksX9_lengths_5 8 rfl rfl)
theorem dX9_lengths_130 : decode cX9_lengths 130 = .ok (.ireturn, 1) := dk_172 (dk_at dksX9_lengths_5 11 rfl rfl)
theorem dX9_lengths_131 : decode cX9_lengths 131 = .ok (.iload_n 3, 1) := dk_29 (dk_at dksX9_lengths_5 12 rfl rfl)
theorem dX9_lengths_132 : decode cX9_lengths 132 = .ok (.ifCond .lt 22, 3) := dk_155 0 22 (dk_at dksX9_lengths_5 13 rfl rfl)
theorem dX9_lengths_135 : decode cX9_lengths 135 = .ok (.iload_n 2, 1) := dk_28 (dk_at dksX9_lengths_5 16 rfl rfl)
theorem dX9_lengths_136 : decode cX9_lengths 136 = .ok (.ifCond .ne 12, 3) := dk_154 0 12 (dk_at dksX9_lengths_5 17 rfl rfl)
theorem dX9_lengths_139 : decode cX9_lengths 139 = .ok (.iload 5, 2) := dk_21 5 (dk_at dksX9_lengths_5 20 rfl rfl)
theorem dX9_lengths_141 : decode cX9_lengths 141 = .ok (.iload_n 3, 1) := dk_29 (dk_at dksX9_lengths_5 22 rfl rfl)
theorem dX9_lengths_142 : decode cX9_lengths 142 = .ok (.if_icmp .ge 17, 3) := dk_162 0 17 (dk_at dksX9_lengths_6 0 rfl rfl)
theorem dX9_lengths_145 : decode cX9_lengths 145 = .ok (.goto 9, 3) := dk_167 0 9 (dk_at dksX9_lengths_6 3 rfl rfl)
theorem dX9_lengths_148 : decode cX9_lengths 148 = .ok (.iload 5, 2) := dk_21 5 (dk_at dksX9_lengths_6 6 rfl rfl)
theorem dX9_lengths_150 : decode cX9_lengths 150 = .ok (.iload_n 3, 1) := dk_29 (dk_at dksX9_lengths_6 8 rfl rfl)
theorem dX9_lengths_151 : decode cX9_lengths 151 = .ok (.if_icmp .le 8, 3) := dk_164 0 8 (dk_at dksX9_lengths_6 9 rfl rfl)
theorem dX9_lengths_154 : decode cX9_lengths 154 = .ok (.iload 5, 2) := dk_21 5 (dk_at dksX9_lengths_6 12 rfl rfl)
theorem dX9_lengths_156 : decode cX9_lengths 156 = .ok (.goto 4, 3) := dk_167 0 4 (dk_at dksX9_lengths_6 14 rfl rfl)
theorem dX9_lengths_159 : decode cX9_lengths 159 = .ok (.iload_n 3, 1) := dk_29 (dk_at dksX9_lengths_6 17 rfl rfl)
theorem dX9_lengths_160 : decode cX9_lengths 160 = .ok (.istore_n 3, 1) := dk_62 (dk_at dksX9_lengths_6 18 rfl rfl)
theorem dX9_lengths_161 : decode cX9_lengths 161 = .ok (.iinc 4 1, 3) := dk_132 4 1 (dk_at dksX9_lengths_6 19 rfl rfl)
theorem dX9_lengths_164 : decode cX9_lengths 164 = .ok (.goto (-114), 3) := dk_167 255 142 (dk_at dksX9_lengths_7 0 rfl rfl)
theorem dX9_lengths_167 : decode cX9_lengths 167 = .ok (.iload_n 3, 1) := dk_29 (dk_at dksX9_lengths_7 3 rfl rfl)
theorem dX9_lengths_168 : decode cX9_lengths 168 = .ok (.ireturn, 1) := dk_172 (dk_at dksX9_lengths_7 4 rfl rfl)
abbrev cX9_send : ByteArray := prog_17_method_84_code
def yX9_send : MethodName := ⟨RX9, "send", "(I)I"⟩
def dkwX9_send_14 : List UInt8 := [182, 1, 118, 172]
abbrev dktX9_send_14 : List UInt8 := dkwX9_send_14 ++ []
def dkwX9_send_13 : List UInt8 := [182, 1, 19, 42, 28, 17, 0, 255, 126, 182, 1, 19, 42, 42, 180, 0, 90, 42, 180, 1, 16, 5]
abbrev dktX9_send_13 : List UInt8 := dkwX9_send_13 ++ dktX9_send_14
def dkwX9_send_12 : List UInt8 := [132, 2, 1, 167, 255, 190, 42, 42, 180, 0, 90, 42, 180, 1, 16, 182, 1, 152, 61, 42, 28, 16, 8, 122]
abbrev dktX9_send_12 : List UInt8 := dkwX9_send_12 ++ dktX9_send_13
def dkwX9_send_11 : List UInt8 := [46, 182, 1, 19, 42, 42, 180, 0, 47, 28, 51, 153, 0, 7, 4, 167, 0, 4, 3, 182, 1, 19]
abbrev dktX9_send_11 : List UInt8 := dkwX9_send_11 ++ dktX9_send_12
def dkwX9_send_10 : List UInt8 := [180, 0, 38, 28, 46, 182, 1, 19, 42, 42, 180, 0, 41, 28, 46, 182, 1, 19, 42, 42, 180, 0, 44, 28]
abbrev dktX9_send_10 : List UInt8 := dkwX9_send_10 ++ dktX9_send_11
def dkwX9_send_9 : List UInt8 := [16, 10, 27, 104, 61, 28, 16, 10, 27, 104, 42, 180, 0, 20, 27, 46, 96, 162, 0, 57, 42, 42]
abbrev dktX9_send_9 : List UInt8 := dkwX9_send_9 ++ dktX9_send_10
def dkwX9_send_8 : List UInt8 := [167, 0, 4, 3, 182, 1, 19, 132, 2, 1, 167, 255, 131, 42, 42, 180, 0, 20, 27, 46, 182, 1, 19]
abbrev dktX9_send_8 : List UInt8 := dkwX9_send_8 ++ dktX9_send_9
def dkwX9_send_7 : List UInt8 := [17, 0, 255, 126, 182, 1, 19, 132, 3, 255, 167, 255, 230, 42, 42, 180, 0, 35, 28, 51, 153, 0, 7, 4]
abbrev dktX9_send_7 : List UInt8 := dkwX9_send_7 ++ dktX9_send_8
def dkwX9_send_6 : List UInt8 := [132, 3, 255, 167, 255, 230, 5, 62, 29, 155, 0, 28, 42, 42, 180, 0, 32, 28, 46, 16, 8, 29, 104, 122]
abbrev dktX9_send_6 : List UInt8 := dkwX9_send_6 ++ dktX9_send_7
def dkwX9_send_5 : List UInt8 := [155, 0, 28, 42, 42, 180, 0, 29, 28, 46, 16, 8, 29, 104, 122, 17, 0, 255, 126, 182, 1, 19]
abbrev dktX9_send_5 : List UInt8 := dkwX9_send_5 ++ dktX9_send_6
def dkwX9_send_4 : List UInt8 := [182, 1, 19, 42, 42, 180, 0, 26, 28, 46, 182, 1, 19, 42, 180, 0, 26, 28, 46, 4, 100, 62, 29]
abbrev dktX9_send_4 : List UInt8 := dkwX9_send_4 ++ dktX9_send_5
def dkwX9_send_3 : List UInt8 := [104, 61, 28, 16, 100, 27, 104, 42, 180, 0, 17, 27, 46, 96, 162, 0, 116, 42, 42, 180, 0, 23, 28, 46]
abbrev dktX9_send_3 : List UInt8 := dkwX9_send_3 ++ dktX9_send_4
def dkwX9_send_2 : List UInt8 := [180, 0, 90, 181, 1, 13, 42, 3, 181, 1, 16, 42, 42, 180, 0, 17, 27, 46, 182, 1, 19, 16, 100, 27]
abbrev dktX9_send_2 : List UInt8 := dkwX9_send_2 ++ dktX9_send_3
def dkwX9_send_1 : List UInt8 := [16, 253, 182, 0, 166, 172, 42, 180, 0, 13, 27, 51, 154, 0, 10, 42, 16, 251, 182, 0, 166, 172, 42, 42]
abbrev dktX9_send_1 : List UInt8 := dkwX9_send_1 ++ dktX9_send_2
def dkwX9_send_0 : List UInt8 := [42, 27, 182, 0, 170, 154, 0, 9, 42, 2, 182, 0, 166, 172, 42, 180, 0, 9, 27, 46, 153, 0, 10, 42]
abbrev dktX9_send_0 : List UInt8 := dkwX9_send_0 ++ dktX9_send_1
theorem dksX9_send_0 : cX9_send.data.toList.drop 0 = dktX9_send_0 := by decide +kernel
theorem dksX9_send_1 : cX9_send.data.toList.drop 24 = dktX9_send_1 := dk_seg dksX9_send_0 24 rfl rfl
theorem dksX9_send_2 : cX9_send.data.toList.drop 48 = dktX9_send_2 := dk_seg dksX9_send_1 24 rfl rfl
theorem dksX9_send_3 : cX9_send.data.toList.drop 72 = dktX9_send_3 := dk_seg dksX9_send_2 24 rfl rfl
theorem dksX9_send_4 : cX9_send.data.toList.drop 96 = dktX9_send_4 := dk_seg dksX9_send_3 24 rfl rfl
theorem dksX9_send_5 : cX9_send.data.toList.drop 119 = dktX9_send_5 := dk_seg dksX9_send_4 23 rfl rfl
theorem dksX9_send_6 : cX9_send.data.toList.drop 141 = dktX9_send_6 := dk_seg dksX9_send_5 22 rfl rfl
theorem dksX9_send_7 : cX9_send.data.toList.drop 165 = dktX9_send_7 := dk_seg dksX9_send_6 24 rfl rfl
theorem dksX9_send_8 : cX9_send.data.toList.drop 189 = dktX9_send_8 := dk_seg dksX9_send_7 24 rfl rfl
theorem dksX9_send_9 : cX9_send.data.toList.drop 212 = dktX9_send_9 := dk_seg dksX9_send_8 23 rfl rfl
theorem dksX9_send_10 : cX9_send.data.toList.drop 234 = dktX9_send_10 := dk_seg dksX9_send_9 22 rfl rfl
theorem dksX9_send_11 : cX9_send.data.toList.drop 258 = dktX9_send_11 := dk_seg dksX9_send_10 24 rfl rfl
theorem dksX9_send_12 : cX9_send.data.toList.drop 280 = dktX9_send_12 := dk_seg dksX9_send_11 22 rfl rfl
theorem dksX9_send_13 : cX9_send.data.toList.drop 304 = dktX9_send_13 := dk_seg dksX9_send_12 24 rfl rfl
theorem dksX9_send_14 : cX9_send.data.toList.drop 326 = dktX9_send_14 := dk_seg dksX9_send_13 22 rfl rfl
theorem dX9_send_0 : decode cX9_send 0 = .ok (.aload_n 0, 1) := dk_42 (dk_at dksX9_send_0 0 rfl rfl)
theorem dX9_send_1 : decode cX9_send 1 = .ok (.iload_n 1, 1) := dk_27 (dk_at dksX9_send_0 1 rfl rfl)
theorem dX9_send_2 : decode cX9_send 2 = .ok (.invokevirtual 170, 3) := dk_182 0 170 (dk_at dksX9_send_0 2 rfl rfl)
theorem dX9_send_5 : decode cX9_send 5 = .ok (.ifCond .ne 9, 3) := dk_154 0 9 (dk_at dksX9_send_0 5 rfl rfl)
theorem dX9_send_8 : decode cX9_send 8 = .ok (.aload_n 0, 1) := dk_42 (dk_at dksX9_send_0 8 rfl rfl)
theorem dX9_send_9 : decode cX9_send 9 = .ok (.iconst (-1), 1) := dk_2 (dk_at dksX9_send_0 9 rfl rfl)
theorem dX9_send_10 : decode cX9_send 10 = .ok (.invokevirtual 166, 3) := dk_182 0 166 (dk_at dksX9_send_0 10 rfl rfl)
theorem dX9_send_13 : decode cX9_send 13 = .ok (.ireturn, 1) := dk_172 (dk_at dksX9_send_0 13 rfl rfl)
theorem dX9_send_14 : decode cX9_send 14 = .ok (.aload_n 0, 1) := dk_42 (dk_at dksX9_send_0 14 rfl rfl)
theorem dX9_send_15 : decode cX9_send 15 = .ok (.getfield 9, 3) := dk_180 0 9 (dk_at dksX9_send_0 15 rfl rfl)
theorem dX9_send_18 : decode cX9_send 18 = .ok (.iload_n 1, 1) := dk_27 (dk_at dksX9_send_0 18 rfl rfl)
theorem dX9_send_19 : decode cX9_send 19 = .ok (.iaload, 1) := dk_46 (dk_at dksX9_send_0 19 rfl rfl)
theorem dX9_send_20 : decode cX9_send 20 = .ok (.ifCond .eq 10, 3) := dk_153 0 10 (dk_at dksX9_send_0 20 rfl rfl)
theorem dX9_send_23 : decode cX9_send 23 = .ok (.aload_n 0, 1) := dk_42 (dk_at dksX9_send_0 23 rfl rfl)
theorem dX9_send_24 : decode cX9_send 24 = .ok (.bipush (-3), 2) := dk_16 253 (dk_at dksX9_send_1 0 rfl rfl)
theorem dX9_send_26 : decode cX9_send 26 = .ok (.invokevirtual 166, 3) := dk_182 0 166 (dk_at dksX9_send_1 2 rfl rfl)
theorem dX9_send_29 : decode cX9_send 29 = .ok (.ireturn, 1) := dk_172 (dk_at dksX9_send_1 5 rfl rfl)
theorem dX9_send_30 : decode cX9_send 30 = .ok (.aload_n 0, 1) := dk_42 (dk_at dksX9_send_1 6 rfl rfl)
theorem dX9_send_31 : decode cX9_send 31 = .ok (.getfield 13, 3) := dk_180 0 13 (dk_at dksX9_send_1 7 rfl rfl)
theorem dX9_send_34 : decode cX9_send 34 = .ok (.iload_n 1, 1) := dk_27 (dk_at dksX9_send_1 10 rfl rfl)
theorem dX9_send_35 : decode cX9_send 35 = .ok (.baload, 1) := dk_51 (dk_at dksX9_send_1 11 rfl rfl)
theorem dX9_send_36 : decode cX9_send 36 = .ok (.ifCond .ne 10, 3) := dk_154 0 10 (dk_at dksX9_send_1 12 rfl rfl)
theorem dX9_send_39 : decode cX9_send 39 = .ok (.aload_n 0, 1) := dk_42 (dk_at dksX9_send_1 15 rfl rfl)
theorem dX9_send_40 : decode cX9_send 40 = .ok (.bipush (-5), 2) := dk_16 251 (dk_at dksX9_send_1 16 rfl rfl)
theorem dX9_send_42 : decode cX9_send 42 = .ok (.invokevirtual 166, 3) := dk_182 0 166 (dk_at dksX9_send_1 18 rfl rfl)
theorem dX9_send_45 : decode cX9_send 45 = .ok (.ireturn, 1) := dk_172 (dk_at dksX9_send_1 21 rfl rfl)
theorem dX9_send_46 : decode cX9_send 46 = .ok (.aload_n 0, 1) := dk_42 (dk_at dksX9_send_1 22 rfl rfl)
theorem dX9_send_47 : decode cX9_send 47 = .ok (.aload_n 0, 1) := dk_42 (dk_at dksX9_send_1 23 rfl rfl)
theorem dX9_send_48 : decode cX9_send 48 = .ok (.getfield 90, 3) := dk_180 0 90 (dk_at dksX9_send_2 0 rfl rfl)
theorem dX9_send_51 : decode cX9_send 51 = .ok (.putfield 269, 3) := dk_181 1 13 (dk_at dksX9_send_2 3 rfl rfl)
theorem dX9_send_54 : decode cX9_send 54 = .ok (.aload_n 0, 1) := dk_42 (dk_at dksX9_send_2 6 rfl rfl)
theorem dX9_send_55 : decode cX9_send 55 = .ok (.iconst 0, 1) := dk_3 (dk_at dksX9_send_2 7 rfl rfl)
theorem dX9_send_56 : decode cX9_send 56 = .ok (.putfield 272, 3) := dk_181 1 16 (dk_at dksX9_send_2 8 rfl rfl)
theorem dX9_send_59 : decode cX9_send 59 = .ok (.aload_n 0, 1) := dk_42 (dk_at dksX9_send_2 11 rfl rfl)
theorem dX9_send_60 : decode cX9_send 60 = .ok (.aload_n 0, 1) := dk_42 (dk_at dksX9_send_2 12 rfl rfl)
theorem dX9_send_61 : decode cX9_send 61 = .ok (.getfield 17, 3) := dk_180 0 17 (dk_at dksX9_send_2 13 rfl rfl)
theorem dX9_send_64 : decode cX9_send 64 = .ok (.iload_n 1, 1) := dk_27 (dk_at dksX9_send_2 16 rfl rfl)
theorem dX9_send_65 : decode cX9_send 65 = .ok (.iaload, 1) := dk_46 (dk_at dksX9_send_2 17 rfl rfl)
theorem dX9_send_66 : decode cX9_send 66 = .ok (.invokevirtual 275, 3) := dk_182 1 19 (dk_at dksX9_send_2 18 rfl rfl)
theorem dX9_send_69 : decode cX9_send 69 = .ok (.bipush 100, 2) := dk_16 100 (dk_at dksX9_send_2 21 rfl rfl)
theorem dX9_send_71 : decode cX9_send 71 = .ok (.iload_n 1, 1) := dk_27 (dk_at dksX9_send_2 23 rfl rfl)
theorem dX9_send_72 : decode cX9_send 72 = .ok (.imul, 1) := dk_104 (dk_at dksX9_send_3 0 rfl rfl)
theorem dX9_send_73 : decode cX9_send 73 = .ok (.istore_n 2, 1) := dk_61 (dk_at dksX9_send_3 1 rfl rfl)
theorem dX9_send_74 : decode cX9_send 74 = .ok (.iload_n 2, 1) := dk_28 (dk_at dksX9_send_3 2 rfl rfl)
theorem dX9_send_75 : decode cX9_send 75 = .ok (.bipush 100, 2) := dk_16 100 (dk_at dksX9_send_3 3 rfl rfl)
theorem dX9_send_77 : decode cX9_send 77 = .ok (.iload_n 1, 1) := dk_27 (dk_at dksX9_send_3 5 rfl rfl)
theorem dX9_send_78 : decode cX9_send 78 = .ok (.imul, 1) := dk_104 (dk_at dksX9_send_3 6 rfl rfl)
theorem dX9_send_79 : decode cX9_send 79 = .ok (.aload_n 0, 1) := dk_42 (dk_at dksX9_send_3 7 rfl rfl)
theorem dX9_send_80 : decode cX9_send 80 = .ok (.getfield 17, 3) := dk_180 0 17 (dk_at dksX9_send_3 8 rfl rfl)
theorem dX9_send_83 : decode cX9_send 83 = .ok (.iload_n 1, 1) := dk_27 (dk_at dksX9_send_3 11 rfl rfl)
theorem dX9_send_84 : decode cX9_send 84 = .ok (.iaload, 1) := dk_46 (dk_at dksX9_send_3 12 rfl rfl)
theorem dX9_send_85 : decode cX9_send 85 = .ok (.iadd, 1) := dk_96 (dk_at dksX9_send_3 13 rfl rfl)
theorem dX9_send_86 : decode cX9_send 86 = .ok (.if_icmp .ge 116, 3) := dk_162 0 116 (dk_at dksX9_send_3 14 rfl rfl)
theorem dX9_send_89 : decode cX9_send 89 = .ok (.aload_n 0, 1) := dk_42 (dk_at dksX9_send_3 17 rfl rfl)
theorem dX9_send_90 : decode cX9_send 90 = .ok (.aload_n 0, 1) := dk_42 (dk_at dksX9_send_3 18 rfl rfl)
theorem dX9_send_91 : decode cX9_send 91 = .ok (.getfield 23, 3) := dk_180 0 23 (dk_at dksX9_send_3 19 rfl rfl)
theorem dX9_send_94 : decode cX9_send 94 = .ok (.iload_n 2, 1) := dk_28 (dk_at dksX9_send_3 22 rfl rfl)
theorem dX9_send_95 : decode cX9_send 95 = .ok (.iaload, 1) := dk_46 (dk_at dksX9_send_3 23 rfl rfl)
theorem dX9_send_96 : decode cX9_send 96 = .ok (.invokevirtual 275, 3) := dk_182 1 19 (dk_at dksX9_send_4 0 rfl rfl)
theorem dX9_send_99 : decode cX9_send 99 = .ok (.aload_n 0, 1) := dk_42 (dk_at dksX9_send_4 3 rfl rfl)
theorem dX9_send_100 : decode cX9_send 100 = .ok (.aload_n 0, 1) := dk_42 (dk_at dksX9_send_4 4 rfl rfl)
theorem dX9_send_101 : decode cX9_send 101 = .ok (.getfield 26, 3) := dk_180 0 26 (dk_at dksX9_send_4 5 rfl rfl)
theorem dX9_send_104 : decode cX9_send 104 = .ok (.iload_n 2, 1) := dk_28 (dk_at dksX9_send_4 8 rfl rfl)
theorem dX9_send_105 : decode cX9_send 105 = .ok (.iaload, 1) := dk_46 (dk_at dksX9_send_4 9 rfl rfl)
theorem dX9_send_106 : decode cX9_send 106 = .ok (.invokevirtual 275, 3) := dk_182 1 19 (dk_at dksX9_send_4 10 rfl rfl)
theorem dX9_send_109 : decode cX9_send 109 = .ok (.aload_n 0, 1) := dk_42 (dk_at dksX9_send_4 13 rfl rfl)
theorem dX9_send_110 : decode cX9_send 110 = .ok (.getfield 26, 3) := dk_180 0 26 (dk_at dksX9_send_4 14 rfl rfl)
theorem dX9_send_113 : decode cX9_send 113 = .ok (.iload_n 2, 1) := dk_28 (dk_at dksX9_send_4 17 rfl rfl)
theorem dX9_send_114 : decode cX9_send 114 = .ok (.iaload, 1) := dk_46 (dk_at dksX9_send_4 18 rfl rfl)
theorem dX9_send_115 : decode cX9_send 115 = .ok (.iconst 1, 1) := dk_4 (dk_at dksX9_send_4 19 rfl rfl)
theorem dX9_send_116 : decode cX9_send 116 = .ok (.isub, 1) := dk_100 (dk_at dksX9_send_4 20 rfl rfl)
theorem dX9_send_117 : decode cX9_send 117 = .ok (.istore_n 3, 1) := dk_62 (dk_at dksX9_send_4 21 rfl rfl)
theorem dX9_send_118 : decode cX9_send 118 = .ok (.iload_n 3, 1) := dk_29 (dk_at dksX9_send_4 22 rfl rfl)
theorem dX9_send_119 : decode cX9_send 119 = .ok (.ifCond .lt 28, 3) := dk_155 0 28 (dk_at dksX9_send_5 0 rfl rfl)
theorem dX9_send_122 : decode cX9_send 122 = .ok (.aload_n 0, 1) := dk_42 (dk_at dksX9_send_5 3 rfl rfl)
theorem dX9_send_123 : decode cX9_send 123 = .ok (.aload_n 0, 1) := dk_42 (dk_at dksX9_send_5 4 rfl rfl)
theorem dX9_send_124 : decode cX9_send 124 = .ok (.getfield 29, 3) := dk_180 0 29 (dk_at dksX9_send_5 5 rfl rfl)
theorem dX9_send_127 : decode cX9_send 127 = .ok (.iload_n 2, 1) := dk_28 (dk_at dksX9_send_5 8 rfl rfl)
theorem dX9_send_128 : decode cX9_send 128 = .ok (.iaload, 1) := dk_46 (dk_at dksX9_send_5 9 rfl rfl)
theorem dX9_send_129 : decode cX9_send 129 = .ok (.bipush 8, 2) := dk_16 8 (dk_at dksX9_send_5 10 rfl rfl)
theorem dX9_send_131 : decode cX9_send 131 = .ok (.iload_n 3, 1) := dk_29 (dk_at dksX9_send_5 12 rfl rfl)
theorem dX9_send_132 : decode cX9_send 132 = .ok (.imul, 1) := dk_104 (dk_at dksX9_send_5 13 rfl rfl)
theorem dX9_send_133 : decode cX9_send 133 = .ok (.ishr, 1) := dk_122 (dk_at dksX9_send_5 14 rfl rfl)
theorem dX9_send_134 : decode cX9_send 134 = .ok (.sipush 255, 3) := dk_17 0 255 (dk_at dksX9_send_5 15 rfl rfl)
theorem dX9_send_137 : decode cX9_send 137 = .ok (.iand, 1) := dk_126 (dk_at dksX9_send_5 18 rfl rfl)
theorem dX9_send_138 : decode cX9_send 138 = .ok (.invokevirtual 275, 3) := dk_182 1 19 (dk_at dksX9_send_5 19 rfl rfl)
theorem dX9_send_141 : decode cX9_send 141 = .ok (.iinc 3 (-1), 3) := dk_132 3 255 (dk_at dksX9_send_6 0 rfl rfl)
theorem dX9_send_144 : decode cX9_send 144 = .ok (.goto (-26), 3) := dk_167 255 230 (dk_at dksX9_send_6 3 rfl rfl)
theorem dX9_send_147 : decode cX9_send 147 = .ok (.iconst 2, 1) := dk_5 (dk_at dksX9_send_6 6 rfl rfl)
theorem dX9_send_148 : decode cX9_send 148 = .ok (.istore_n 3, 1) := dk_62 (dk_at dksX9_send_6 7 rfl rfl)
theorem dX9_send_149 : decode cX9_send 149 = .ok (.iload_n 3, 1) := dk_29 (dk_at dksX9_send_6 8 rfl rfl)
theorem dX9_send_150 : decode cX9_send 150 = .ok (.ifCond .lt 28, 3) := dk_155 0 28 (dk_at dksX9_send_6 9 rfl rfl)
theorem dX9_send_153 : decode cX9_send 153 = .ok (.aload_n 0, 1) := dk_42 (dk_at dksX9_send_6 12 rfl rfl)
theorem dX9_send_154 : decode cX9_send 154 = .ok (.aload_n 0, 1) := dk_42 (dk_at dksX9_send_6 13 rfl rfl)
theorem dX9_send_155 : decode cX9_send 155 = .ok (.getfield 32, 3) := dk_180 0 32 (dk_at dksX9_send_6 14 rfl rfl)
theorem dX9_send_158 : decode cX9_send 158 = .ok (.iload_n 2, 1) := dk_28 (dk_at dksX9_send_6 17 rfl rfl)
theorem dX9_send_159 : decode cX9_send 159 = .ok (.iaload, 1) := dk_46 (dk_at dksX9_send_6 18 rfl rfl)
theorem dX9_send_160 : decode cX9_send 160 = .ok (.bipush 8, 2) := dk_16 8 (dk_at dksX9_send_6 19 rfl rfl)
theorem dX9_send_162 : decode cX9_send 162 = .ok (.iload_n 3, 1) := dk_29 (dk_at dksX9_send_6 21 rfl rfl)
theorem dX9_send_163 : decode cX9_send 163 = .ok (.imul, 1) := dk_104 (dk_at dksX9_send_6 22 rfl rfl)
theorem dX9_send_164 : decode cX9_send 164 = .ok (.ishr, 1) := dk_122 (dk_at dksX9_send_6 23 rfl rfl)
theorem dX9_send_165 : decode cX9_send 165 = .ok (.sipush 255, 3) := dk_17 0 255 (dk_at dksX9_send_7 0 rfl rfl)
theorem dX9_send_168 : decode cX9_send 168 = .ok (.iand, 1) := dk_126 (dk_at dksX9_send_7 3 rfl rfl)
theorem dX9_send_169 : decode cX9_send 169 = .ok (.invokevirtual 275, 3) := dk_182 1 19 (dk_at dksX9_send_7 4 rfl rfl)
theorem dX9_send_172 : decode cX9_send 172 = .ok (.iinc 3 (-1), 3) := dk_132 3 255 (dk_at dksX9_send_7 7 rfl rfl)
theorem dX9_send_175 : decode cX9_send 175 = .ok (.goto (-26), 3) := dk_167 255 230 (dk_at dksX9_send_7 10 rfl rfl)
theorem dX9_send_178 : decode cX9_send 178 = .ok (.aload_n 0, 1) := dk_42 (dk_at dksX9_send_7 13 rfl rfl)
theorem dX9_send_179 : decode cX9_send 179 = .ok (.aload_n 0, 1) := dk_42 (dk_at dksX9_send_7 14 rfl rfl)
theorem dX9_send_180 : decode cX9_send 180 = .ok (.getfield 35, 3) := dk_180 0 35 (dk_at dksX9_send_7 15 rfl rfl)
theorem dX9_send_183 : decode cX9_send 183 = .ok (.iload_n 2, 1) := dk_28 (dk_at dksX9_send_7 18 rfl rfl)
theorem dX9_send_184 : decode cX9_send 184 = .ok (.baload, 1) := dk_51 (dk_at dksX9_send_7 19 rfl rfl)
theorem dX9_send_185 : decode cX9_send 185 = .ok (.ifCond .eq 7, 3) := dk_153 0 7 (dk_at dksX9_send_7 20 rfl rfl)
theorem dX9_send_188 : decode cX9_send 188 = .ok (.iconst 1, 1) := dk_4 (dk_at dksX9_send_7 23 rfl rfl)
theorem dX9_send_189 : decode cX9_send 189 = .ok (.goto 4, 3) := dk_167 0 4 (dk_at dksX9_send_8 0 rfl rfl)
theorem dX9_send_192 : decode cX9_send 192 = .ok (.iconst 0, 1) := dk_3 (dk_at dksX9_send_8 3 rfl rfl)
theorem dX9_send_193 : decode cX9_send 193 = .ok (.invokevirtual 275, 3) := dk_182 1 19 (dk_at dksX9_send_8 4 rfl rfl)
theorem dX9_send_196 : decode cX9_send 196 = .ok (.iinc 2 1, 3) := dk_132 2 1 (dk_at dksX9_send_8 7 rfl rfl)
theorem dX9_send_199 : decode cX9_send 199 = .ok (.goto (-125), 3) := dk_167 255 131 (dk_at dksX9_send_8 10 rfl rfl)
theorem dX9_send_202 : decode cX9_send 202 = .ok (.aload_n 0, 1) := dk_42 (dk_at dksX9_send_8 13 rfl rfl)
theorem dX9_send_203 : decode cX9_send 203 = .ok (.aload_n 0, 1) := dk_42 (dk_at dksX9_send_8 14 rfl rfl)
theorem dX9_send_204 : decode cX9_send 204 = .ok (.getfield 20, 3) := dk_180 0 20 (dk_at dksX9_send_8 15 rfl rfl)
theorem dX9_send_207 : decode cX9_send 207 = .ok (.iload_n 1, 1) := dk_27 (dk_at dksX9_send_8 18 rfl rfl)
theorem dX9_send_208 : decode cX9_send 208 = .ok (.iaload, 1) := dk_46 (dk_at dksX9_send_8 19 rfl rfl)
theorem dX9_send_209 : decode cX9_send 209 = .ok (.invokevirtual 275, 3) := dk_182 1 19 (dk_at dksX9_send_8 20 rfl rfl)
theorem dX9_send_212 : decode cX9_send 212 = .ok (.bipush 10, 2) := dk_16 10 (dk_at dksX9_send_9 0 rfl rfl)
theorem dX9_send_214 : decode cX9_send 214 = .ok (.iload_n 1, 1) := dk_27 (dk_at dksX9_send_9 2 rfl rfl)
theorem dX9_send_215 : decode cX9_send 215 = .ok (.imul, 1) := dk_104 (dk_at dksX9_send_9 3 rfl rfl)
theorem dX9_send_216 : decode cX9_send 216 = .ok (.istore_n 2, 1) := dk_61 (dk_at dksX9_send_9 4 rfl rfl)
theorem dX9_send_217 : decode cX9_send 217 = .ok (.iload_n 2, 1) := dk_28 (dk_at dksX9_send_9 5 rfl rfl)
theorem dX9_send_218 : decode cX9_send 218 = .ok (.bipush 10, 2) := dk_16 10 (dk_at dksX9_send_9 6 rfl rfl)
theorem dX9_send_220 : decode cX9_send 220 = .ok (.iload_n 1, 1) := dk_27 (dk_at dksX9_send_9 8 rfl rfl)
theorem dX9_send_221 : decode cX9_send 221 = .ok (.imul, 1) := dk_104 (dk_at dksX9_send_9 9 rfl rfl)
theorem dX9_send_222 : decode cX9_send 222 = .ok (.aload_n 0, 1) := dk_42 (dk_at dksX9_send_9 10 rfl rfl)
theorem dX9_send_223 : decode cX9_send 223 = .ok (.getfield 20, 3) := dk_180 0 20 (dk_at dksX9_send_9 11 rfl rfl)
theorem dX9_send_226 : decode cX9_send 226 = .ok (.iload_n 1, 1) := dk_27 (dk_at dksX9_send_9 14 rfl rfl)
theorem dX9_send_227 : decode cX9_send 227 = .ok (.iaload, 1) := dk_46 (dk_at dksX9_send_9 15 rfl rfl)
theorem dX9_send_228 : decode cX9_send 228 = .ok (.iadd, 1) := dk_96 (dk_at dksX9_send_9 16 rfl rfl)
theorem dX9_send_229 : decode cX9_send 229 = .ok (.if_icmp .ge 57, 3) := dk_162 0 57 (dk_at dksX9_send_9 17 rfl rfl)
theorem dX9_send_232 : decode cX9_send 232 = .ok (.aload_n 0, 1) := dk_42 (dk_at dksX9_send_9 20 rfl rfl)
theorem dX9_send_233 : decode cX9_send 233 = .ok (.aload_n 0, 1) := dk_42 (dk_at dksX9_send_9 21 rfl rfl)
theorem dX9_send_234 : decode cX9_send 234 = .ok (.getfield 38, 3) := dk_180 0 38 (dk_at dksX9_send_10 0 rfl rfl)
theorem dX9_send_237 : decode cX9_send 237 = .ok (.iload_n 2, 1) := dk_28 (dk_at dksX9_send_10 3 rfl rfl)
theorem dX9_send_238 : decode cX9_send 238 = .ok (.iaload, 1) := dk_46 (dk_at dksX9_send_10 4 rfl rfl)
theorem dX9_send_239 : decode cX9_send 239 = .ok (.invokevirtual 275, 3) := dk_182 1 19 (dk_at dksX9_send_10 5 rfl rfl)
theorem dX9_send_242 : decode cX9_send 242 = .ok (.aload_n 0, 1) := dk_42 (dk_at dksX9_send_10 8 rfl rfl)
theorem dX9_send_243 : decode cX9_send 243 = .ok (.aload_n 0, 1) := dk_42 (dk_at dksX9_send_10 9 rfl rfl)
theorem dX9_send_244 : decode cX9_send 244 = .ok (.getfield 41, 3) := dk_180 0 41 (dk_at dksX9_send_10 10 rfl rfl)
theorem dX9_send_247 : decode cX9_send 247 = .ok (.iload_n 2, 1) := dk_28 (dk_at dksX9_send_10 13 rfl rfl)
theorem dX9_send_248 : decode cX9_send 248 = .ok (.iaload, 1) := dk_46 (dk_at dksX9_send_10 14 rfl rfl)
theorem dX9_send_249 : decode cX9_send 249 = .ok (.invokevirtual 275, 3) := dk_182 1 19 (dk_at dksX9_send_10 15 rfl rfl)
theorem dX9_send_252 : decode cX9_send 252 = .ok (.aload_n 0, 1) := dk_42 (dk_at dksX9_send_10 18 rfl rfl)
theorem dX9_send_253 : decode cX9_send 253 = .ok (.aload_n 0, 1) := dk_42 (dk_at dksX9_send_10 19 rfl rfl)
theorem dX9_send_254 : decode cX9_send 254 = .ok (.getfield 44, 3) := dk_180 0 44 (dk_at dksX9_send_10 20 rfl rfl)
theorem dX9_send_257 : decode cX9_send 257 = .ok (.iload_n 2, 1) := dk_28 (dk_at dksX9_send_10 23 rfl rfl)
theorem dX9_send_258 : decode cX9_send 258 = .ok (.iaload, 1) := dk_46 (dk_at dksX9_send_11 0 rfl rfl)
theorem dX9_send_259 : decode cX9_send 259 = .ok (.invokevirtual 275, 3) := dk_182 1 19 (dk_at dksX9_send_11 1 rfl rfl)
theorem dX9_send_262 : decode cX9_send 262 = .ok (.aload_n 0, 1) := dk_42 (dk_at dksX9_send_11 4 rfl rfl)
theorem dX9_send_263 : decode cX9_send 263 = .ok (.aload_n 0, 1) := dk_42 (dk_at dksX9_send_11 5 rfl rfl)
theorem dX9_send_264 : decode cX9_send 264 = .ok (.getfield 47, 3) := dk_180 0 47 (dk_at dksX9_send_11 6 rfl rfl)
theorem dX9_send_267 : decode cX9_send 267 = .ok (.iload_n 2, 1) := dk_28 (dk_at dksX9_send_11 9 rfl rfl)
theorem dX9_send_268 : decode cX9_send 268 = .ok (.baload, 1) := dk_51 (dk_at dksX9_send_11 10 rfl rfl)
theorem dX9_send_269 : decode cX9_send 269 = .ok (.ifCond .eq 7, 3) := dk_153 0 7 (dk_at dksX9_send_11 11 rfl rfl)
theorem dX9_send_272 : decode cX9_send 272 = .ok (.iconst 1, 1) := dk_4 (dk_at dksX9_send_11 14 rfl rfl)
theorem dX9_send_273 : decode cX9_send 273 = .ok (.goto 4, 3) := dk_167 0 4 (dk_at dksX9_send_11 15 rfl rfl)
theorem dX9_send_276 : decode cX9_send 276 = .ok (.iconst 0, 1) := dk_3 (dk_at dksX9_send_11 18 rfl rfl)
theorem dX9_send_277 : decode cX9_send 277 = .ok (.invokevirtual 275, 3) := dk_182 1 19 (dk_at dksX9_send_11 19 rfl rfl)
theorem dX9_send_280 : decode cX9_send 280 = .ok (.iinc 2 1, 3) := dk_132 2 1 (dk_at dksX9_send_12 0 rfl rfl)
theorem dX9_send_283 : decode cX9_send 283 = .ok (.goto (-66), 3) := dk_167 255 190 (dk_at dksX9_send_12 3 rfl rfl)
theorem dX9_send_286 : decode cX9_send 286 = .ok (.aload_n 0, 1) := dk_42 (dk_at dksX9_send_12 6 rfl rfl)
theorem dX9_send_287 : decode cX9_send 287 = .ok (.aload_n 0, 1) := dk_42 (dk_at dksX9_send_12 7 rfl rfl)
theorem dX9_send_288 : decode cX9_send 288 = .ok (.getfield 90, 3) := dk_180 0 90 (dk_at dksX9_send_12 8 rfl rfl)
theorem dX9_send_291 : decode cX9_send 291 = .ok (.aload_n 0, 1) := dk_42 (dk_at dksX9_send_12 11 rfl rfl)
theorem dX9_send_292 : decode cX9_send 292 = .ok (.getfield 272, 3) := dk_180 1 16 (dk_at dksX9_send_12 12 rfl rfl)
theorem dX9_send_295 : decode cX9_send 295 = .ok (.invokevirtual 408, 3) := dk_182 1 152 (dk_at dksX9_send_12 15 rfl rfl)
theorem dX9_send_298 : decode cX9_send 298 = .ok (.istore_n 2, 1) := dk_61 (dk_at dksX9_send_12 18 rfl rfl)
theorem dX9_send_299 : decode cX9_send 299 = .ok (.aload_n 0, 1) := dk_42 (dk_at dksX9_send_12 19 rfl rfl)
theorem dX9_send_300 : decode cX9_send 300 = .ok (.iload_n 2, 1) := dk_28 (dk_at dksX9_send_12 20 rfl rfl)
theorem dX9_send_301 : decode cX9_send 301 = .ok (.bipush 8, 2) := dk_16 8 (dk_at dksX9_send_12 21 rfl rfl)
theorem dX9_send_303 : decode cX9_send 303 = .ok (.ishr, 1) := dk_122 (dk_at dksX9_send_12 23 rfl rfl)
theorem dX9_send_304 : decode cX9_send 304 = .ok (.invokevirtual 275, 3) := dk_182 1 19 (dk_at dksX9_send_13 0 rfl rfl)
theorem dX9_send_307 : decode cX9_send 307 = .ok (.aload_n 0, 1) := dk_42 (dk_at dksX9_send_13 3 rfl rfl)
theorem dX9_send_308 : decode cX9_send 308 = .ok (.iload_n 2, 1) := dk_28 (dk_at dksX9_send_13 4 rfl rfl)
theorem dX9_send_309 : decode cX9_send 309 = .ok (.sipush 255, 3) := dk_17 0 255 (dk_at dksX9_send_13 5 rfl rfl)
theorem dX9_send_312 : decode cX9_send 312 = .ok (.iand, 1) := dk_126 (dk_at dksX9_send_13 8 rfl rfl)
theorem dX9_send_313 : decode cX9_send 313 = .ok (.invokevirtual 275, 3) := dk_182 1 19 (dk_at dksX9_send_13 9 rfl rfl)
theorem dX9_send_316 : decode cX9_send 316 = .ok (.aload_n 0, 1) := dk_42 (dk_at dksX9_send_13 12 rfl rfl)
theorem dX9_send_317 : decode cX9_send 317 = .ok (.aload_n 0, 1) := dk_42 (dk_at dksX9_send_13 13 rfl rfl)
theorem dX9_send_318 : decode cX9_send 318 = .ok (.getfield 90, 3) := dk_180 0 90 (dk_at dksX9_send_13 14 rfl rfl)
theorem dX9_send_321 : decode cX9_send 321 = .ok (.aload_n 0, 1) := dk_42 (dk_at dksX9_send_13 17 rfl rfl)
theorem dX9_send_322 : decode cX9_send 322 = .ok (.getfield 272, 3) := dk_180 1 16 (dk_at dksX9_send_13 18 rfl rfl)
theorem dX9_send_325 : decode cX9_send 325 = .ok (.iconst 2, 1) := dk_5 (dk_at dksX9_send_13 21 rfl rfl)
theorem dX9_send_326 : decode cX9_send 326 = .ok (.invokevirtual 374, 3) := dk_182 1 118 (dk_at dksX9_send_14 0 rfl rfl)
theorem dX9_send_329 : decode cX9_send 329 = .ok (.ireturn, 1) := dk_172 (dk_at dksX9_send_14 3 rfl rfl)
abbrev cX9_sumOf : ByteArray := prog_17_method_83_code
def yX9_sumOf : MethodName := ⟨RX9, "sumOf", "([II)I"⟩
def dkwX9_sumOf_1 : List UInt8 := [66, 132, 5, 1, 167, 255, 233, 33, 20, 1, 150, 113, 136, 172]
abbrev dktX9_sumOf_1 : List UInt8 := dkwX9_sumOf_1 ++ []
def dkwX9_sumOf_0 : List UInt8 := [9, 66, 3, 54, 5, 21, 5, 28, 162, 0, 23, 33, 21, 5, 133, 10, 97, 43, 21, 5, 46, 133, 105, 97]
abbrev dktX9_sumOf_0 : List UInt8 := dkwX9_sumOf_0 ++ dktX9_sumOf_1
theorem dksX9_sumOf_0 : cX9_sumOf.data.toList.drop 0 = dktX9_sumOf_0 := by decide +kernel
theorem dksX9_sumOf_1 : cX9_sumOf.data.toList.drop 24 = dktX9_sumOf_1 := dk_seg dksX9_sumOf_0 24 rfl rfl
theorem dX9_sumOf_0 : decode cX9_sumOf 0 = .ok (.lconst 0, 1) := dk_9 (dk_at dksX9_sumOf_0 0 rfl rfl)
theorem dX9_sumOf_1 : decode cX9_sumOf 1 = .ok (.lstore_n 3, 1) := dk_66 (dk_at dksX9_sumOf_0 1 rfl rfl)
theorem dX9_sumOf_2 : decode cX9_sumOf 2 = .ok (.iconst 0, 1) := dk_3 (dk_at dksX9_sumOf_0 2 rfl rfl)
theorem dX9_sumOf_3 : decode cX9_sumOf 3 = .ok (.istore 5, 2) := dk_54 5 (dk_at dksX9_sumOf_0 3 rfl rfl)
theorem dX9_sumOf_5 : decode cX9_sumOf 5 = .ok (.iload 5, 2) := dk_21 5 (dk_at dksX9_sumOf_0 5 rfl rfl)
theorem dX9_sumOf_7 : decode cX9_sumOf 7 = .ok (.iload_n 2, 1) := dk_28 (dk_at dksX9_sumOf_0 7 rfl rfl)
theorem dX9_sumOf_8 : decode cX9_sumOf 8 = .ok (.if_icmp .ge 23, 3) := dk_162 0 23 (dk_at dksX9_sumOf_0 8 rfl rfl)
theorem dX9_sumOf_11 : decode cX9_sumOf 11 = .ok (.lload_n 3, 1) := dk_33 (dk_at dksX9_sumOf_0 11 rfl rfl)
theorem dX9_sumOf_12 : decode cX9_sumOf 12 = .ok (.iload 5, 2) := dk_21 5 (dk_at dksX9_sumOf_0 12 rfl rfl)
theorem dX9_sumOf_14 : decode cX9_sumOf 14 = .ok (.i2l, 1) := dk_133 (dk_at dksX9_sumOf_0 14 rfl rfl)
theorem dX9_sumOf_15 : decode cX9_sumOf 15 = .ok (.lconst 1, 1) := dk_10 (dk_at dksX9_sumOf_0 15 rfl rfl)
theorem dX9_sumOf_16 : decode cX9_sumOf 16 = .ok (.ladd, 1) := dk_97 (dk_at dksX9_sumOf_0 16 rfl rfl)
theorem dX9_sumOf_17 : decode cX9_sumOf 17 = .ok (.aload_n 1, 1) := dk_43 (dk_at dksX9_sumOf_0 17 rfl rfl)
theorem dX9_sumOf_18 : decode cX9_sumOf 18 = .ok (.iload 5, 2) := dk_21 5 (dk_at dksX9_sumOf_0 18 rfl rfl)
theorem dX9_sumOf_20 : decode cX9_sumOf 20 = .ok (.iaload, 1) := dk_46 (dk_at dksX9_sumOf_0 20 rfl rfl)
theorem dX9_sumOf_21 : decode cX9_sumOf 21 = .ok (.i2l, 1) := dk_133 (dk_at dksX9_sumOf_0 21 rfl rfl)
theorem dX9_sumOf_22 : decode cX9_sumOf 22 = .ok (.lmul, 1) := dk_105 (dk_at dksX9_sumOf_0 22 rfl rfl)
theorem dX9_sumOf_23 : decode cX9_sumOf 23 = .ok (.ladd, 1) := dk_97 (dk_at dksX9_sumOf_0 23 rfl rfl)
theorem dX9_sumOf_24 : decode cX9_sumOf 24 = .ok (.lstore_n 3, 1) := dk_66 (dk_at dksX9_sumOf_1 0 rfl rfl)
theorem dX9_sumOf_25 : decode cX9_sumOf 25 = .ok (.iinc 5 1, 3) := dk_132 5 1 (dk_at dksX9_sumOf_1 1 rfl rfl)
theorem dX9_sumOf_28 : decode cX9_sumOf 28 = .ok (.goto (-23), 3) := dk_167 255 233 (dk_at dksX9_sumOf_1 4 rfl rfl)
theorem dX9_sumOf_31 : decode cX9_sumOf 31 = .ok (.lload_n 3, 1) := dk_33 (dk_at dksX9_sumOf_1 7 rfl rfl)
theorem dX9_sumOf_32 : decode cX9_sumOf 32 = .ok (.ldc2_w 406, 3) := dk_20 1 150 (dk_at dksX9_sumOf_1 8 rfl rfl)
theorem dX9_sumOf_35 : decode cX9_sumOf 35 = .ok (.lrem, 1) := dk_113 (dk_at dksX9_sumOf_1 11 rfl rfl)
theorem dX9_sumOf_36 : decode cX9_sumOf 36 = .ok (.l2i, 1) := dk_136 (dk_at dksX9_sumOf_1 12 rfl rfl)
theorem dX9_sumOf_37 : decode cX9_sumOf 37 = .ok (.ireturn, 1) := dk_172 (dk_at dksX9_sumOf_1 13 rfl rfl)
abbrev cX9_receive : ByteArray := prog_17_method_89_code
def yX9_receive : MethodName := ⟨RX9, "receive", "()I"⟩
def dkwX9_receive_5 : List UInt8 := [4, 96, 181, 0, 163, 42, 180, 0, 163, 4, 100, 172]
abbrev dktX9_receive_5 : List UInt8 := dkwX9_receive_5 ++ []
def dkwX9_receive_4 : List UInt8 := [180, 0, 9, 42, 180, 0, 163, 3, 79, 42, 180, 0, 13, 42, 180, 0, 163, 4, 84, 42, 89, 180, 0, 163]
abbrev dktX9_receive_4 : List UInt8 := dkwX9_receive_4 ++ dktX9_receive_5
def dkwX9_receive_3 : List UInt8 := [182, 0, 166, 172, 42, 42, 180, 0, 163, 182, 1, 172, 154, 0, 10, 42, 16, 248, 182, 0, 166, 172, 42]
abbrev dktX9_receive_3 : List UInt8 := dkwX9_receive_3 ++ dktX9_receive_4
def dkwX9_receive_2 : List UInt8 := [46, 16, 8, 120, 42, 180, 0, 50, 42, 180, 0, 255, 4, 100, 46, 128, 159, 0, 10, 42, 16, 243]
abbrev dktX9_receive_2 : List UInt8 := dkwX9_receive_2 ++ dktX9_receive_3
def dkwX9_receive_1 : List UInt8 := [42, 42, 180, 0, 50, 42, 180, 0, 255, 5, 100, 182, 1, 152, 42, 180, 0, 50, 42, 180, 0, 255, 5, 100]
abbrev dktX9_receive_1 : List UInt8 := dkwX9_receive_1 ++ dktX9_receive_2
def dkwX9_receive_0 : List UInt8 := [42, 180, 0, 163, 16, 10, 160, 0, 10, 42, 16, 250, 182, 0, 166, 172, 42, 180, 0, 255, 7, 161, 0, 46]
abbrev dktX9_receive_0 : List UInt8 := dkwX9_receive_0 ++ dktX9_receive_1
theorem dksX9_receive_0 : cX9_receive.data.toList.drop 0 = dktX9_receive_0 := by decide +kernel
theorem dksX9_receive_1 : cX9_receive.data.toList.drop 24 = dktX9_receive_1 := dk_seg dksX9_receive_0 24 rfl rfl
theorem dksX9_receive_2 : cX9_receive.data.toList.drop 48 = dktX9_receive_2 := dk_seg dksX9_receive_1 24 rfl rfl
theorem dksX9_receive_3 : cX9_receive.data.toList.drop 70 = dktX9_receive_3 := dk_seg dksX9_receive_2 22 rfl rfl
theorem dksX9_receive_4 : cX9_receive.data.toList.drop 93 = dktX9_receive_4 := dk_seg dksX9_receive_3 23 rfl rfl
theorem dksX9_receive_5 : cX9_receive.data.toList.drop 117 = dktX9_receive_5 := dk_seg dksX9_receive_4 24 rfl rfl
theorem dX9_receive_0 : decode cX9_receive 0 = .ok (.aload_n 0, 1) := dk_42 (dk_at dksX9_receive_0 0 rfl rfl)
theorem dX9_receive_1 : decode cX9_receive 1 = .ok (.getfield 163, 3) := dk_180 0 163 (dk_at dksX9_receive_0 1 rfl rfl)
theorem dX9_receive_4 : decode cX9_receive 4 = .ok (.bipush 10, 2) := dk_16 10 (dk_at dksX9_receive_0 4 rfl rfl)
theorem dX9_receive_6 : decode cX9_receive 6 = .ok (.if_icmp .ne 10, 3) := dk_160 0 10 (dk_at dksX9_receive_0 6 rfl rfl)
theorem dX9_receive_9 : decode cX9_receive 9 = .ok (.aload_n 0, 1) := dk_42 (dk_at dksX9_receive_0 9 rfl rfl)
theorem dX9_receive_10 : decode cX9_receive 10 = .ok (.bipush (-6), 2) := dk_16 250 (dk_at dksX9_receive_0 10 rfl rfl)
theorem dX9_receive_12 : decode cX9_receive 12 = .ok (.invokevirtual 166, 3) := dk_182 0 166 (dk_at dksX9_receive_0 12 rfl rfl)
theorem dX9_receive_15 : decode cX9_receive 15 = .ok (.ireturn, 1) := dk_172 (dk_at dksX9_receive_0 15 rfl rfl)
theorem dX9_receive_16 : decode cX9_receive 16 = .ok (.aload_n 0, 1) := dk_42 (dk_at dksX9_receive_0 16 rfl rfl)
theorem dX9_receive_17 : decode cX9_receive 17 = .ok (.getfield 255, 3) := dk_180 0 255 (dk_at dksX9_receive_0 17 rfl rfl)
theorem dX9_receive_20 : decode cX9_receive 20 = .ok (.iconst 4, 1) := dk_7 (dk_at dksX9_receive_0 20 rfl rfl)
theorem dX9_receive_21 : decode cX9_receive 21 = .ok (.if_icmp .lt 46, 3) := dk_161 0 46 (dk_at dksX9_receive_0 21 rfl rfl)
theorem dX9_receive_24 : decode cX9_receive 24 = .ok (.aload_n 0, 1) := dk_42 (dk_at dksX9_receive_1 0 rfl rfl)
theorem dX9_receive_25 : decode cX9_receive 25 = .ok (.aload_n 0, 1) := dk_42 (dk_at dksX9_receive_1 1 rfl rfl)
theorem dX9_receive_26 : decode cX9_receive 26 = .ok (.getfield 50, 3) := dk_180 0 50 (dk_at dksX9_receive_1 2 rfl rfl)
theorem dX9_receive_29 : decode cX9_receive 29 = .ok (.aload_n 0, 1) := dk_42 (dk_at dksX9_receive_1 5 rfl rfl)
theorem dX9_receive_30 : decode cX9_receive 30 = .ok (.getfield 255, 3) := dk_180 0 255 (dk_at dksX9_receive_1 6 rfl rfl)
theorem dX9_receive_33 : decode cX9_receive 33 = .ok (.iconst 2, 1) := dk_5 (dk_at dksX9_receive_1 9 rfl rfl)
theorem dX9_receive_34 : decode cX9_receive 34 = .ok (.isub, 1) := dk_100 (dk_at dksX9_receive_1 10 rfl rfl)
theorem dX9_receive_35 : decode cX9_receive 35 = .ok (.invokevirtual 408, 3) := dk_182 1 152 (dk_at dksX9_receive_1 11 rfl rfl)
theorem dX9_receive_38 : decode cX9_receive 38 = .ok (.aload_n 0, 1) := dk_42 (dk_at dksX9_receive_1 14 rfl rfl)
theorem dX9_receive_39 : decode cX9_receive 39 = .ok (.getfield 50, 3) := dk_180 0 50 (dk_at dksX9_receive_1 15 rfl rfl)
theorem dX9_receive_42 : decode cX9_receive 42 = .ok (.aload_n 0, 1) := dk_42 (dk_at dksX9_receive_1 18 rfl rfl)
theorem dX9_receive_43 : decode cX9_receive 43 = .ok (.getfield 255, 3) := dk_180 0 255 (dk_at dksX9_receive_1 19 rfl rfl)
theorem dX9_receive_46 : decode cX9_receive 46 = .ok (.iconst 2, 1) := dk_5 (dk_at dksX9_receive_1 22 rfl rfl)
theorem dX9_receive_47 : decode cX9_receive 47 = .ok (.isub, 1) := dk_100 (dk_at dksX9_receive_1 23 rfl rfl)
theorem dX9_receive_48 : decode cX9_receive 48 = .ok (.iaload, 1) := dk_46 (dk_at dksX9_receive_2 0 rfl rfl)
theorem dX9_receive_49 : decode cX9_receive 49 = .ok (.bipush 8, 2) := dk_16 8 (dk_at dksX9_receive_2 1 rfl rfl)
theorem dX9_receive_51 : decode cX9_receive 51 = .ok (.ishl, 1) := dk_120 (dk_at dksX9_receive_2 3 rfl rfl)
theorem dX9_receive_52 : decode cX9_receive 52 = .ok (.aload_n 0, 1) := dk_42 (dk_at dksX9_receive_2 4 rfl rfl)
theorem dX9_receive_53 : decode cX9_receive 53 = .ok (.getfield 50, 3) := dk_180 0 50 (dk_at dksX9_receive_2 5 rfl rfl)
theorem dX9_receive_56 : decode cX9_receive 56 = .ok (.aload_n 0, 1) := dk_42 (dk_at dksX9_receive_2 8 rfl rfl)
theorem dX9_receive_57 : decode cX9_receive 57 = .ok (.getfield 255, 3) := dk_180 0 255 (dk_at dksX9_receive_2 9 rfl rfl)
theorem dX9_receive_60 : decode cX9_receive 60 = .ok (.iconst 1, 1) := dk_4 (dk_at dksX9_receive_2 12 rfl rfl)
theorem dX9_receive_61 : decode cX9_receive 61 = .ok (.isub, 1) := dk_100 (dk_at dksX9_receive_2 13 rfl rfl)
theorem dX9_receive_62 : decode cX9_receive 62 = .ok (.iaload, 1) := dk_46 (dk_at dksX9_receive_2 14 rfl rfl)
theorem dX9_receive_63 : decode cX9_receive 63 = .ok (.ior, 1) := dk_128 (dk_at dksX9_receive_2 15 rfl rfl)
theorem dX9_receive_64 : decode cX9_receive 64 = .ok (.if_icmp .eq 10, 3) := dk_159 0 10 (dk_at dksX9_receive_2 16 rfl rfl)
theorem dX9_receive_67 : decode cX9_receive 67 = .ok (.aload_n 0, 1) := dk_42 (dk_at dksX9_receive_2 19 rfl rfl)
theorem dX9_receive_68 : decode cX9_receive 68 = .ok (.bipush (-13), 2) := dk_16 243 (dk_at dksX9_receive_2 20 rfl rfl)
theorem dX9_receive_70 : decode cX9_receive 70 = .ok (.invokevirtual 166, 3) := dk_182 0 166 (dk_at dksX9_receive_3 0 rfl rfl)
theorem dX9_receive_73 : decode cX9_receive 73 = .ok (.ireturn, 1) := dk_172 (dk_at dksX9_receive_3 3 rfl rfl)
theorem dX9_receive_74 : decode cX9_receive 74 = .ok (.aload_n 0, 1) := dk_42 (dk_at dksX9_receive_3 4 rfl rfl)
theorem dX9_receive_75 : decode cX9_receive 75 = .ok (.aload_n 0, 1) := dk_42 (dk_at dksX9_receive_3 5 rfl rfl)
theorem dX9_receive_76 : decode cX9_receive 76 = .ok (.getfield 163, 3) := dk_180 0 163 (dk_at dksX9_receive_3 6 rfl rfl)
theorem dX9_receive_79 : decode cX9_receive 79 = .ok (.invokevirtual 428, 3) := dk_182 1 172 (dk_at dksX9_receive_3 9 rfl rfl)
theorem dX9_receive_82 : decode cX9_receive 82 = .ok (.ifCond .ne 10, 3) := dk_154 0 10 (dk_at dksX9_receive_3 12 rfl rfl)
theorem dX9_receive_85 : decode cX9_receive 85 = .ok (.aload_n 0, 1) := dk_42 (dk_at dksX9_receive_3 15 rfl rfl)
theorem dX9_receive_86 : decode cX9_receive 86 = .ok (.bipush (-8), 2) := dk_16 248 (dk_at dksX9_receive_3 16 rfl rfl)
theorem dX9_receive_88 : decode cX9_receive 88 = .ok (.invokevirtual 166, 3) := dk_182 0 166 (dk_at dksX9_receive_3 18 rfl rfl)
theorem dX9_receive_91 : decode cX9_receive 91 = .ok (.ireturn, 1) := dk_172 (dk_at dksX9_receive_3 21 rfl rfl)
theorem dX9_receive_92 : decode cX9_receive 92 = .ok (.aload_n 0, 1) := dk_42 (dk_at dksX9_receive_3 22 rfl rfl)
theorem dX9_receive_93 : decode cX9_receive 93 = .ok (.getfield 9, 3) := dk_180 0 9 (dk_at dksX9_receive_4 0 rfl rfl)
theorem dX9_receive_96 : decode cX9_receive 96 = .ok (.aload_n 0, 1) := dk_42 (dk_at dksX9_receive_4 3 rfl rfl)
theorem dX9_receive_97 : decode cX9_receive 97 = .ok (.getfield 163, 3) := dk_180 0 163 (dk_at dksX9_receive_4 4 rfl rfl)
theorem dX9_receive_100 : decode cX9_receive 100 = .ok (.iconst 0, 1) := dk_3 (dk_at dksX9_receive_4 7 rfl rfl)
theorem dX9_receive_101 : decode cX9_receive 101 = .ok (.iastore, 1) := dk_79 (dk_at dksX9_receive_4 8 rfl rfl)
theorem dX9_receive_102 : decode cX9_receive 102 = .ok (.aload_n 0, 1) := dk_42 (dk_at dksX9_receive_4 9 rfl rfl)
theorem dX9_receive_103 : decode cX9_receive 103 = .ok (.getfield 13, 3) := dk_180 0 13 (dk_at dksX9_receive_4 10 rfl rfl)
theorem dX9_receive_106 : decode cX9_receive 106 = .ok (.aload_n 0, 1) := dk_42 (dk_at dksX9_receive_4 13 rfl rfl)
theorem dX9_receive_107 : decode cX9_receive 107 = .ok (.getfield 163, 3) := dk_180 0 163 (dk_at dksX9_receive_4 14 rfl rfl)
theorem dX9_receive_110 : decode cX9_receive 110 = .ok (.iconst 1, 1) := dk_4 (dk_at dksX9_receive_4 17 rfl rfl)
theorem dX9_receive_111 : decode cX9_receive 111 = .ok (.bastore, 1) := dk_84 (dk_at dksX9_receive_4 18 rfl rfl)
theorem dX9_receive_112 : decode cX9_receive 112 = .ok (.aload_n 0, 1) := dk_42 (dk_at dksX9_receive_4 19 rfl rfl)
theorem dX9_receive_113 : decode cX9_receive 113 = .ok (.dup, 1) := dk_89 (dk_at dksX9_receive_4 20 rfl rfl)
theorem dX9_receive_114 : decode cX9_receive 114 = .ok (.getfield 163, 3) := dk_180 0 163 (dk_at dksX9_receive_4 21 rfl rfl)
theorem dX9_receive_117 : decode cX9_receive 117 = .ok (.iconst 1, 1) := dk_4 (dk_at dksX9_receive_5 0 rfl rfl)
theorem dX9_receive_118 : decode cX9_receive 118 = .ok (.iadd, 1) := dk_96 (dk_at dksX9_receive_5 1 rfl rfl)
theorem dX9_receive_119 : decode cX9_receive 119 = .ok (.putfield 163, 3) := dk_181 0 163 (dk_at dksX9_receive_5 2 rfl rfl)
theorem dX9_receive_122 : decode cX9_receive 122 = .ok (.aload_n 0, 1) := dk_42 (dk_at dksX9_receive_5 5 rfl rfl)
theorem dX9_receive_123 : decode cX9_receive 123 = .ok (.getfield 163, 3) := dk_180 0 163 (dk_at dksX9_receive_5 6 rfl rfl)
theorem dX9_receive_126 : decode cX9_receive 126 = .ok (.iconst 1, 1) := dk_4 (dk_at dksX9_receive_5 9 rfl rfl)
theorem dX9_receive_127 : decode cX9_receive 127 = .ok (.isub, 1) := dk_100 (dk_at dksX9_receive_5 10 rfl rfl)
theorem dX9_receive_128 : decode cX9_receive 128 = .ok (.ireturn, 1) := dk_172 (dk_at dksX9_receive_5 11 rfl rfl)
abbrev cX9_takeIn : ByteArray := prog_17_method_86_code
def yX9_takeIn : MethodName := ⟨RX9, "takeIn", "(I)Z"⟩
def dkwX9_takeIn_5 : List UInt8 := [180, 1, 159, 160, 0, 15, 42, 27, 182, 0, 225, 153, 0, 7, 4, 167, 0, 4, 3, 172]
abbrev dktX9_takeIn_5 : List UInt8 := dkwX9_takeIn_5 ++ []
def dkwX9_takeIn_4 : List UInt8 := [162, 0, 19, 42, 27, 182, 1, 169, 154, 0, 5, 3, 172, 132, 4, 1, 167, 255, 237, 42, 180, 1, 156, 42]
abbrev dktX9_takeIn_4 : List UInt8 := dkwX9_takeIn_4 ++ dktX9_takeIn_5
def dkwX9_takeIn_3 : List UInt8 := [182, 1, 162, 62, 29, 3, 16, 10, 184, 0, 156, 154, 0, 5, 3, 172, 3, 54, 4, 21, 4, 29]
abbrev dktX9_takeIn_3 : List UInt8 := dkwX9_takeIn_3 ++ dktX9_takeIn_4
def dkwX9_takeIn_2 : List UInt8 := [62, 29, 28, 162, 0, 19, 42, 27, 182, 1, 166, 154, 0, 5, 3, 172, 132, 3, 1, 167, 255, 238, 42]
abbrev dktX9_takeIn_2 : List UInt8 := dkwX9_takeIn_2 ++ dktX9_takeIn_3
def dkwX9_takeIn_1 : List UInt8 := [180, 0, 20, 27, 3, 79, 42, 182, 1, 162, 61, 28, 3, 16, 100, 184, 0, 156, 154, 0, 5, 3, 172, 3]
abbrev dktX9_takeIn_1 : List UInt8 := dkwX9_takeIn_1 ++ dktX9_takeIn_2
def dkwX9_takeIn_0 : List UInt8 := [42, 3, 181, 1, 156, 42, 42, 180, 0, 255, 5, 100, 181, 1, 159, 42, 180, 0, 17, 27, 3, 79, 42]
abbrev dktX9_takeIn_0 : List UInt8 := dkwX9_takeIn_0 ++ dktX9_takeIn_1
theorem dksX9_takeIn_0 : cX9_takeIn.data.toList.drop 0 = dktX9_takeIn_0 := by decide +kernel
theorem dksX9_takeIn_1 : cX9_takeIn.data.toList.drop 23 = dktX9_takeIn_1 := dk_seg dksX9_takeIn_0 23 rfl rfl
theorem dksX9_takeIn_2 : cX9_takeIn.data.toList.drop 47 = dktX9_takeIn_2 := dk_seg dksX9_takeIn_1 24 rfl rfl
theorem dksX9_takeIn_3 : cX9_takeIn.data.toList.drop 70 = dktX9_takeIn_3 := dk_seg dksX9_takeIn_2 23 rfl rfl
theorem dksX9_takeIn_4 : cX9_takeIn.data.toList.drop 92 = dktX9_takeIn_4 := dk_seg dksX9_takeIn_3 22 rfl rfl
theorem dksX9_takeIn_5 : cX9_takeIn.data.toList.drop 116 = dktX9_takeIn_5 := dk_seg dksX9_takeIn_4 24 rfl rfl
theorem dX9_takeIn_0 : decode cX9_takeIn 0 = .ok (.aload_n 0, 1) := dk_42 (dk_at dksX9_takeIn_0 0 rfl rfl)
theorem dX9_takeIn_1 : decode cX9_takeIn 1 = .ok (.iconst 0, 1) := dk_3 (dk_at dksX9_takeIn_0 1 rfl rfl)
theorem dX9_takeIn_2 : decode cX9_takeIn 2 = .ok (.putfield 412, 3) := dk_181 1 156 (dk_at dksX9_takeIn_0 2 rfl rfl)
theorem dX9_takeIn_5 : decode cX9_takeIn 5 = .ok (.aload_n 0, 1) := dk_42 (dk_at dksX9_takeIn_0 5 rfl rfl)
theorem dX9_takeIn_6 : decode cX9_takeIn 6 = .ok (.aload_n 0, 1) := dk_42 (dk_at dksX9_takeIn_0 6 rfl rfl)
theorem dX9_takeIn_7 : decode cX9_takeIn 7 = .ok (.getfield 255, 3) := dk_180 0 255 (dk_at dksX9_takeIn_0 7 rfl rfl)
theorem dX9_takeIn_10 : decode cX9_takeIn 10 = .ok (.iconst 2, 1) := dk_5 (dk_at dksX9_takeIn_0 10 rfl rfl)
theorem dX9_takeIn_11 : decode cX9_takeIn 11 = .ok (.isub, 1) := dk_100 (dk_at dksX9_takeIn_0 11 rfl rfl)
theorem dX9_takeIn_12 : decode cX9_takeIn 12 = .ok (.putfield 415, 3) := dk_181 1 159 (dk_at dksX9_takeIn_0 12 rfl rfl)
theorem dX9_takeIn_15 : decode cX9_takeIn 15 = .ok (.aload_n 0, 1) := dk_42 (dk_at dksX9_takeIn_0 15 rfl rfl)
theorem dX9_takeIn_16 : decode cX9_takeIn 16 = .ok (.getfield 17, 3) := dk_180 0 17 (dk_at dksX9_takeIn_0 16 rfl rfl)
theorem dX9_takeIn_19 : decode cX9_takeIn 19 = .ok (.iload_n 1, 1) := dk_27 (dk_at dksX9_takeIn_0 19 rfl rfl)
theorem dX9_takeIn_20 : decode cX9_takeIn 20 = .ok (.iconst 0, 1) := dk_3 (dk_at dksX9_takeIn_0 20 rfl rfl)
theorem dX9_takeIn_21 : decode cX9_takeIn 21 = .ok (.iastore, 1) := dk_79 (dk_at dksX9_takeIn_0 21 rfl rfl)
theorem dX9_takeIn_22 : decode cX9_takeIn 22 = .ok (.aload_n 0, 1) := dk_42 (dk_at dksX9_takeIn_0 22 rfl rfl)
theorem dX9_takeIn_23 : decode cX9_takeIn 23 = .ok (.getfield 20, 3) := dk_180 0 20 (dk_at dksX9_takeIn_1 0 rfl rfl)
theorem dX9_takeIn_26 : decode cX9_takeIn 26 = .ok (.iload_n 1, 1) := dk_27 (dk_at dksX9_takeIn_1 3 rfl rfl)
theorem dX9_takeIn_27 : decode cX9_takeIn 27 = .ok (.iconst 0, 1) := dk_3 (dk_at dksX9_takeIn_1 4 rfl rfl)
theorem dX9_takeIn_28 : decode cX9_takeIn 28 = .ok (.iastore, 1) := dk_79 (dk_at dksX9_takeIn_1 5 rfl rfl)
theorem dX9_takeIn_29 : decode cX9_takeIn 29 = .ok (.aload_n 0, 1) := dk_42 (dk_at dksX9_takeIn_1 6 rfl rfl)
theorem dX9_takeIn_30 : decode cX9_takeIn 30 = .ok (.invokevirtual 418, 3) := dk_182 1 162 (dk_at dksX9_takeIn_1 7 rfl rfl)
theorem dX9_takeIn_33 : decode cX9_takeIn 33 = .ok (.istore_n 2, 1) := dk_61 (dk_at dksX9_takeIn_1 10 rfl rfl)
theorem dX9_takeIn_34 : decode cX9_takeIn 34 = .ok (.iload_n 2, 1) := dk_28 (dk_at dksX9_takeIn_1 11 rfl rfl)
theorem dX9_takeIn_35 : decode cX9_takeIn 35 = .ok (.iconst 0, 1) := dk_3 (dk_at dksX9_takeIn_1 12 rfl rfl)
theorem dX9_takeIn_36 : decode cX9_takeIn 36 = .ok (.bipush 100, 2) := dk_16 100 (dk_at dksX9_takeIn_1 13 rfl rfl)
theorem dX9_takeIn_38 : decode cX9_takeIn 38 = .ok (.invokestatic 156, 3) := dk_184 0 156 (dk_at dksX9_takeIn_1 15 rfl rfl)
theorem dX9_takeIn_41 : decode cX9_takeIn 41 = .ok (.ifCond .ne 5, 3) := dk_154 0 5 (dk_at dksX9_takeIn_1 18 rfl rfl)
theorem dX9_takeIn_44 : decode cX9_takeIn 44 = .ok (.iconst 0, 1) := dk_3 (dk_at dksX9_takeIn_1 21 rfl rfl)
theorem dX9_takeIn_45 : decode cX9_takeIn 45 = .ok (.ireturn, 1) := dk_172 (dk_at dksX9_takeIn_1 22 rfl rfl)
theorem dX9_takeIn_46 : decode cX9_takeIn 46 = .ok (.iconst 0, 1) := dk_3 (dk_at dksX9_takeIn_1 23 rfl rfl)
theorem dX9_takeIn_47 : decode cX9_takeIn 47 = .ok (.istore_n 3, 1) := dk_62 (dk_at dksX9_takeIn_2 0 rfl rfl)
theorem dX9_takeIn_48 : decode cX9_takeIn 48 = .ok (.iload_n 3, 1) := dk_29 (dk_at dksX9_takeIn_2 1 rfl rfl)
theorem dX9_takeIn_49 : decode cX9_takeIn 49 = .ok (.iload_n 2, 1) := dk_28 (dk_at dksX9_takeIn_2 2 rfl rfl)
theorem dX9_takeIn_50 : decode cX9_takeIn 50 = .ok (.if_icmp .ge 19, 3) := dk_162 0 19 (dk_at dksX9_takeIn_2 3 rfl rfl)
theorem dX9_takeIn_53 : decode cX9_takeIn 53 = .ok (.aload_n 0, 1) := dk_42 (dk_at dksX9_takeIn_2 6 rfl rfl)
theorem dX9_takeIn_54 : decode cX9_takeIn 54 = .ok (.iload_n 1, 1) := dk_27 (dk_at dksX9_takeIn_2 7 rfl rfl)
theorem dX9_takeIn_55 : decode cX9_takeIn 55 = .ok (.invokevirtual 422, 3) := dk_182 1 166 (dk_at dksX9_takeIn_2 8 rfl rfl)
theorem dX9_takeIn_58 : decode cX9_takeIn 58 = .ok (.ifCond .ne 5, 3) := dk_154 0 5 (dk_at dksX9_takeIn_2 11 rfl rfl)
theorem dX9_takeIn_61 : decode cX9_takeIn 61 = .ok (.iconst 0, 1) := dk_3 (dk_at dksX9_takeIn_2 14 rfl rfl)
theorem dX9_takeIn_62 : decode cX9_takeIn 62 = .ok (.ireturn, 1) := dk_172 (dk_at dksX9_takeIn_2 15 rfl rfl)
theorem dX9_takeIn_63 : decode cX9_takeIn 63 = .ok (.iinc 3 1, 3) := dk_132 3 1 (dk_at dksX9_takeIn_2 16 rfl rfl)
theorem dX9_takeIn_66 : decode cX9_takeIn 66 = .ok (.goto (-18), 3) := dk_167 255 238 (dk_at dksX9_takeIn_2 19 rfl rfl)
theorem dX9_takeIn_69 : decode cX9_takeIn 69 = .ok (.aload_n 0, 1) := dk_42 (dk_at dksX9_takeIn_2 22 rfl rfl)
theorem dX9_takeIn_70 : decode cX9_takeIn 70 = .ok (.invokevirtual 418, 3) := dk_182 1 162 (dk_at dksX9_takeIn_3 0 rfl rfl)
theorem dX9_takeIn_73 : decode cX9_takeIn 73 = .ok (.istore_n 3, 1) := dk_62 (dk_at dksX9_takeIn_3 3 rfl rfl)
theorem dX9_takeIn_74 : decode cX9_takeIn 74 = .ok (.iload_n 3, 1) := dk_29 (dk_at dksX9_takeIn_3 4 rfl rfl)
theorem dX9_takeIn_75 : decode cX9_takeIn 75 = .ok (.iconst 0, 1) := dk_3 (dk_at dksX9_takeIn_3 5 rfl rfl)
theorem dX9_takeIn_76 : decode cX9_takeIn 76 = .ok (.bipush 10, 2) := dk_16 10 (dk_at dksX9_takeIn_3 6 rfl rfl)
theorem dX9_takeIn_78 : decode cX9_takeIn 78 = .ok (.invokestatic 156, 3) := dk_184 0 156 (dk_at dksX9_takeIn_3 8 rfl rfl)
theorem dX9_takeIn_81 : decode cX9_takeIn 81 = .ok (.ifCond .ne 5, 3) := dk_154 0 5 (dk_at dksX9_takeIn_3 11 rfl rfl)
theorem dX9_takeIn_84 : decode cX9_takeIn 84 = .ok (.iconst 0, 1) := dk_3 (dk_at dksX9_takeIn_3 14 rfl rfl)
theorem dX9_takeIn_85 : decode cX9_takeIn 85 = .ok (.ireturn, 1) := dk_172 (dk_at dksX9_takeIn_3 15 rfl rfl)
theorem dX9_takeIn_86 : decode cX9_takeIn 86 = .ok (.iconst 0, 1) := dk_3 (dk_at dksX9_takeIn_3 16 rfl rfl)
theorem dX9_takeIn_87 : decode cX9_takeIn 87 = .ok (.istore 4, 2) := dk_54 4 (dk_at dksX9_takeIn_3 17 rfl rfl)
theorem dX9_takeIn_89 : decode cX9_takeIn 89 = .ok (.iload 4, 2) := dk_21 4 (dk_at dksX9_takeIn_3 19 rfl rfl)
theorem dX9_takeIn_91 : decode cX9_takeIn 91 = .ok (.iload_n 3, 1) := dk_29 (dk_at dksX9_takeIn_3 21 rfl rfl)
theorem dX9_takeIn_92 : decode cX9_takeIn 92 = .ok (.if_icmp .ge 19, 3) := dk_162 0 19 (dk_at dksX9_takeIn_4 0 rfl rfl)
theorem dX9_takeIn_95 : decode cX9_takeIn 95 = .ok (.aload_n 0, 1) := dk_42 (dk_at dksX9_takeIn_4 3 rfl rfl)
theorem dX9_takeIn_96 : decode cX9_takeIn 96 = .ok (.iload_n 1, 1) := dk_27 (dk_at dksX9_takeIn_4 4 rfl rfl)
theorem dX9_takeIn_97 : decode cX9_takeIn 97 = .ok (.invokevirtual 425, 3) := dk_182 1 169 (dk_at dksX9_takeIn_4 5 rfl rfl)
theorem dX9_takeIn_100 : decode cX9_takeIn 100 = .ok (.ifCond .ne 5, 3) := dk_154 0 5 (dk_at dksX9_takeIn_4 8 rfl rfl)
theorem dX9_takeIn_103 : decode cX9_takeIn 103 = .ok (.iconst 0, 1) := dk_3 (dk_at dksX9_takeIn_4 11 rfl rfl)
theorem dX9_takeIn_104 : decode cX9_takeIn 104 = .ok (.ireturn, 1) := dk_172 (dk_at dksX9_takeIn_4 12 rfl rfl)
theorem dX9_takeIn_105 : decode cX9_takeIn 105 = .ok (.iinc 4 1, 3) := dk_132 4 1 (dk_at dksX9_takeIn_4 13 rfl rfl)
theorem dX9_takeIn_108 : decode cX9_takeIn 108 = .ok (.goto (-19), 3) := dk_167 255 237 (dk_at dksX9_takeIn_4 16 rfl rfl)
theorem dX9_takeIn_111 : decode cX9_takeIn 111 = .ok (.aload_n 0, 1) := dk_42 (dk_at dksX9_takeIn_4 19 rfl rfl)
theorem dX9_takeIn_112 : decode cX9_takeIn 112 = .ok (.getfield 412, 3) := dk_180 1 156 (dk_at dksX9_takeIn_4 20 rfl rfl)
theorem dX9_takeIn_115 : decode cX9_takeIn 115 = .ok (.aload_n 0, 1) := dk_42 (dk_at dksX9_takeIn_4 23 rfl rfl)
theorem dX9_takeIn_116 : decode cX9_takeIn 116 = .ok (.getfield 415, 3) := dk_180 1 159 (dk_at dksX9_takeIn_5 0 rfl rfl)
theorem dX9_takeIn_119 : decode cX9_takeIn 119 = .ok (.if_icmp .ne 15, 3) := dk_160 0 15 (dk_at dksX9_takeIn_5 3 rfl rfl)
theorem dX9_takeIn_122 : decode cX9_takeIn 122 = .ok (.aload_n 0, 1) := dk_42 (dk_at dksX9_takeIn_5 6 rfl rfl)
theorem dX9_takeIn_123 : decode cX9_takeIn 123 = .ok (.iload_n 1, 1) := dk_27 (dk_at dksX9_takeIn_5 7 rfl rfl)
theorem dX9_takeIn_124 : decode cX9_takeIn 124 = .ok (.invokevirtual 225, 3) := dk_182 0 225 (dk_at dksX9_takeIn_5 8 rfl rfl)
theorem dX9_takeIn_127 : decode cX9_takeIn 127 = .ok (.ifCond .eq 7, 3) := dk_153 0 7 (dk_at dksX9_takeIn_5 11 rfl rfl)
theorem dX9_takeIn_130 : decode cX9_takeIn 130 = .ok (.iconst 1, 1) := dk_4 (dk_at dksX9_takeIn_5 14 rfl rfl)
theorem dX9_takeIn_131 : decode cX9_takeIn 131 = .ok (.goto 4, 3) := dk_167 0 4 (dk_at dksX9_takeIn_5 15 rfl rfl)
theorem dX9_takeIn_134 : decode cX9_takeIn 134 = .ok (.iconst 0, 1) := dk_3 (dk_at dksX9_takeIn_5 18 rfl rfl)
theorem dX9_takeIn_135 : decode cX9_takeIn 135 = .ok (.ireturn, 1) := dk_172 (dk_at dksX9_takeIn_5 19 rfl rfl)
abbrev cX9_next : ByteArray := prog_17_method_85_code
def yX9_next : MethodName := ⟨RX9, "next", "()I"⟩
def dkwX9_next_1 : List UInt8 := [60, 42, 89, 180, 1, 156, 4, 96, 181, 1, 156, 27, 172]
abbrev dktX9_next_1 : List UInt8 := dkwX9_next_1 ++ []
def dkwX9_next_0 : List UInt8 := [42, 180, 1, 156, 42, 180, 1, 159, 162, 0, 15, 42, 180, 0, 50, 42, 180, 1, 156, 46, 167, 0, 4, 2]
abbrev dktX9_next_0 : List UInt8 := dkwX9_next_0 ++ dktX9_next_1
theorem dksX9_next_0 : cX9_next.data.toList.drop 0 = dktX9_next_0 := by decide +kernel
theorem dksX9_next_1 : cX9_next.data.toList.drop 24 = dktX9_next_1 := dk_seg dksX9_next_0 24 rfl rfl
theorem dX9_next_0 : decode cX9_next 0 = .ok (.aload_n 0, 1) := dk_42 (dk_at dksX9_next_0 0 rfl rfl)
theorem dX9_next_1 : decode cX9_next 1 = .ok (.getfield 412, 3) := dk_180 1 156 (dk_at dksX9_next_0 1 rfl rfl)
theorem dX9_next_4 : decode cX9_next 4 = .ok (.aload_n 0, 1) := dk_42 (dk_at dksX9_next_0 4 rfl rfl)
theorem dX9_next_5 : decode cX9_next 5 = .ok (.getfield 415, 3) := dk_180 1 159 (dk_at dksX9_next_0 5 rfl rfl)
theorem dX9_next_8 : decode cX9_next 8 = .ok (.if_icmp .ge 15, 3) := dk_162 0 15 (dk_at dksX9_next_0 8 rfl rfl)
theorem dX9_next_11 : decode cX9_next 11 = .ok (.aload_n 0, 1) := dk_42 (dk_at dksX9_next_0 11 rfl rfl)
theorem dX9_next_12 : decode cX9_next 12 = .ok (.getfield 50, 3) := dk_180 0 50 (dk_at dksX9_next_0 12 rfl rfl)
theorem dX9_next_15 : decode cX9_next 15 = .ok (.aload_n 0, 1) := dk_42 (dk_at dksX9_next_0 15 rfl rfl)
theorem dX9_next_16 : decode cX9_next 16 = .ok (.getfield 412, 3) := dk_180 1 156 (dk_at dksX9_next_0 16 rfl rfl)
theorem dX9_next_19 : decode cX9_next 19 = .ok (.iaload, 1) := dk_46 (dk_at dksX9_next_0 19 rfl rfl)
theorem dX9_next_20 : decode cX9_next 20 = .ok (.goto 4, 3) := dk_167 0 4 (dk_at dksX9_next_0 20 rfl rfl)
theorem dX9_next_23 : decode cX9_next 23 = .ok (.iconst (-1), 1) := dk_2 (dk_at dksX9_next_0 23 rfl rfl)
theorem dX9_next_24 : decode cX9_next 24 = .ok (.istore_n 1, 1) := dk_60 (dk_at dksX9_next_1 0 rfl rfl)
theorem dX9_next_25 : decode cX9_next 25 = .ok (.aload_n 0, 1) := dk_42 (dk_at dksX9_next_1 1 rfl rfl)
theorem dX9_next_26 : decode cX9_next 26 = .ok (.dup, 1) := dk_89 (dk_at dksX9_next_1 2 rfl rfl)
theorem dX9_next_27 : decode cX9_next 27 = .ok (.getfield 412, 3) := dk_180 1 156 (dk_at dksX9_next_1 3 rfl rfl)
theorem dX9_next_30 : decode cX9_next 30 = .ok (.iconst 1, 1) := dk_4 (dk_at dksX9_next_1 6 rfl rfl)
theorem dX9_next_31 : decode cX9_next 31 = .ok (.iadd, 1) := dk_96 (dk_at dksX9_next_1 7 rfl rfl)
theorem dX9_next_32 : decode cX9_next 32 = .ok (.putfield 412, 3) := dk_181 1 156 (dk_at dksX9_next_1 8 rfl rfl)
theorem dX9_next_35 : decode cX9_next 35 = .ok (.iload_n 1, 1) := dk_27 (dk_at dksX9_next_1 11 rfl rfl)
theorem dX9_next_36 : decode cX9_next 36 = .ok (.ireturn, 1) := dk_172 (dk_at dksX9_next_1 12 rfl rfl)
abbrev cX9_takeEntry : ByteArray := prog_17_method_87_code
def yX9_takeEntry : MethodName := ⟨RX9, "takeEntry", "(I)Z"⟩
def dkwX9_takeEntry_9 : List UInt8 := [4, 96, 79, 4, 172]
abbrev dktX9_takeEntry_9 : List UInt8 := dkwX9_takeEntry_9 ++ []
def dkwX9_takeEntry_8 : List UInt8 := [180, 0, 35, 21, 7, 21, 6, 4, 160, 0, 7, 4, 167, 0, 4, 3, 84, 42, 180, 0, 17, 27, 92, 46]
abbrev dktX9_takeEntry_8 : List UInt8 := dkwX9_takeEntry_8 ++ dktX9_takeEntry_9
def dkwX9_takeEntry_7 : List UInt8 := [21, 7, 29, 79, 42, 180, 0, 29, 21, 7, 21, 4, 79, 42, 180, 0, 32, 21, 7, 21, 5, 79, 42]
abbrev dktX9_takeEntry_7 : List UInt8 := dkwX9_takeEntry_7 ++ dktX9_takeEntry_8
def dkwX9_takeEntry_6 : List UInt8 := [27, 104, 42, 180, 0, 17, 27, 46, 96, 54, 7, 42, 180, 0, 23, 21, 7, 28, 79, 42, 180, 0, 26]
abbrev dktX9_takeEntry_6 : List UInt8 := dkwX9_takeEntry_6 ++ dktX9_takeEntry_7
def dkwX9_takeEntry_5 : List UInt8 := [21, 5, 184, 0, 187, 153, 0, 15, 42, 27, 28, 21, 4, 29, 182, 0, 190, 155, 0, 5, 3, 172, 16, 100]
abbrev dktX9_takeEntry_5 : List UInt8 := dkwX9_takeEntry_5 ++ dktX9_takeEntry_6
def dkwX9_takeEntry_4 : List UInt8 := [132, 6, 1, 167, 255, 231, 42, 182, 1, 162, 54, 6, 21, 6, 155, 0, 29, 21, 6, 4, 163, 0, 23]
abbrev dktX9_takeEntry_4 : List UInt8 := dkwX9_takeEntry_4 ++ dktX9_takeEntry_5
def dkwX9_takeEntry_3 : List UInt8 := [21, 6, 6, 162, 0, 25, 21, 5, 16, 8, 120, 42, 182, 1, 162, 17, 0, 255, 126, 128, 54, 5]
abbrev dktX9_takeEntry_3 : List UInt8 := dkwX9_takeEntry_3 ++ dktX9_takeEntry_4
def dkwX9_takeEntry_2 : List UInt8 := [120, 42, 182, 1, 162, 17, 0, 255, 126, 128, 54, 4, 132, 5, 1, 167, 255, 231, 3, 54, 5, 3, 54, 6]
abbrev dktX9_takeEntry_2 : List UInt8 := dkwX9_takeEntry_2 ++ dktX9_takeEntry_3
def dkwX9_takeEntry_1 : List UInt8 := [184, 0, 156, 154, 0, 5, 3, 172, 3, 54, 4, 3, 54, 5, 21, 5, 29, 162, 0, 25, 21, 4, 16, 8]
abbrev dktX9_takeEntry_1 : List UInt8 := dkwX9_takeEntry_1 ++ dktX9_takeEntry_2
def dkwX9_takeEntry_0 : List UInt8 := [42, 182, 1, 162, 61, 42, 182, 1, 162, 62, 28, 3, 6, 184, 0, 156, 153, 0, 12, 29, 4, 6]
abbrev dktX9_takeEntry_0 : List UInt8 := dkwX9_takeEntry_0 ++ dktX9_takeEntry_1
theorem dksX9_takeEntry_0 : cX9_takeEntry.data.toList.drop 0 = dktX9_takeEntry_0 := by decide +kernel
theorem dksX9_takeEntry_1 : cX9_takeEntry.data.toList.drop 22 = dktX9_takeEntry_1 := dk_seg dksX9_takeEntry_0 22 rfl rfl
theorem dksX9_takeEntry_2 : cX9_takeEntry.data.toList.drop 46 = dktX9_takeEntry_2 := dk_seg dksX9_takeEntry_1 24 rfl rfl
theorem dksX9_takeEntry_3 : cX9_takeEntry.data.toList.drop 70 = dktX9_takeEntry_3 := dk_seg dksX9_takeEntry_2 24 rfl rfl
theorem dksX9_takeEntry_4 : cX9_takeEntry.data.toList.drop 92 = dktX9_takeEntry_4 := dk_seg dksX9_takeEntry_3 22 rfl rfl
theorem dksX9_takeEntry_5 : cX9_takeEntry.data.toList.drop 115 = dktX9_takeEntry_5 := dk_seg dksX9_takeEntry_4 23 rfl rfl
theorem dksX9_takeEntry_6 : cX9_takeEntry.data.toList.drop 139 = dktX9_takeEntry_6 := dk_seg dksX9_takeEntry_5 24 rfl rfl
theorem dksX9_takeEntry_7 : cX9_takeEntry.data.toList.drop 162 = dktX9_takeEntry_7 := dk_seg dksX9_takeEntry_6 23 rfl rfl
theorem dksX9_takeEntry_8 : cX9_takeEntry.data.toList.drop 185 = dktX9_takeEntry_8 := dk_seg dksX9_takeEntry_7 23 rfl rfl
theorem dksX9_takeEntry_9 : cX9_takeEntry.data.toList.drop 209 = dktX9_takeEntry_9 := dk_seg dksX9_takeEntry_8 24 rfl rfl
theorem dX9_takeEntry_0 : decode cX9_takeEntry 0 = .ok (.aload_n 0, 1) := dk_42 (dk_at dksX9_takeEntry_0 0 rfl rfl)
theorem dX9_takeEntry_1 : decode cX9_takeEntry 1 = .ok (.invokevirtual 418, 3) := dk_182 1 162 (dk_at dksX9_takeEntry_0 1 rfl rfl)
theorem dX9_takeEntry_4 : decode cX9_takeEntry 4 = .ok (.istore_n 2, 1) := dk_61 (dk_at dksX9_takeEntry_0 4 rfl rfl)
theorem dX9_takeEntry_5 : decode cX9_takeEntry 5 = .ok (.aload_n 0, 1) := dk_42 (dk_at dksX9_takeEntry_0 5 rfl rfl)
theorem dX9_takeEntry_6 : decode cX9_takeEntry 6 = .ok (.invokevirtual 418, 3) := dk_182 1 162 (dk_at dksX9_takeEntry_0 6 rfl rfl)
theorem dX9_takeEntry_9 : decode cX9_takeEntry 9 = .ok (.istore_n 3, 1) := dk_62 (dk_at dksX9_takeEntry_0 9 rfl rfl)
theorem dX9_takeEntry_10 : decode cX9_takeEntry 10 = .ok (.iload_n 2, 1) := dk_28 (dk_at dksX9_takeEntry_0 10 rfl rfl)
theorem dX9_takeEntry_11 : decode cX9_takeEntry 11 = .ok (.iconst 0, 1) := dk_3 (dk_at dksX9_takeEntry_0 11 rfl rfl)
theorem dX9_takeEntry_12 : decode cX9_takeEntry 12 = .ok (.iconst 3, 1) := dk_6 (dk_at dksX9_takeEntry_0 12 rfl rfl)
theorem dX9_takeEntry_13 : decode cX9_takeEntry 13 = .ok (.invokestatic 156, 3) := dk_184 0 156 (dk_at dksX9_takeEntry_0 13 rfl rfl)
theorem dX9_takeEntry_16 : decode cX9_takeEntry 16 = .ok (.ifCond .eq 12, 3) := dk_153 0 12 (dk_at dksX9_takeEntry_0 16 rfl rfl)
theorem dX9_takeEntry_19 : decode cX9_takeEntry 19 = .ok (.iload_n 3, 1) := dk_29 (dk_at dksX9_takeEntry_0 19 rfl rfl)
theorem dX9_takeEntry_20 : decode cX9_takeEntry 20 = .ok (.iconst 1, 1) := dk_4 (dk_at dksX9_takeEntry_0 20 rfl rfl)
theorem dX9_takeEntry_21 : decode cX9_takeEntry 21 = .ok (.iconst 3, 1) := dk_6 (dk_at dksX9_takeEntry_0 21 rfl rfl)
theorem dX9_takeEntry_22 : decode cX9_takeEntry 22 = .ok (.invokestatic 156, 3) := dk_184 0 156 (dk_at dksX9_takeEntry_1 0 rfl rfl)
theorem dX9_takeEntry_25 : decode cX9_takeEntry 25 = .ok (.ifCond .ne 5, 3) := dk_154 0 5 (dk_at dksX9_takeEntry_1 3 rfl rfl)
theorem dX9_takeEntry_28 : decode cX9_takeEntry 28 = .ok (.iconst 0, 1) := dk_3 (dk_at dksX9_takeEntry_1 6 rfl rfl)
theorem dX9_takeEntry_29 : decode cX9_takeEntry 29 = .ok (.ireturn, 1) := dk_172 (dk_at dksX9_takeEntry_1 7 rfl rfl)
theorem dX9_takeEntry_30 : decode cX9_takeEntry 30 = .ok (.iconst 0, 1) := dk_3 (dk_at dksX9_takeEntry_1 8 rfl rfl)
theorem dX9_takeEntry_31 : decode cX9_takeEntry 31 = .ok (.istore 4, 2) := dk_54 4 (dk_at dksX9_takeEntry_1 9 rfl rfl)
theorem dX9_takeEntry_33 : decode cX9_takeEntry 33 = .ok (.iconst 0, 1) := dk_3 (dk_at dksX9_takeEntry_1 11 rfl rfl)
theorem dX9_takeEntry_34 : decode cX9_takeEntry 34 = .ok (.istore 5, 2) := dk_54 5 (dk_at dksX9_takeEntry_1 12 rfl rfl)
theorem dX9_takeEntry_36 : decode cX9_takeEntry 36 = .ok (.iload 5, 2) := dk_21 5 (dk_at dksX9_takeEntry_1 14 rfl rfl)
theorem dX9_takeEntry_38 : decode cX9_takeEntry 38 = .ok (.iload_n 3, 1) := dk_29 (dk_at dksX9_takeEntry_1 16 rfl rfl)
theorem dX9_takeEntry_39 : decode cX9_takeEntry 39 = .ok (.if_icmp .ge 25, 3) := dk_162 0 25 (dk_at dksX9_takeEntry_1 17 rfl rfl)
theorem dX9_takeEntry_42 : decode cX9_takeEntry 42 = .ok (.iload 4, 2) := dk_21 4 (dk_at dksX9_takeEntry_1 20 rfl rfl)
theorem dX9_takeEntry_44 : decode cX9_takeEntry 44 = .ok (.bipush 8, 2) := dk_16 8 (dk_at dksX9_takeEntry_1 22 rfl rfl)
theorem dX9_takeEntry_46 : decode cX9_takeEntry 46 = .ok (.ishl, 1) := dk_120 (dk_at dksX9_takeEntry_2 0 rfl rfl)
theorem dX9_takeEntry_47 : decode cX9_takeEntry 47 = .ok (.aload_n 0, 1) := dk_42 (dk_at dksX9_takeEntry_2 1 rfl rfl)
theorem dX9_takeEntry_48 : decode cX9_takeEntry 48 = .ok (.invokevirtual 418, 3) := dk_182 1 162 (dk_at dksX9_takeEntry_2 2 rfl rfl)
theorem dX9_takeEntry_51 : decode cX9_takeEntry 51 = .ok (.sipush 255, 3) := dk_17 0 255 (dk_at dksX9_takeEntry_2 5 rfl rfl)
theorem dX9_takeEntry_54 : decode cX9_takeEntry 54 = .ok (.iand, 1) := dk_126 (dk_at dksX9_takeEntry_2 8 rfl rfl)
theorem dX9_takeEntry_55 : decode cX9_takeEntry 55 = .ok (.ior, 1) := dk_128 (dk_at dksX9_takeEntry_2 9 rfl rfl)
theorem dX9_takeEntry_56 : decode cX9_takeEntry 56 = .ok (.istore 4, 2) := dk_54 4 (dk_at dksX9_takeEntry_2 10 rfl rfl)
theorem dX9_takeEntry_58 : decode cX9_takeEntry 58 = .ok (.iinc 5 1, 3) := dk_132 5 1 (dk_at dksX9_takeEntry_2 12 rfl rfl)
theorem dX9_takeEntry_61 : decode cX9_takeEntry 61 = .ok (.goto (-25), 3) := dk_167 255 231 (dk_at dksX9_takeEntry_2 15 rfl rfl)
theorem dX9_takeEntry_64 : decode cX9_takeEntry 64 = .ok (.iconst 0, 1) := dk_3 (dk_at dksX9_takeEntry_2 18 rfl rfl)
theorem dX9_takeEntry_65 : decode cX9_takeEntry 65 = .ok (.istore 5, 2) := dk_54 5 (dk_at dksX9_takeEntry_2 19 rfl rfl)
theorem dX9_takeEntry_67 : decode cX9_takeEntry 67 = .ok (.iconst 0, 1) := dk_3 (dk_at dksX9_takeEntry_2 21 rfl rfl)
theorem dX9_takeEntry_68 : decode cX9_takeEntry 68 = .ok (.istore 6, 2) := dk_54 6 (dk_at dksX9_takeEntry_2 22 rfl rfl)
theorem dX9_takeEntry_70 : decode cX9_takeEntry 70 = .ok (.iload 6, 2) := dk_21 6 (dk_at dksX9_takeEntry_3 0 rfl rfl)
theorem dX9_takeEntry_72 : decode cX9_takeEntry 72 = .ok (.iconst 3, 1) := dk_6 (dk_at dksX9_takeEntry_3 2 rfl rfl)
theorem dX9_takeEntry_73 : decode cX9_takeEntry 73 = .ok (.if_icmp .ge 25, 3) := dk_162 0 25 (dk_at dksX9_takeEntry_3 3 rfl rfl)
theorem dX9_takeEntry_76 : decode cX9_takeEntry 76 = .ok (.iload 5, 2) := dk_21 5 (dk_at dksX9_takeEntry_3 6 rfl rfl)
theorem dX9_takeEntry_78 : decode cX9_takeEntry 78 = .ok (.bipush 8, 2) := dk_16 8 (dk_at dksX9_takeEntry_3 8 rfl rfl)
theorem dX9_takeEntry_80 : decode cX9_takeEntry 80 = .ok (.ishl, 1) := dk_120 (dk_at dksX9_takeEntry_3 10 rfl rfl)
theorem dX9_takeEntry_81 : decode cX9_takeEntry 81 = .ok (.aload_n 0, 1) := dk_42 (dk_at dksX9_takeEntry_3 11 rfl rfl)
theorem dX9_takeEntry_82 : decode cX9_takeEntry 82 = .ok (.invokevirtual 418, 3) := dk_182 1 162 (dk_at dksX9_takeEntry_3 12 rfl rfl)
theorem dX9_takeEntry_85 : decode cX9_takeEntry 85 = .ok (.sipush 255, 3) := dk_17 0 255 (dk_at dksX9_takeEntry_3 15 rfl rfl)
theorem dX9_takeEntry_88 : decode cX9_takeEntry 88 = .ok (.iand, 1) := dk_126 (dk_at dksX9_takeEntry_3 18 rfl rfl)
theorem dX9_takeEntry_89 : decode cX9_takeEntry 89 = .ok (.ior, 1) := dk_128 (dk_at dksX9_takeEntry_3 19 rfl rfl)
theorem dX9_takeEntry_90 : decode cX9_takeEntry 90 = .ok (.istore 5, 2) := dk_54 5 (dk_at dksX9_takeEntry_3 20 rfl rfl)
theorem dX9_takeEntry_92 : decode cX9_takeEntry 92 = .ok (.iinc 6 1, 3) := dk_132 6 1 (dk_at dksX9_takeEntry_4 0 rfl rfl)
theorem dX9_takeEntry_95 : decode cX9_takeEntry 95 = .ok (.goto (-25), 3) := dk_167 255 231 (dk_at dksX9_takeEntry_4 3 rfl rfl)
theorem dX9_takeEntry_98 : decode cX9_takeEntry 98 = .ok (.aload_n 0, 1) := dk_42 (dk_at dksX9_takeEntry_4 6 rfl rfl)
theorem dX9_takeEntry_99 : decode cX9_takeEntry 99 = .ok (.invokevirtual 418, 3) := dk_182 1 162 (dk_at dksX9_takeEntry_4 7 rfl rfl)
theorem dX9_takeEntry_102 : decode cX9_takeEntry 102 = .ok (.istore 6, 2) := dk_54 6 (dk_at dksX9_takeEntry_4 10 rfl rfl)
theorem dX9_takeEntry_104 : decode cX9_takeEntry 104 = .ok (.iload 6, 2) := dk_21 6 (dk_at dksX9_takeEntry_4 12 rfl rfl)
theorem dX9_takeEntry_106 : decode cX9_takeEntry 106 = .ok (.ifCond .lt 29, 3) := dk_155 0 29 (dk_at dksX9_takeEntry_4 14 rfl rfl)
theorem dX9_takeEntry_109 : decode cX9_takeEntry 109 = .ok (.iload 6, 2) := dk_21 6 (dk_at dksX9_takeEntry_4 17 rfl rfl)
theorem dX9_takeEntry_111 : decode cX9_takeEntry 111 = .ok (.iconst 1, 1) := dk_4 (dk_at dksX9_takeEntry_4 19 rfl rfl)
theorem dX9_takeEntry_112 : decode cX9_takeEntry 112 = .ok (.if_icmp .gt 23, 3) := dk_163 0 23 (dk_at dksX9_takeEntry_4 20 rfl rfl)
theorem dX9_takeEntry_115 : decode cX9_takeEntry 115 = .ok (.iload 5, 2) := dk_21 5 (dk_at dksX9_takeEntry_5 0 rfl rfl)
theorem dX9_takeEntry_117 : decode cX9_takeEntry 117 = .ok (.invokestatic 187, 3) := dk_184 0 187 (dk_at dksX9_takeEntry_5 2 rfl rfl)
theorem dX9_takeEntry_120 : decode cX9_takeEntry 120 = .ok (.ifCond .eq 15, 3) := dk_153 0 15 (dk_at dksX9_takeEntry_5 5 rfl rfl)
theorem dX9_takeEntry_123 : decode cX9_takeEntry 123 = .ok (.aload_n 0, 1) := dk_42 (dk_at dksX9_takeEntry_5 8 rfl rfl)
theorem dX9_takeEntry_124 : decode cX9_takeEntry 124 = .ok (.iload_n 1, 1) := dk_27 (dk_at dksX9_takeEntry_5 9 rfl rfl)
theorem dX9_takeEntry_125 : decode cX9_takeEntry 125 = .ok (.iload_n 2, 1) := dk_28 (dk_at dksX9_takeEntry_5 10 rfl rfl)
theorem dX9_takeEntry_126 : decode cX9_takeEntry 126 = .ok (.iload 4, 2) := dk_21 4 (dk_at dksX9_takeEntry_5 11 rfl rfl)
theorem dX9_takeEntry_128 : decode cX9_takeEntry 128 = .ok (.iload_n 3, 1) := dk_29 (dk_at dksX9_takeEntry_5 13 rfl rfl)
theorem dX9_takeEntry_129 : decode cX9_takeEntry 129 = .ok (.invokevirtual 190, 3) := dk_182 0 190 (dk_at dksX9_takeEntry_5 14 rfl rfl)
theorem dX9_takeEntry_132 : decode cX9_takeEntry 132 = .ok (.ifCond .lt 5, 3) := dk_155 0 5 (dk_at dksX9_takeEntry_5 17 rfl rfl)
theorem dX9_takeEntry_135 : decode cX9_takeEntry 135 = .ok (.iconst 0, 1) := dk_3 (dk_at dksX9_takeEntry_5 20 rfl rfl)
theorem dX9_takeEntry_136 : decode cX9_takeEntry 136 = .ok (.ireturn, 1) := dk_172 (dk_at dksX9_takeEntry_5 21 rfl rfl)
theorem dX9_takeEntry_137 : decode cX9_takeEntry 137 = .ok (.bipush 100, 2) := dk_16 100 (dk_at dksX9_takeEntry_5 22 rfl rfl)
theorem dX9_takeEntry_139 : decode cX9_takeEntry 139 = .ok (.iload_n 1, 1) := dk_27 (dk_at dksX9_takeEntry_6 0 rfl rfl)
theorem dX9_takeEntry_140 : decode cX9_takeEntry 140 = .ok (.imul, 1) := dk_104 (dk_at dksX9_takeEntry_6 1 rfl rfl)
theorem dX9_takeEntry_141 : decode cX9_takeEntry 141 = .ok (.aload_n 0, 1) := dk_42 (dk_at dksX9_takeEntry_6 2 rfl rfl)
theorem dX9_takeEntry_142 : decode cX9_takeEntry 142 = .ok (.getfield 17, 3) := dk_180 0 17 (dk_at dksX9_takeEntry_6 3 rfl rfl)
theorem dX9_takeEntry_145 : decode cX9_takeEntry 145 = .ok (.iload_n 1, 1) := dk_27 (dk_at dksX9_takeEntry_6 6 rfl rfl)
theorem dX9_takeEntry_146 : decode cX9_takeEntry 146 = .ok (.iaload, 1) := dk_46 (dk_at dksX9_takeEntry_6 7 rfl rfl)
theorem dX9_takeEntry_147 : decode cX9_takeEntry 147 = .ok (.iadd, 1) := dk_96 (dk_at dksX9_takeEntry_6 8 rfl rfl)
theorem dX9_takeEntry_148 : decode cX9_takeEntry 148 = .ok (.istore 7, 2) := dk_54 7 (dk_at dksX9_takeEntry_6 9 rfl rfl)
theorem dX9_takeEntry_150 : decode cX9_takeEntry 150 = .ok (.aload_n 0, 1) := dk_42 (dk_at dksX9_takeEntry_6 11 rfl rfl)
theorem dX9_takeEntry_151 : decode cX9_takeEntry 151 = .ok (.getfield 23, 3) := dk_180 0 23 (dk_at dksX9_takeEntry_6 12 rfl rfl)
theorem dX9_takeEntry_154 : decode cX9_takeEntry 154 = .ok (.iload 7, 2) := dk_21 7 (dk_at dksX9_takeEntry_6 15 rfl rfl)
theorem dX9_takeEntry_156 : decode cX9_takeEntry 156 = .ok (.iload_n 2, 1) := dk_28 (dk_at dksX9_takeEntry_6 17 rfl rfl)
theorem dX9_takeEntry_157 : decode cX9_takeEntry 157 = .ok (.iastore, 1) := dk_79 (dk_at dksX9_takeEntry_6 18 rfl rfl)
theorem dX9_takeEntry_158 : decode cX9_takeEntry 158 = .ok (.aload_n 0, 1) := dk_42 (dk_at dksX9_takeEntry_6 19 rfl rfl)
theorem dX9_takeEntry_159 : decode cX9_takeEntry 159 = .ok (.getfield 26, 3) := dk_180 0 26 (dk_at dksX9_takeEntry_6 20 rfl rfl)
theorem dX9_takeEntry_162 : decode cX9_takeEntry 162 = .ok (.iload 7, 2) := dk_21 7 (dk_at dksX9_takeEntry_7 0 rfl rfl)
theorem dX9_takeEntry_164 : decode cX9_takeEntry 164 = .ok (.iload_n 3, 1) := dk_29 (dk_at dksX9_takeEntry_7 2 rfl rfl)
theorem dX9_takeEntry_165 : decode cX9_takeEntry 165 = .ok (.iastore, 1) := dk_79 (dk_at dksX9_takeEntry_7 3 rfl rfl)
theorem dX9_takeEntry_166 : decode cX9_takeEntry 166 = .ok (.aload_n 0, 1) := dk_42 (dk_at dksX9_takeEntry_7 4 rfl rfl)
theorem dX9_takeEntry_167 : decode cX9_takeEntry 167 = .ok (.getfield 29, 3) := dk_180 0 29 (dk_at dksX9_takeEntry_7 5 rfl rfl)
theorem dX9_takeEntry_170 : decode cX9_takeEntry 170 = .ok (.iload 7, 2) := dk_21 7 (dk_at dksX9_takeEntry_7 8 rfl rfl)
theorem dX9_takeEntry_172 : decode cX9_takeEntry 172 = .ok (.iload 4, 2) := dk_21 4 (dk_at dksX9_takeEntry_7 10 rfl rfl)
theorem dX9_takeEntry_174 : decode cX9_takeEntry 174 = .ok (.iastore, 1) := dk_79 (dk_at dksX9_takeEntry_7 12 rfl rfl)
theorem dX9_takeEntry_175 : decode cX9_takeEntry 175 = .ok (.aload_n 0, 1) := dk_42 (dk_at dksX9_takeEntry_7 13 rfl rfl)
theorem dX9_takeEntry_176 : decode cX9_takeEntry 176 = .ok (.getfield 32, 3) := dk_180 0 32 (dk_at dksX9_takeEntry_7 14 rfl rfl)
theorem dX9_takeEntry_179 : decode cX9_takeEntry 179 = .ok (.iload 7, 2) := dk_21 7 (dk_at dksX9_takeEntry_7 17 rfl rfl)
theorem dX9_takeEntry_181 : decode cX9_takeEntry 181 = .ok (.iload 5, 2) := dk_21 5 (dk_at dksX9_takeEntry_7 19 rfl rfl)
theorem dX9_takeEntry_183 : decode cX9_takeEntry 183 = .ok (.iastore, 1) := dk_79 (dk_at dksX9_takeEntry_7 21 rfl rfl)
theorem dX9_takeEntry_184 : decode cX9_takeEntry 184 = .ok (.aload_n 0, 1) := dk_42 (dk_at dksX9_takeEntry_7 22 rfl rfl)
theorem dX9_takeEntry_185 : decode cX9_takeEntry 185 = .ok (.getfield 35, 3) := dk_180 0 35 (dk_at dksX9_takeEntry_8 0 rfl rfl)
theorem dX9_takeEntry_188 : decode cX9_takeEntry 188 = .ok (.iload 7, 2) := dk_21 7 (dk_at dksX9_takeEntry_8 3 rfl rfl)
theorem dX9_takeEntry_190 : decode cX9_takeEntry 190 = .ok (.iload 6, 2) := dk_21 6 (dk_at dksX9_takeEntry_8 5 rfl rfl)
theorem dX9_takeEntry_192 : decode cX9_takeEntry 192 = .ok (.iconst 1, 1) := dk_4 (dk_at dksX9_takeEntry_8 7 rfl rfl)
theorem dX9_takeEntry_193 : decode cX9_takeEntry 193 = .ok (.if_icmp .ne 7, 3) := dk_160 0 7 (dk_at dksX9_takeEntry_8 8 rfl rfl)
theorem dX9_takeEntry_196 : decode cX9_takeEntry 196 = .ok (.iconst 1, 1) := dk_4 (dk_at dksX9_takeEntry_8 11 rfl rfl)
theorem dX9_takeEntry_197 : decode cX9_takeEntry 197 = .ok (.goto 4, 3) := dk_167 0 4 (dk_at dksX9_takeEntry_8 12 rfl rfl)
theorem dX9_takeEntry_200 : decode cX9_takeEntry 200 = .ok (.iconst 0, 1) := dk_3 (dk_at dksX9_takeEntry_8 15 rfl rfl)
theorem dX9_takeEntry_201 : decode cX9_takeEntry 201 = .ok (.bastore, 1) := dk_84 (dk_at dksX9_takeEntry_8 16 rfl rfl)
theorem dX9_takeEntry_202 : decode cX9_takeEntry 202 = .ok (.aload_n 0, 1) := dk_42 (dk_at dksX9_takeEntry_8 17 rfl rfl)
theorem dX9_takeEntry_203 : decode cX9_takeEntry 203 = .ok (.getfield 17, 3) := dk_180 0 17 (dk_at dksX9_takeEntry_8 18 rfl rfl)
theorem dX9_takeEntry_206 : decode cX9_takeEntry 206 = .ok (.iload_n 1, 1) := dk_27 (dk_at dksX9_takeEntry_8 21 rfl rfl)
theorem dX9_takeEntry_207 : decode cX9_takeEntry 207 = .ok (.dup2, 1) := dk_92 (dk_at dksX9_takeEntry_8 22 rfl rfl)
theorem dX9_takeEntry_208 : decode cX9_takeEntry 208 = .ok (.iaload, 1) := dk_46 (dk_at dksX9_takeEntry_8 23 rfl rfl)
theorem dX9_takeEntry_209 : decode cX9_takeEntry 209 = .ok (.iconst 1, 1) := dk_4 (dk_at dksX9_takeEntry_9 0 rfl rfl)
theorem dX9_takeEntry_210 : decode cX9_takeEntry 210 = .ok (.iadd, 1) := dk_96 (dk_at dksX9_takeEntry_9 1 rfl rfl)
theorem dX9_takeEntry_211 : decode cX9_takeEntry 211 = .ok (.iastore, 1) := dk_79 (dk_at dksX9_takeEntry_9 2 rfl rfl)
theorem dX9_takeEntry_212 : decode cX9_takeEntry 212 = .ok (.iconst 1, 1) := dk_4 (dk_at dksX9_takeEntry_9 3 rfl rfl)
theorem dX9_takeEntry_213 : decode cX9_takeEntry 213 = .ok (.ireturn, 1) := dk_172 (dk_at dksX9_takeEntry_9 4 rfl rfl)
abbrev cX9_takeShift : ByteArray := prog_17_method_88_code
def yX9_takeShift : MethodName := ⟨RX9, "takeShift", "(I)Z"⟩
def dkwX9_takeShift_5 : List UInt8 := [4, 160, 0, 7, 4, 167, 0, 4, 3, 84, 42, 180, 0, 20, 27, 92, 46, 4, 96, 79, 4, 172]
abbrev dktX9_takeShift_5 : List UInt8 := dkwX9_takeShift_5 ++ []
def dkwX9_takeShift_4 : List UInt8 := [180, 0, 41, 21, 6, 29, 79, 42, 180, 0, 44, 21, 6, 21, 4, 79, 42, 180, 0, 47, 21, 6, 21, 5]
abbrev dktX9_takeShift_4 : List UInt8 := dkwX9_takeShift_4 ++ dktX9_takeShift_5
def dkwX9_takeShift_3 : List UInt8 := [172, 16, 10, 27, 104, 42, 180, 0, 20, 27, 46, 96, 54, 6, 42, 180, 0, 38, 21, 6, 28, 79, 42]
abbrev dktX9_takeShift_3 : List UInt8 := dkwX9_takeShift_3 ++ dktX9_takeShift_4
def dkwX9_takeShift_2 : List UInt8 := [159, 0, 23, 21, 5, 3, 4, 184, 0, 156, 153, 0, 13, 42, 27, 28, 29, 182, 0, 194, 155, 0, 5, 3]
abbrev dktX9_takeShift_2 : List UInt8 := dkwX9_takeShift_2 ++ dktX9_takeShift_3
def dkwX9_takeShift_1 : List UInt8 := [6, 184, 0, 156, 153, 0, 43, 29, 155, 0, 39, 21, 4, 3, 6, 184, 0, 156, 153, 0, 29, 28, 21, 4]
abbrev dktX9_takeShift_1 : List UInt8 := dkwX9_takeShift_1 ++ dktX9_takeShift_2
def dkwX9_takeShift_0 : List UInt8 := [42, 182, 1, 162, 61, 42, 182, 1, 162, 62, 42, 182, 1, 162, 54, 4, 42, 182, 1, 162, 54, 5, 28, 3]
abbrev dktX9_takeShift_0 : List UInt8 := dkwX9_takeShift_0 ++ dktX9_takeShift_1
theorem dksX9_takeShift_0 : cX9_takeShift.data.toList.drop 0 = dktX9_takeShift_0 := by decide +kernel
theorem dksX9_takeShift_1 : cX9_takeShift.data.toList.drop 24 = dktX9_takeShift_1 := dk_seg dksX9_takeShift_0 24 rfl rfl
theorem dksX9_takeShift_2 : cX9_takeShift.data.toList.drop 48 = dktX9_takeShift_2 := dk_seg dksX9_takeShift_1 24 rfl rfl
theorem dksX9_takeShift_3 : cX9_takeShift.data.toList.drop 72 = dktX9_takeShift_3 := dk_seg dksX9_takeShift_2 24 rfl rfl
theorem dksX9_takeShift_4 : cX9_takeShift.data.toList.drop 95 = dktX9_takeShift_4 := dk_seg dksX9_takeShift_3 23 rfl rfl
theorem dksX9_takeShift_5 : cX9_takeShift.data.toList.drop 119 = dktX9_takeShift_5 := dk_seg dksX9_takeShift_4 24 rfl rfl
theorem dX9_takeShift_0 : decode cX9_takeShift 0 = .ok (.aload_n 0, 1) := dk_42 (dk_at dksX9_takeShift_0 0 rfl rfl)
theorem dX9_takeShift_1 : decode cX9_takeShift 1 = .ok (.invokevirtual 418, 3) := dk_182 1 162 (dk_at dksX9_takeShift_0 1 rfl rfl)
theorem dX9_takeShift_4 : decode cX9_takeShift 4 = .ok (.istore_n 2, 1) := dk_61 (dk_at dksX9_takeShift_0 4 rfl rfl)
theorem dX9_takeShift_5 : decode cX9_takeShift 5 = .ok (.aload_n 0, 1) := dk_42 (dk_at dksX9_takeShift_0 5 rfl rfl)
theorem dX9_takeShift_6 : decode cX9_takeShift 6 = .ok (.invokevirtual 418, 3) := dk_182 1 162 (dk_at dksX9_takeShift_0 6 rfl rfl)
theorem dX9_takeShift_9 : decode cX9_takeShift 9 = .ok (.istore_n 3, 1) := dk_62 (dk_at dksX9_takeShift_0 9 rfl rfl)
theorem dX9_takeShift_10 : decode cX9_takeShift 10 = .ok (.aload_n 0, 1) := dk_42 (dk_at dksX9_takeShift_0 10 rfl rfl)
theorem dX9_takeShift_11 : decode cX9_takeShift 11 = .ok (.invokevirtual 418, 3) := dk_182 1 162 (dk_at dksX9_takeShift_0 11 rfl rfl)
theorem dX9_takeShift_14 : decode cX9_takeShift 14 = .ok (.istore 4, 2) := dk_54 4 (dk_at dksX9_takeShift_0 14 rfl rfl)
theorem dX9_takeShift_16 : decode cX9_takeShift 16 = .ok (.aload_n 0, 1) := dk_42 (dk_at dksX9_takeShift_0 16 rfl rfl)
theorem dX9_takeShift_17 : decode cX9_takeShift 17 = .ok (.invokevirtual 418, 3) := dk_182 1 162 (dk_at dksX9_takeShift_0 17 rfl rfl)
theorem dX9_takeShift_20 : decode cX9_takeShift 20 = .ok (.istore 5, 2) := dk_54 5 (dk_at dksX9_takeShift_0 20 rfl rfl)
theorem dX9_takeShift_22 : decode cX9_takeShift 22 = .ok (.iload_n 2, 1) := dk_28 (dk_at dksX9_takeShift_0 22 rfl rfl)
theorem dX9_takeShift_23 : decode cX9_takeShift 23 = .ok (.iconst 0, 1) := dk_3 (dk_at dksX9_takeShift_0 23 rfl rfl)
theorem dX9_takeShift_24 : decode cX9_takeShift 24 = .ok (.iconst 3, 1) := dk_6 (dk_at dksX9_takeShift_1 0 rfl rfl)
theorem dX9_takeShift_25 : decode cX9_takeShift 25 = .ok (.invokestatic 156, 3) := dk_184 0 156 (dk_at dksX9_takeShift_1 1 rfl rfl)
theorem dX9_takeShift_28 : decode cX9_takeShift 28 = .ok (.ifCond .eq 43, 3) := dk_153 0 43 (dk_at dksX9_takeShift_1 4 rfl rfl)
theorem dX9_takeShift_31 : decode cX9_takeShift 31 = .ok (.iload_n 3, 1) := dk_29 (dk_at dksX9_takeShift_1 7 rfl rfl)
theorem dX9_takeShift_32 : decode cX9_takeShift 32 = .ok (.ifCond .lt 39, 3) := dk_155 0 39 (dk_at dksX9_takeShift_1 8 rfl rfl)
theorem dX9_takeShift_35 : decode cX9_takeShift 35 = .ok (.iload 4, 2) := dk_21 4 (dk_at dksX9_takeShift_1 11 rfl rfl)
theorem dX9_takeShift_37 : decode cX9_takeShift 37 = .ok (.iconst 0, 1) := dk_3 (dk_at dksX9_takeShift_1 13 rfl rfl)
theorem dX9_takeShift_38 : decode cX9_takeShift 38 = .ok (.iconst 3, 1) := dk_6 (dk_at dksX9_takeShift_1 14 rfl rfl)
theorem dX9_takeShift_39 : decode cX9_takeShift 39 = .ok (.invokestatic 156, 3) := dk_184 0 156 (dk_at dksX9_takeShift_1 15 rfl rfl)
theorem dX9_takeShift_42 : decode cX9_takeShift 42 = .ok (.ifCond .eq 29, 3) := dk_153 0 29 (dk_at dksX9_takeShift_1 18 rfl rfl)
theorem dX9_takeShift_45 : decode cX9_takeShift 45 = .ok (.iload_n 2, 1) := dk_28 (dk_at dksX9_takeShift_1 21 rfl rfl)
theorem dX9_takeShift_46 : decode cX9_takeShift 46 = .ok (.iload 4, 2) := dk_21 4 (dk_at dksX9_takeShift_1 22 rfl rfl)
theorem dX9_takeShift_48 : decode cX9_takeShift 48 = .ok (.if_icmp .eq 23, 3) := dk_159 0 23 (dk_at dksX9_takeShift_2 0 rfl rfl)
theorem dX9_takeShift_51 : decode cX9_takeShift 51 = .ok (.iload 5, 2) := dk_21 5 (dk_at dksX9_takeShift_2 3 rfl rfl)
theorem dX9_takeShift_53 : decode cX9_takeShift 53 = .ok (.iconst 0, 1) := dk_3 (dk_at dksX9_takeShift_2 5 rfl rfl)
theorem dX9_takeShift_54 : decode cX9_takeShift 54 = .ok (.iconst 1, 1) := dk_4 (dk_at dksX9_takeShift_2 6 rfl rfl)
theorem dX9_takeShift_55 : decode cX9_takeShift 55 = .ok (.invokestatic 156, 3) := dk_184 0 156 (dk_at dksX9_takeShift_2 7 rfl rfl)
theorem dX9_takeShift_58 : decode cX9_takeShift 58 = .ok (.ifCond .eq 13, 3) := dk_153 0 13 (dk_at dksX9_takeShift_2 10 rfl rfl)
theorem dX9_takeShift_61 : decode cX9_takeShift 61 = .ok (.aload_n 0, 1) := dk_42 (dk_at dksX9_takeShift_2 13 rfl rfl)
theorem dX9_takeShift_62 : decode cX9_takeShift 62 = .ok (.iload_n 1, 1) := dk_27 (dk_at dksX9_takeShift_2 14 rfl rfl)
theorem dX9_takeShift_63 : decode cX9_takeShift 63 = .ok (.iload_n 2, 1) := dk_28 (dk_at dksX9_takeShift_2 15 rfl rfl)
theorem dX9_takeShift_64 : decode cX9_takeShift 64 = .ok (.iload_n 3, 1) := dk_29 (dk_at dksX9_takeShift_2 16 rfl rfl)
theorem dX9_takeShift_65 : decode cX9_takeShift 65 = .ok (.invokevirtual 194, 3) := dk_182 0 194 (dk_at dksX9_takeShift_2 17 rfl rfl)
theorem dX9_takeShift_68 : decode cX9_takeShift 68 = .ok (.ifCond .lt 5, 3) := dk_155 0 5 (dk_at dksX9_takeShift_2 20 rfl rfl)
theorem dX9_takeShift_71 : decode cX9_takeShift 71 = .ok (.iconst 0, 1) := dk_3 (dk_at dksX9_takeShift_2 23 rfl rfl)
theorem dX9_takeShift_72 : decode cX9_takeShift 72 = .ok (.ireturn, 1) := dk_172 (dk_at dksX9_takeShift_3 0 rfl rfl)
theorem dX9_takeShift_73 : decode cX9_takeShift 73 = .ok (.bipush 10, 2) := dk_16 10 (dk_at dksX9_takeShift_3 1 rfl rfl)
theorem dX9_takeShift_75 : decode cX9_takeShift 75 = .ok (.iload_n 1, 1) := dk_27 (dk_at dksX9_takeShift_3 3 rfl rfl)
theorem dX9_takeShift_76 : decode cX9_takeShift 76 = .ok (.imul, 1) := dk_104 (dk_at dksX9_takeShift_3 4 rfl rfl)
theorem dX9_takeShift_77 : decode cX9_takeShift 77 = .ok (.aload_n 0, 1) := dk_42 (dk_at dksX9_takeShift_3 5 rfl rfl)
theorem dX9_takeShift_78 : decode cX9_takeShift 78 = .ok (.getfield 20, 3) := dk_180 0 20 (dk_at dksX9_takeShift_3 6 rfl rfl)
theorem dX9_takeShift_81 : decode cX9_takeShift 81 = .ok (.iload_n 1, 1) := dk_27 (dk_at dksX9_takeShift_3 9 rfl rfl)
theorem dX9_takeShift_82 : decode cX9_takeShift 82 = .ok (.iaload, 1) := dk_46 (dk_at dksX9_takeShift_3 10 rfl rfl)
theorem dX9_takeShift_83 : decode cX9_takeShift 83 = .ok (.iadd, 1) := dk_96 (dk_at dksX9_takeShift_3 11 rfl rfl)
theorem dX9_takeShift_84 : decode cX9_takeShift 84 = .ok (.istore 6, 2) := dk_54 6 (dk_at dksX9_takeShift_3 12 rfl rfl)
theorem dX9_takeShift_86 : decode cX9_takeShift 86 = .ok (.aload_n 0, 1) := dk_42 (dk_at dksX9_takeShift_3 14 rfl rfl)
theorem dX9_takeShift_87 : decode cX9_takeShift 87 = .ok (.getfield 38, 3) := dk_180 0 38 (dk_at dksX9_takeShift_3 15 rfl rfl)
theorem dX9_takeShift_90 : decode cX9_takeShift 90 = .ok (.iload 6, 2) := dk_21 6 (dk_at dksX9_takeShift_3 18 rfl rfl)
theorem dX9_takeShift_92 : decode cX9_takeShift 92 = .ok (.iload_n 2, 1) := dk_28 (dk_at dksX9_takeShift_3 20 rfl rfl)
theorem dX9_takeShift_93 : decode cX9_takeShift 93 = .ok (.iastore, 1) := dk_79 (dk_at dksX9_takeShift_3 21 rfl rfl)
theorem dX9_takeShift_94 : decode cX9_takeShift 94 = .ok (.aload_n 0, 1) := dk_42 (dk_at dksX9_takeShift_3 22 rfl rfl)
theorem dX9_takeShift_95 : decode cX9_takeShift 95 = .ok (.getfield 41, 3) := dk_180 0 41 (dk_at dksX9_takeShift_4 0 rfl rfl)
theorem dX9_takeShift_98 : decode cX9_takeShift 98 = .ok (.iload 6, 2) := dk_21 6 (dk_at dksX9_takeShift_4 3 rfl rfl)
theorem dX9_takeShift_100 : decode cX9_takeShift 100 = .ok (.iload_n 3, 1) := dk_29 (dk_at dksX9_takeShift_4 5 rfl rfl)
theorem dX9_takeShift_101 : decode cX9_takeShift 101 = .ok (.iastore, 1) := dk_79 (dk_at dksX9_takeShift_4 6 rfl rfl)
theorem dX9_takeShift_102 : decode cX9_takeShift 102 = .ok (.aload_n 0, 1) := dk_42 (dk_at dksX9_takeShift_4 7 rfl rfl)
theorem dX9_takeShift_103 : decode cX9_takeShift 103 = .ok (.getfield 44, 3) := dk_180 0 44 (dk_at dksX9_takeShift_4 8 rfl rfl)
theorem dX9_takeShift_106 : decode cX9_takeShift 106 = .ok (.iload 6, 2) := dk_21 6 (dk_at dksX9_takeShift_4 11 rfl rfl)
theorem dX9_takeShift_108 : decode cX9_takeShift 108 = .ok (.iload 4, 2) := dk_21 4 (dk_at dksX9_takeShift_4 13 rfl rfl)
theorem dX9_takeShift_110 : decode cX9_takeShift 110 = .ok (.iastore, 1) := dk_79 (dk_at dksX9_takeShift_4 15 rfl rfl)
theorem dX9_takeShift_111 : decode cX9_takeShift 111 = .ok (.aload_n 0, 1) := dk_42 (dk_at dksX9_takeShift_4 16 rfl rfl)
theorem dX9_takeShift_112 : decode cX9_takeShift 112 = .ok (.getfield 47, 3) := dk_180 0 47 (dk_at dksX9_takeShift_4 17 rfl rfl)
theorem dX9_takeShift_115 : decode cX9_takeShift 115 = .ok (.iload 6, 2) := dk_21 6 (dk_at dksX9_takeShift_4 20 rfl rfl)
theorem dX9_takeShift_117 : decode cX9_takeShift 117 = .ok (.iload 5, 2) := dk_21 5 (dk_at dksX9_takeShift_4 22 rfl rfl)
theorem dX9_takeShift_119 : decode cX9_takeShift 119 = .ok (.iconst 1, 1) := dk_4 (dk_at dksX9_takeShift_5 0 rfl rfl)
theorem dX9_takeShift_120 : decode cX9_takeShift 120 = .ok (.if_icmp .ne 7, 3) := dk_160 0 7 (dk_at dksX9_takeShift_5 1 rfl rfl)
theorem dX9_takeShift_123 : decode cX9_takeShift 123 = .ok (.iconst 1, 1) := dk_4 (dk_at dksX9_takeShift_5 4 rfl rfl)
theorem dX9_takeShift_124 : decode cX9_takeShift 124 = .ok (.goto 4, 3) := dk_167 0 4 (dk_at dksX9_takeShift_5 5 rfl rfl)
theorem dX9_takeShift_127 : decode cX9_takeShift 127 = .ok (.iconst 0, 1) := dk_3 (dk_at dksX9_takeShift_5 8 rfl rfl)
theorem dX9_takeShift_128 : decode cX9_takeShift 128 = .ok (.bastore, 1) := dk_84 (dk_at dksX9_takeShift_5 9 rfl rfl)
theorem dX9_takeShift_129 : decode cX9_takeShift 129 = .ok (.aload_n 0, 1) := dk_42 (dk_at dksX9_takeShift_5 10 rfl rfl)
theorem dX9_takeShift_130 : decode cX9_takeShift 130 = .ok (.getfield 20, 3) := dk_180 0 20 (dk_at dksX9_takeShift_5 11 rfl rfl)
theorem dX9_takeShift_133 : decode cX9_takeShift 133 = .ok (.iload_n 1, 1) := dk_27 (dk_at dksX9_takeShift_5 14 rfl rfl)
theorem dX9_takeShift_134 : decode cX9_takeShift 134 = .ok (.dup2, 1) := dk_92 (dk_at dksX9_takeShift_5 15 rfl rfl)
theorem dX9_takeShift_135 : decode cX9_takeShift 135 = .ok (.iaload, 1) := dk_46 (dk_at dksX9_takeShift_5 16 rfl rfl)
theorem dX9_takeShift_136 : decode cX9_takeShift 136 = .ok (.iconst 1, 1) := dk_4 (dk_at dksX9_takeShift_5 17 rfl rfl)
theorem dX9_takeShift_137 : decode cX9_takeShift 137 = .ok (.iadd, 1) := dk_96 (dk_at dksX9_takeShift_5 18 rfl rfl)
theorem dX9_takeShift_138 : decode cX9_takeShift 138 = .ok (.iastore, 1) := dk_79 (dk_at dksX9_takeShift_5 19 rfl rfl)
theorem dX9_takeShift_139 : decode cX9_takeShift 139 = .ok (.iconst 1, 1) := dk_4 (dk_at dksX9_takeShift_5 20 rfl rfl)
theorem dX9_takeShift_140 : decode cX9_takeShift 140 = .ok (.ireturn, 1) := dk_172 (dk_at dksX9_takeShift_5 21 rfl rfl)
abbrev cX9_told : ByteArray := prog_17_method_90_code
def yX9_told : MethodName := ⟨RX9, "told", "(I)I"⟩
def dkwX9_told_4 : List UInt8 := [172, 42, 2, 182, 0, 166, 172]
abbrev dktX9_told_4 : List UInt8 := dkwX9_told_4 ++ []
def dkwX9_told_3 : List UInt8 := [42, 180, 1, 2, 172, 42, 180, 1, 10, 172, 42, 180, 1, 7, 172, 42, 180, 1, 89, 172, 42, 180, 0, 150]
abbrev dktX9_told_3 : List UInt8 := dkwX9_told_3 ++ dktX9_told_4
def dkwX9_told_2 : List UInt8 := [42, 180, 1, 65, 172, 42, 180, 0, 63, 27, 4, 100, 46, 172, 42, 180, 0, 163, 172, 42, 180, 0, 255, 172]
abbrev dktX9_told_2 : List UInt8 := dkwX9_told_2 ++ dktX9_told_3
def dkwX9_told_1 : List UInt8 := [170, 0, 0, 0, 0, 0, 108, 0, 0, 0, 0, 0, 0, 0, 10, 0, 0, 0, 59, 0, 0, 0, 64, 0, 0, 0, 64, 0, 0, 0, 64, 0, 0, 0, 73, 0, 0, 0, 78, 0, 0, 0, 83, 0, 0, 0, 88, 0, 0, 0, 93, 0, 0, 0, 98, 0, 0, 0, 103]
abbrev dktX9_told_1 : List UInt8 := dkwX9_told_1 ++ dktX9_told_2
def dkwX9_told_0 : List UInt8 := [27]
abbrev dktX9_told_0 : List UInt8 := dkwX9_told_0 ++ dktX9_told_1
theorem dksX9_told_0 : cX9_told.data.toList.drop 0 = dktX9_told_0 := by decide +kernel
theorem dksX9_told_1 : cX9_told.data.toList.drop 1 = dktX9_told_1 := dk_seg dksX9_told_0 1 rfl rfl
theorem dksX9_told_2 : cX9_told.data.toList.drop 60 = dktX9_told_2 := dk_seg dksX9_told_1 59 rfl rfl
theorem dksX9_told_3 : cX9_told.data.toList.drop 84 = dktX9_told_3 := dk_seg dksX9_told_2 24 rfl rfl
theorem dksX9_told_4 : cX9_told.data.toList.drop 108 = dktX9_told_4 := dk_seg dksX9_told_3 24 rfl rfl
theorem dX9_told_0 : decode cX9_told 0 = .ok (.iload_n 1, 1) := dk_27 (dk_at dksX9_told_0 0 rfl rfl)
theorem dX9_told_1 : decode cX9_told 1 = .ok (.tableswitch 108 0 10 #[59, 64, 64, 64, 73, 78, 83, 88, 93, 98, 103], 59) := by decide +kernel
theorem dX9_told_60 : decode cX9_told 60 = .ok (.aload_n 0, 1) := dk_42 (dk_at dksX9_told_2 0 rfl rfl)
theorem dX9_told_61 : decode cX9_told 61 = .ok (.getfield 321, 3) := dk_180 1 65 (dk_at dksX9_told_2 1 rfl rfl)
theorem dX9_told_64 : decode cX9_told 64 = .ok (.ireturn, 1) := dk_172 (dk_at dksX9_told_2 4 rfl rfl)
theorem dX9_told_65 : decode cX9_told 65 = .ok (.aload_n 0, 1) := dk_42 (dk_at dksX9_told_2 5 rfl rfl)
theorem dX9_told_66 : decode cX9_told 66 = .ok (.getfield 63, 3) := dk_180 0 63 (dk_at dksX9_told_2 6 rfl rfl)
theorem dX9_told_69 : decode cX9_told 69 = .ok (.iload_n 1, 1) := dk_27 (dk_at dksX9_told_2 9 rfl rfl)
theorem dX9_told_70 : decode cX9_told 70 = .ok (.iconst 1, 1) := dk_4 (dk_at dksX9_told_2 10 rfl rfl)
theorem dX9_told_71 : decode cX9_told 71 = .ok (.isub, 1) := dk_100 (dk_at dksX9_told_2 11 rfl rfl)
theorem dX9_told_72 : decode cX9_told 72 = .ok (.iaload, 1) := dk_46 (dk_at dksX9_told_2 12 rfl rfl)
theorem dX9_told_73 : decode cX9_told 73 = .ok (.ireturn, 1) := dk_172 (dk_at dksX9_told_2 13 rfl rfl)
theorem dX9_told_74 : decode cX9_told 74 = .ok (.aload_n 0, 1) := dk_42 (dk_at dksX9_told_2 14 rfl rfl)
theorem dX9_told_75 : decode cX9_told 75 = .ok (.getfield 163, 3) := dk_180 0 163 (dk_at dksX9_told_2 15 rfl rfl)
theorem dX9_told_78 : decode cX9_told 78 = .ok (.ireturn, 1) := dk_172 (dk_at dksX9_told_2 18 rfl rfl)
theorem dX9_told_79 : decode cX9_told 79 = .ok (.aload_n 0, 1) := dk_42 (dk_at dksX9_told_2 19 rfl rfl)
theorem dX9_told_80 : decode cX9_told 80 = .ok (.getfield 255, 3) := dk_180 0 255 (dk_at dksX9_told_2 20 rfl rfl)
theorem dX9_told_83 : decode cX9_told 83 = .ok (.ireturn, 1) := dk_172 (dk_at dksX9_told_2 23 rfl rfl)
theorem dX9_told_84 : decode cX9_told 84 = .ok (.aload_n 0, 1) := dk_42 (dk_at dksX9_told_3 0 rfl rfl)
theorem dX9_told_85 : decode cX9_told 85 = .ok (.getfield 258, 3) := dk_180 1 2 (dk_at dksX9_told_3 1 rfl rfl)
theorem dX9_told_88 : decode cX9_told 88 = .ok (.ireturn, 1) := dk_172 (dk_at dksX9_told_3 4 rfl rfl)
theorem dX9_told_89 : decode cX9_told 89 = .ok (.aload_n 0, 1) := dk_42 (dk_at dksX9_told_3 5 rfl rfl)
theorem dX9_told_90 : decode cX9_told 90 = .ok (.getfield 266, 3) := dk_180 1 10 (dk_at dksX9_told_3 6 rfl rfl)
theorem dX9_told_93 : decode cX9_told 93 = .ok (.ireturn, 1) := dk_172 (dk_at dksX9_told_3 9 rfl rfl)
theorem dX9_told_94 : decode cX9_told 94 = .ok (.aload_n 0, 1) := dk_42 (dk_at dksX9_told_3 10 rfl rfl)
theorem dX9_told_95 : decode cX9_told 95 = .ok (.getfield 263, 3) := dk_180 1 7 (dk_at dksX9_told_3 11 rfl rfl)
theorem dX9_told_98 : decode cX9_told 98 = .ok (.ireturn, 1) := dk_172 (dk_at dksX9_told_3 14 rfl rfl)
theorem dX9_told_99 : decode cX9_told 99 = .ok (.aload_n 0, 1) := dk_42 (dk_at dksX9_told_3 15 rfl rfl)
theorem dX9_told_100 : decode cX9_told 100 = .ok (.getfield 345, 3) := dk_180 1 89 (dk_at dksX9_told_3 16 rfl rfl)
theorem dX9_told_103 : decode cX9_told 103 = .ok (.ireturn, 1) := dk_172 (dk_at dksX9_told_3 19 rfl rfl)
theorem dX9_told_104 : decode cX9_told 104 = .ok (.aload_n 0, 1) := dk_42 (dk_at dksX9_told_3 20 rfl rfl)
theorem dX9_told_105 : decode cX9_told 105 = .ok (.getfield 150, 3) := dk_180 0 150 (dk_at dksX9_told_3 21 rfl rfl)
theorem dX9_told_108 : decode cX9_told 108 = .ok (.ireturn, 1) := dk_172 (dk_at dksX9_told_4 0 rfl rfl)
theorem dX9_told_109 : decode cX9_told 109 = .ok (.aload_n 0, 1) := dk_42 (dk_at dksX9_told_4 1 rfl rfl)
theorem dX9_told_110 : decode cX9_told 110 = .ok (.iconst (-1), 1) := dk_2 (dk_at dksX9_told_4 2 rfl rfl)
theorem dX9_told_111 : decode cX9_told 111 = .ok (.invokevirtual 166, 3) := dk_182 0 166 (dk_at dksX9_told_4 3 rfl rfl)
theorem dX9_told_114 : decode cX9_told 114 = .ok (.ireturn, 1) := dk_172 (dk_at dksX9_told_4 6 rfl rfl)
theorem q109 : (Jvm.Cond.initialized "CodeExchangeModel") ∈ lw_all := lw_g (lw_at lw_m1 13 rfl) rfl
theorem q1386 : (Jvm.Cond.instantiable "CodeExchangeModel" (69 : Nat)) ∈ lw_all := lw_g (lw_at lw_m6 90 rfl) rfl
theorem q1388 : (Jvm.Cond.instanceMethod ({ cls := "CodeExchangeModel", name := "<init>", desc := "()V" } : Jvm.MethodName)) ∈ lw_all := lw_g (lw_at lw_m6 92 rfl) rfl
theorem q1389 : (Jvm.Cond.code ({ cls := "CodeExchangeModel", name := "<init>", desc := "()V" } : Jvm.MethodName) prog_17_method_1_code (1 : Nat) (Option.none : Option Jvm.ClassFile.FieldType)) ∈ lw_all := lw_g (lw_at lw_m6 93 rfl) rfl
theorem q1390 : (Jvm.Cond.methodLink "CodeExchangeModel" (1 : Nat) ({ cls := "java/lang/Object", name := "<init>", desc := "()V" } : Jvm.MethodName)) ∈ lw_all := lw_g (lw_at lw_m6 94 rfl) rfl
theorem q1391 : (Jvm.Cond.constant "CodeExchangeModel" (59 : Nat) (65533 : Int32)) ∈ lw_all := lw_g (lw_at lw_m6 95 rfl) rfl
theorem q1392 : (Jvm.Cond.fieldLink "CodeExchangeModel" (163 : Nat) "CodeExchangeModel" "pages" "I") ∈ lw_all := lw_g (lw_at lw_m6 96 rfl) rfl
theorem q1393 : (Jvm.Cond.fieldLink "CodeExchangeModel" (9 : Nat) "CodeExchangeModel" "kinds" "[I") ∈ lw_all := lw_g (lw_at lw_m6 97 rfl) rfl
theorem q1394 : (Jvm.Cond.fieldLink "CodeExchangeModel" (13 : Nat) "CodeExchangeModel" "closed" "[Z") ∈ lw_all := lw_g (lw_at lw_m6 98 rfl) rfl
theorem q1395 : (Jvm.Cond.fieldLink "CodeExchangeModel" (17 : Nat) "CodeExchangeModel" "entries" "[I") ∈ lw_all := lw_g (lw_at lw_m6 99 rfl) rfl
theorem q1396 : (Jvm.Cond.fieldLink "CodeExchangeModel" (20 : Nat) "CodeExchangeModel" "shifts" "[I") ∈ lw_all := lw_g (lw_at lw_m6 100 rfl) rfl
theorem q1397 : (Jvm.Cond.fieldLink "CodeExchangeModel" (23 : Nat) "CodeExchangeModel" "eState" "[I") ∈ lw_all := lw_g (lw_at lw_m6 101 rfl) rfl
theorem q1398 : (Jvm.Cond.fieldLink "CodeExchangeModel" (26 : Nat) "CodeExchangeModel" "eMany" "[I") ∈ lw_all := lw_g (lw_at lw_m6 102 rfl) rfl
theorem q1399 : (Jvm.Cond.fieldLink "CodeExchangeModel" (29 : Nat) "CodeExchangeModel" "eBytes" "[I") ∈ lw_all := lw_g (lw_at lw_m6 103 rfl) rfl
theorem q1400 : (Jvm.Cond.fieldLink "CodeExchangeModel" (32 : Nat) "CodeExchangeModel" "ePoint" "[I") ∈ lw_all := lw_g (lw_at lw_m6 104 rfl) rfl
theorem q1401 : (Jvm.Cond.fieldLink "CodeExchangeModel" (35 : Nat) "CodeExchangeModel" "ePreferred" "[Z") ∈ lw_all := lw_g (lw_at lw_m6 105 rfl) rfl
theorem q1402 : (Jvm.Cond.fieldLink "CodeExchangeModel" (38 : Nat) "CodeExchangeModel" "sState" "[I") ∈ lw_all := lw_g (lw_at lw_m6 106 rfl) rfl
theorem q1403 : (Jvm.Cond.fieldLink "CodeExchangeModel" (41 : Nat) "CodeExchangeModel" "sByte" "[I") ∈ lw_all := lw_g (lw_at lw_m6 107 rfl) rfl
theorem q1404 : (Jvm.Cond.fieldLink "CodeExchangeModel" (44 : Nat) "CodeExchangeModel" "sTo" "[I") ∈ lw_all := lw_g (lw_at lw_m6 108 rfl) rfl
theorem q1405 : (Jvm.Cond.fieldLink "CodeExchangeModel" (47 : Nat) "CodeExchangeModel" "sSticky" "[Z") ∈ lw_all := lw_g (lw_at lw_m6 109 rfl) rfl
theorem q1406 : (Jvm.Cond.fieldLink "CodeExchangeModel" (255 : Nat) "CodeExchangeModel" "bytes" "I") ∈ lw_all := lw_g (lw_at lw_m6 110 rfl) rfl
theorem q1407 : (Jvm.Cond.fieldLink "CodeExchangeModel" (50 : Nat) "CodeExchangeModel" "byteRow" "[I") ∈ lw_all := lw_g (lw_at lw_m6 111 rfl) rfl
theorem q1408 : (Jvm.Cond.fieldLink "CodeExchangeModel" (258 : Nat) "CodeExchangeModel" "units" "I") ∈ lw_all := lw_g (lw_at lw_m6 112 rfl) rfl
theorem q1409 : (Jvm.Cond.fieldLink "CodeExchangeModel" (53 : Nat) "CodeExchangeModel" "unitRow" "[I") ∈ lw_all := lw_g (lw_at lw_m6 113 rfl) rfl
theorem q1410 : (Jvm.Cond.fieldLink "CodeExchangeModel" (266 : Nat) "CodeExchangeModel" "results" "I") ∈ lw_all := lw_g (lw_at lw_m6 114 rfl) rfl
theorem q1411 : (Jvm.Cond.fieldLink "CodeExchangeModel" (263 : Nat) "CodeExchangeModel" "resultKind" "I") ∈ lw_all := lw_g (lw_at lw_m6 115 rfl) rfl
theorem q1412 : (Jvm.Cond.fieldLink "CodeExchangeModel" (56 : Nat) "CodeExchangeModel" "resultRow" "[I") ∈ lw_all := lw_g (lw_at lw_m6 116 rfl) rfl
theorem q1413 : (Jvm.Cond.fieldLink "CodeExchangeModel" (60 : Nat) "CodeExchangeModel" "signs" "[I") ∈ lw_all := lw_g (lw_at lw_m6 117 rfl) rfl
theorem q1414 : (Jvm.Cond.fieldLink "CodeExchangeModel" (321 : Nat) "CodeExchangeModel" "place" "I") ∈ lw_all := lw_g (lw_at lw_m6 118 rfl) rfl
theorem q1415 : (Jvm.Cond.fieldLink "CodeExchangeModel" (63 : Nat) "CodeExchangeModel" "broken" "[I") ∈ lw_all := lw_g (lw_at lw_m6 119 rfl) rfl
theorem q1416 : (Jvm.Cond.fieldLink "CodeExchangeModel" (150 : Nat) "CodeExchangeModel" "findings" "I") ∈ lw_all := lw_g (lw_at lw_m6 120 rfl) rfl
theorem q1417 : (Jvm.Cond.fieldLink "CodeExchangeModel" (345 : Nat) "CodeExchangeModel" "fallbacks" "I") ∈ lw_all := lw_g (lw_at lw_m6 121 rfl) rfl
theorem q1418 : (Jvm.Cond.fieldLink "CodeExchangeModel" (66 : Nat) "CodeExchangeModel" "fPoint" "[I") ∈ lw_all := lw_g (lw_at lw_m6 122 rfl) rfl
theorem q1419 : (Jvm.Cond.fieldLink "CodeExchangeModel" (69 : Nat) "CodeExchangeModel" "fMany" "[I") ∈ lw_all := lw_g (lw_at lw_m6 123 rfl) rfl
theorem q1420 : (Jvm.Cond.fieldLink "CodeExchangeModel" (72 : Nat) "CodeExchangeModel" "fPoints" "[I") ∈ lw_all := lw_g (lw_at lw_m6 124 rfl) rfl
theorem q1421 : (Jvm.Cond.fieldLink "CodeExchangeModel" (75 : Nat) "CodeExchangeModel" "reached" "[Z") ∈ lw_all := lw_g (lw_at lw_m6 125 rfl) rfl
theorem q1422 : (Jvm.Cond.fieldLink "CodeExchangeModel" (78 : Nat) "CodeExchangeModel" "breach" "[I") ∈ lw_all := lw_g (lw_at lw_m6 126 rfl) rfl
theorem q1423 : (Jvm.Cond.fieldLink "CodeExchangeModel" (233 : Nat) "CodeExchangeModel" "textState" "I") ∈ lw_all := lw_g (lw_at lw_m6 127 rfl) rfl
theorem q1424 : (Jvm.Cond.fieldLink "CodeExchangeModel" (228 : Nat) "CodeExchangeModel" "textMany" "I") ∈ lw_all := lw_g (lw_at lw_m6 128 rfl) rfl
theorem q1425 : (Jvm.Cond.fieldLink "CodeExchangeModel" (81 : Nat) "CodeExchangeModel" "text" "[I") ∈ lw_all := lw_g (lw_at lw_m6 129 rfl) rfl
theorem q1426 : (Jvm.Cond.fieldLink "CodeExchangeModel" (289 : Nat) "CodeExchangeModel" "state" "I") ∈ lw_all := lw_g (lw_at lw_m6 130 rfl) rfl
theorem q1427 : (Jvm.Cond.fieldLink "CodeExchangeModel" (286 : Nat) "CodeExchangeModel" "pending" "I") ∈ lw_all := lw_g (lw_at lw_m6 131 rfl) rfl
theorem q1428 : (Jvm.Cond.fieldLink "CodeExchangeModel" (269 : Nat) "CodeExchangeModel" "out" "[I") ∈ lw_all := lw_g (lw_at lw_m6 132 rfl) rfl
theorem q1429 : (Jvm.Cond.fieldLink "CodeExchangeModel" (272 : Nat) "CodeExchangeModel" "outs" "I") ∈ lw_all := lw_g (lw_at lw_m6 133 rfl) rfl
theorem q1430 : (Jvm.Cond.fieldLink "CodeExchangeModel" (328 : Nat) "CodeExchangeModel" "most" "I") ∈ lw_all := lw_g (lw_at lw_m6 134 rfl) rfl
theorem q1431 : (Jvm.Cond.fieldLink "CodeExchangeModel" (314 : Nat) "CodeExchangeModel" "faultCount" "I") ∈ lw_all := lw_g (lw_at lw_m6 135 rfl) rfl
theorem q1432 : (Jvm.Cond.fieldLink "CodeExchangeModel" (292 : Nat) "CodeExchangeModel" "foundMany" "I") ∈ lw_all := lw_g (lw_at lw_m6 136 rfl) rfl
theorem q1433 : (Jvm.Cond.fieldLink "CodeExchangeModel" (295 : Nat) "CodeExchangeModel" "foundPoint" "I") ∈ lw_all := lw_g (lw_at lw_m6 137 rfl) rfl
theorem q1434 : (Jvm.Cond.fieldLink "CodeExchangeModel" (298 : Nat) "CodeExchangeModel" "foundShift" "I") ∈ lw_all := lw_g (lw_at lw_m6 138 rfl) rfl
theorem q1435 : (Jvm.Cond.fieldLink "CodeExchangeModel" (84 : Nat) "CodeExchangeModel" "read" "[I") ∈ lw_all := lw_g (lw_at lw_m6 139 rfl) rfl
theorem q1436 : (Jvm.Cond.fieldLink "CodeExchangeModel" (87 : Nat) "CodeExchangeModel" "readToo" "[I") ∈ lw_all := lw_g (lw_at lw_m6 140 rfl) rfl
theorem q1437 : (Jvm.Cond.fieldLink "CodeExchangeModel" (90 : Nat) "CodeExchangeModel" "written" "[I") ∈ lw_all := lw_g (lw_at lw_m6 141 rfl) rfl
theorem q1438 : (Jvm.Cond.fieldLink "CodeExchangeModel" (93 : Nat) "CodeExchangeModel" "way" "[I") ∈ lw_all := lw_g (lw_at lw_m6 142 rfl) rfl
theorem q1439 : (Jvm.Cond.fieldLink "CodeExchangeModel" (335 : Nat) "CodeExchangeModel" "ways" "I") ∈ lw_all := lw_g (lw_at lw_m6 143 rfl) rfl
theorem q1440 : (Jvm.Cond.fieldLink "CodeExchangeModel" (331 : Nat) "CodeExchangeModel" "counts" "Z") ∈ lw_all := lw_g (lw_at lw_m6 144 rfl) rfl
theorem q1441 : (Jvm.Cond.fieldLink "CodeExchangeModel" (96 : Nat) "CodeExchangeModel" "points" "[I") ∈ lw_all := lw_g (lw_at lw_m6 145 rfl) rfl
theorem q1442 : (Jvm.Cond.fieldLink "CodeExchangeModel" (99 : Nat) "CodeExchangeModel" "seen" "[I") ∈ lw_all := lw_g (lw_at lw_m6 146 rfl) rfl
theorem q1443 : (Jvm.Cond.fieldLink "CodeExchangeModel" (102 : Nat) "CodeExchangeModel" "known" "[I") ∈ lw_all := lw_g (lw_at lw_m6 147 rfl) rfl
theorem q1444 : (Jvm.Cond.fieldLink "CodeExchangeModel" (105 : Nat) "CodeExchangeModel" "begun" "[Z") ∈ lw_all := lw_g (lw_at lw_m6 148 rfl) rfl
theorem q1445 : (Jvm.Cond.fieldLink "CodeExchangeModel" (108 : Nat) "CodeExchangeModel" "mPage" "[I") ∈ lw_all := lw_g (lw_at lw_m6 149 rfl) rfl
theorem q1446 : (Jvm.Cond.fieldLink "CodeExchangeModel" (111 : Nat) "CodeExchangeModel" "mWrites" "[Z") ∈ lw_all := lw_g (lw_at lw_m6 150 rfl) rfl
theorem q1447 : (Jvm.Cond.fieldLink "CodeExchangeModel" (114 : Nat) "CodeExchangeModel" "mRule" "[I") ∈ lw_all := lw_g (lw_at lw_m6 151 rfl) rfl
theorem q1448 : (Jvm.Cond.fieldLink "CodeExchangeModel" (117 : Nat) "CodeExchangeModel" "mState" "[I") ∈ lw_all := lw_g (lw_at lw_m6 152 rfl) rfl
theorem q1449 : (Jvm.Cond.fieldLink "CodeExchangeModel" (120 : Nat) "CodeExchangeModel" "mPending" "[I") ∈ lw_all := lw_g (lw_at lw_m6 153 rfl) rfl
theorem q1450 : (Jvm.Cond.fieldLink "CodeExchangeModel" (123 : Nat) "CodeExchangeModel" "mKept" "[I") ∈ lw_all := lw_g (lw_at lw_m6 154 rfl) rfl
theorem q1451 : (Jvm.Cond.fieldLink "CodeExchangeModel" (126 : Nat) "CodeExchangeModel" "mKeeps" "[I") ∈ lw_all := lw_g (lw_at lw_m6 155 rfl) rfl
theorem q1452 : (Jvm.Cond.fieldLink "CodeExchangeModel" (129 : Nat) "CodeExchangeModel" "mFed" "[I") ∈ lw_all := lw_g (lw_at lw_m6 156 rfl) rfl
theorem q1453 : (Jvm.Cond.fieldLink "CodeExchangeModel" (132 : Nat) "CodeExchangeModel" "mMode" "[I") ∈ lw_all := lw_g (lw_at lw_m6 157 rfl) rfl
theorem q1454 : (Jvm.Cond.fieldLink "CodeExchangeModel" (135 : Nat) "CodeExchangeModel" "mWaits" "[I") ∈ lw_all := lw_g (lw_at lw_m6 158 rfl) rfl
theorem q1455 : (Jvm.Cond.fieldLink "CodeExchangeModel" (138 : Nat) "CodeExchangeModel" "queues" "[I") ∈ lw_all := lw_g (lw_at lw_m6 159 rfl) rfl
theorem q1456 : (Jvm.Cond.fieldLink "CodeExchangeModel" (141 : Nat) "CodeExchangeModel" "keeps" "[I") ∈ lw_all := lw_g (lw_at lw_m6 160 rfl) rfl
theorem q1457 : (Jvm.Cond.fieldLink "CodeExchangeModel" (144 : Nat) "CodeExchangeModel" "fresh" "[I") ∈ lw_all := lw_g (lw_at lw_m6 161 rfl) rfl
theorem q1458 : (Jvm.Cond.fieldLink "CodeExchangeModel" (147 : Nat) "CodeExchangeModel" "alone" "[I") ∈ lw_all := lw_g (lw_at lw_m6 162 rfl) rfl
theorem q1459 : (Jvm.Cond.fieldLink "CodeExchangeModel" (412 : Nat) "CodeExchangeModel" "at" "I") ∈ lw_all := lw_g (lw_at lw_m6 163 rfl) rfl
theorem q1460 : (Jvm.Cond.fieldLink "CodeExchangeModel" (415 : Nat) "CodeExchangeModel" "limit" "I") ∈ lw_all := lw_g (lw_at lw_m6 164 rfl) rfl
theorem q1461 : (Jvm.Cond.lays "CodeExchangeModel" "CodeExchangeModel" "pages" "I") ∈ lw_all := lw_g (lw_at lw_m6 165 rfl) rfl
theorem q1462 : (Jvm.Cond.soleField "CodeExchangeModel" "pages") ∈ lw_all := lw_g (lw_at lw_m6 166 rfl) rfl
theorem q1463 : (Jvm.Cond.laysFinal "CodeExchangeModel" "CodeExchangeModel" "kinds" "[I") ∈ lw_all := lw_g (lw_at lw_m6 167 rfl) rfl
theorem q1464 : (Jvm.Cond.soleField "CodeExchangeModel" "kinds") ∈ lw_all := lw_g (lw_at lw_m6 168 rfl) rfl
theorem q1465 : (Jvm.Cond.laysFinal "CodeExchangeModel" "CodeExchangeModel" "closed" "[Z") ∈ lw_all := lw_g (lw_at lw_m6 169 rfl) rfl
theorem q1466 : (Jvm.Cond.soleField "CodeExchangeModel" "closed") ∈ lw_all := lw_g (lw_at lw_m6 170 rfl) rfl
theorem q1467 : (Jvm.Cond.laysFinal "CodeExchangeModel" "CodeExchangeModel" "entries" "[I") ∈ lw_all := lw_g (lw_at lw_m6 171 rfl) rfl
theorem q1468 : (Jvm.Cond.soleField "CodeExchangeModel" "entries") ∈ lw_all := lw_g (lw_at lw_m6 172 rfl) rfl
theorem q1469 : (Jvm.Cond.laysFinal "CodeExchangeModel" "CodeExchangeModel" "shifts" "[I") ∈ lw_all := lw_g (lw_at lw_m6 173 rfl) rfl
theorem q1470 : (Jvm.Cond.soleField "CodeExchangeModel" "shifts") ∈ lw_all := lw_g (lw_at lw_m6 174 rfl) rfl
theorem q1471 : (Jvm.Cond.laysFinal "CodeExchangeModel" "CodeExchangeModel" "eState" "[I") ∈ lw_all := lw_g (lw_at lw_m6 175 rfl) rfl
theorem q1472 : (Jvm.Cond.soleField "CodeExchangeModel" "eState") ∈ lw_all := lw_g (lw_at lw_m6 176 rfl) rfl
theorem q1473 : (Jvm.Cond.laysFinal "CodeExchangeModel" "CodeExchangeModel" "eMany" "[I") ∈ lw_all := lw_g (lw_at lw_m6 177 rfl) rfl
theorem q1474 : (Jvm.Cond.soleField "CodeExchangeModel" "eMany") ∈ lw_all := lw_g (lw_at lw_m6 178 rfl) rfl
theorem q1475 : (Jvm.Cond.laysFinal "CodeExchangeModel" "CodeExchangeModel" "eBytes" "[I") ∈ lw_all := lw_g (lw_at lw_m6 179 rfl) rfl
theorem q1476 : (Jvm.Cond.soleField "CodeExchangeModel" "eBytes") ∈ lw_all := lw_g (lw_at lw_m6 180 rfl) rfl
theorem q1477 : (Jvm.Cond.laysFinal "CodeExchangeModel" "CodeExchangeModel" "ePoint" "[I") ∈ lw_all := lw_g (lw_at lw_m6 181 rfl) rfl
theorem q1478 : (Jvm.Cond.soleField "CodeExchangeModel" "ePoint") ∈ lw_all := lw_g (lw_at lw_m6 182 rfl) rfl
theorem q1479 : (Jvm.Cond.laysFinal "CodeExchangeModel" "CodeExchangeModel" "ePreferred" "[Z") ∈ lw_all := lw_g (lw_at lw_m6 183 rfl) rfl
theorem q1480 : (Jvm.Cond.soleField "CodeExchangeModel" "ePreferred") ∈ lw_all := lw_g (lw_at lw_m6 184 rfl) rfl
theorem q1481 : (Jvm.Cond.laysFinal "CodeExchangeModel" "CodeExchangeModel" "sState" "[I") ∈ lw_all := lw_g (lw_at lw_m6 185 rfl) rfl
theorem q1482 : (Jvm.Cond.soleField "CodeExchangeModel" "sState") ∈ lw_all := lw_g (lw_at lw_m6 186 rfl) rfl
theorem q1483 : (Jvm.Cond.laysFinal "CodeExchangeModel" "CodeExchangeModel" "sByte" "[I") ∈ lw_all := lw_g (lw_at lw_m6 187 rfl) rfl
theorem q1484 : (Jvm.Cond.soleField "CodeExchangeModel" "sByte") ∈ lw_all := lw_g (lw_at lw_m6 188 rfl) rfl
theorem q1485 : (Jvm.Cond.laysFinal "CodeExchangeModel" "CodeExchangeModel" "sTo" "[I") ∈ lw_all := lw_g (lw_at lw_m6 189 rfl) rfl
theorem q1486 : (Jvm.Cond.soleField "CodeExchangeModel" "sTo") ∈ lw_all := lw_g (lw_at lw_m6 190 rfl) rfl
theorem q1487 : (Jvm.Cond.laysFinal "CodeExchangeModel" "CodeExchangeModel" "sSticky" "[Z") ∈ lw_all := lw_g (lw_at lw_m6 191 rfl) rfl
theorem q1488 : (Jvm.Cond.soleField "CodeExchangeModel" "sSticky") ∈ lw_all := lw_g (lw_at lw_m6 192 rfl) rfl
theorem q1489 : (Jvm.Cond.lays "CodeExchangeModel" "CodeExchangeModel" "bytes" "I") ∈ lw_all := lw_g (lw_at lw_m6 193 rfl) rfl
theorem q1490 : (Jvm.Cond.soleField "CodeExchangeModel" "bytes") ∈ lw_all := lw_g (lw_at lw_m6 194 rfl) rfl
theorem q1491 : (Jvm.Cond.laysFinal "CodeExchangeModel" "CodeExchangeModel" "byteRow" "[I") ∈ lw_all := lw_g (lw_at lw_m6 195 rfl) rfl
theorem q1492 : (Jvm.Cond.soleField "CodeExchangeModel" "byteRow") ∈ lw_all := lw_g (lw_at lw_m6 196 rfl) rfl
theorem q1493 : (Jvm.Cond.lays "CodeExchangeModel" "CodeExchangeModel" "units" "I") ∈ lw_all := lw_g (lw_at lw_m6 197 rfl) rfl
theorem q1494 : (Jvm.Cond.soleField "CodeExchangeModel" "units") ∈ lw_all := lw_g (lw_at lw_m6 198 rfl) rfl
theorem q1495 : (Jvm.Cond.laysFinal "CodeExchangeModel" "CodeExchangeModel" "unitRow" "[I") ∈ lw_all := lw_g (lw_at lw_m6 199 rfl) rfl
theorem q1496 : (Jvm.Cond.soleField "CodeExchangeModel" "unitRow") ∈ lw_all := lw_g (lw_at lw_m6 200 rfl) rfl
theorem q1497 : (Jvm.Cond.lays "CodeExchangeModel" "CodeExchangeModel" "results" "I") ∈ lw_all := lw_g (lw_at lw_m6 201 rfl) rfl
theorem q1498 : (Jvm.Cond.soleField "CodeExchangeModel" "results") ∈ lw_all := lw_g (lw_at lw_m6 202 rfl) rfl
theorem q1499 : (Jvm.Cond.lays "CodeExchangeModel" "CodeExchangeModel" "resultKind" "I") ∈ lw_all := lw_g (lw_at lw_m6 203 rfl) rfl
theorem q1500 : (Jvm.Cond.soleField "CodeExchangeModel" "resultKind") ∈ lw_all := lw_g (lw_at lw_m6 204 rfl) rfl
theorem q1501 : (Jvm.Cond.laysFinal "CodeExchangeModel" "CodeExchangeModel" "resultRow" "[I") ∈ lw_all := lw_g (lw_at lw_m6 205 rfl) rfl
theorem q1502 : (Jvm.Cond.soleField "CodeExchangeModel" "resultRow") ∈ lw_all := lw_g (lw_at lw_m6 206 rfl) rfl
theorem q1503 : (Jvm.Cond.laysFinal "CodeExchangeModel" "CodeExchangeModel" "signs" "[I") ∈ lw_all := lw_g (lw_at lw_m6 207 rfl) rfl
theorem q1504 : (Jvm.Cond.soleField "CodeExchangeModel" "signs") ∈ lw_all := lw_g (lw_at lw_m6 208 rfl) rfl
theorem q1505 : (Jvm.Cond.lays "CodeExchangeModel" "CodeExchangeModel" "place" "I") ∈ lw_all := lw_g (lw_at lw_m6 209 rfl) rfl
theorem q1506 : (Jvm.Cond.soleField "CodeExchangeModel" "place") ∈ lw_all := lw_g (lw_at lw_m6 210 rfl) rfl
theorem q1507 : (Jvm.Cond.laysFinal "CodeExchangeModel" "CodeExchangeModel" "broken" "[I") ∈ lw_all := lw_g (lw_at lw_m6 211 rfl) rfl
theorem q1508 : (Jvm.Cond.soleField "CodeExchangeModel" "broken") ∈ lw_all := lw_g (lw_at lw_m6 212 rfl) rfl
theorem q1509 : (Jvm.Cond.lays "CodeExchangeModel" "CodeExchangeModel" "findings" "I") ∈ lw_all := lw_g (lw_at lw_m6 213 rfl) rfl
theorem q1510 : (Jvm.Cond.soleField "CodeExchangeModel" "findings") ∈ lw_all := lw_g (lw_at lw_m6 214 rfl) rfl
theorem q1511 : (Jvm.Cond.lays "CodeExchangeModel" "CodeExchangeModel" "fallbacks" "I") ∈ lw_all := lw_g (lw_at lw_m6 215 rfl) rfl
theorem q1512 : (Jvm.Cond.soleField "CodeExchangeModel" "fallbacks") ∈ lw_all := lw_g (lw_at lw_m6 216 rfl) rfl
theorem q1513 : (Jvm.Cond.laysFinal "CodeExchangeModel" "CodeExchangeModel" "fPoint" "[I") ∈ lw_all := lw_g (lw_at lw_m6 217 rfl) rfl
theorem q1514 : (Jvm.Cond.soleField "CodeExchangeModel" "fPoint") ∈ lw_all := lw_g (lw_at lw_m6 218 rfl) rfl
theorem q1515 : (Jvm.Cond.laysFinal "CodeExchangeModel" "CodeExchangeModel" "fMany" "[I") ∈ lw_all := lw_g (lw_at lw_m6 219 rfl) rfl
theorem q1516 : (Jvm.Cond.soleField "CodeExchangeModel" "fMany") ∈ lw_all := lw_g (lw_at lw_m6 220 rfl) rfl
theorem q1517 : (Jvm.Cond.laysFinal "CodeExchangeModel" "CodeExchangeModel" "fPoints" "[I") ∈ lw_all := lw_g (lw_at lw_m6 221 rfl) rfl
theorem q1518 : (Jvm.Cond.soleField "CodeExchangeModel" "fPoints") ∈ lw_all := lw_g (lw_at lw_m6 222 rfl) rfl
theorem q1519 : (Jvm.Cond.laysFinal "CodeExchangeModel" "CodeExchangeModel" "reached" "[Z") ∈ lw_all := lw_g (lw_at lw_m6 223 rfl) rfl
theorem q1520 : (Jvm.Cond.soleField "CodeExchangeModel" "reached") ∈ lw_all := lw_g (lw_at lw_m6 224 rfl) rfl
theorem q1521 : (Jvm.Cond.laysFinal "CodeExchangeModel" "CodeExchangeModel" "breach" "[I") ∈ lw_all := lw_g (lw_at lw_m6 225 rfl) rfl
theorem q1522 : (Jvm.Cond.soleField "CodeExchangeModel" "breach") ∈ lw_all := lw_g (lw_at lw_m6 226 rfl) rfl
theorem q1523 : (Jvm.Cond.lays "CodeExchangeModel" "CodeExchangeModel" "textState" "I") ∈ lw_all := lw_g (lw_at lw_m6 227 rfl) rfl
theorem q1524 : (Jvm.Cond.soleField "CodeExchangeModel" "textState") ∈ lw_all := lw_g (lw_at lw_m6 228 rfl) rfl
theorem q1525 : (Jvm.Cond.lays "CodeExchangeModel" "CodeExchangeModel" "textMany" "I") ∈ lw_all := lw_g (lw_at lw_m6 229 rfl) rfl
theorem q1526 : (Jvm.Cond.soleField "CodeExchangeModel" "textMany") ∈ lw_all := lw_g (lw_at lw_m6 230 rfl) rfl
theorem q1527 : (Jvm.Cond.laysFinal "CodeExchangeModel" "CodeExchangeModel" "text" "[I") ∈ lw_all := lw_g (lw_at lw_m6 231 rfl) rfl
theorem q1528 : (Jvm.Cond.soleField "CodeExchangeModel" "text") ∈ lw_all := lw_g (lw_at lw_m6 232 rfl) rfl
theorem q1529 : (Jvm.Cond.lays "CodeExchangeModel" "CodeExchangeModel" "state" "I") ∈ lw_all := lw_g (lw_at lw_m6 233 rfl) rfl
theorem q1530 : (Jvm.Cond.soleField "CodeExchangeModel" "state") ∈ lw_all := lw_g (lw_at lw_m6 234 rfl) rfl
theorem q1531 : (Jvm.Cond.lays "CodeExchangeModel" "CodeExchangeModel" "pending" "I") ∈ lw_all := lw_g (lw_at lw_m6 235 rfl) rfl
theorem q1532 : (Jvm.Cond.soleField "CodeExchangeModel" "pending") ∈ lw_all := lw_g (lw_at lw_m6 236 rfl) rfl
theorem q1533 : (Jvm.Cond.lays "CodeExchangeModel" "CodeExchangeModel" "out" "[I") ∈ lw_all := lw_g (lw_at lw_m6 237 rfl) rfl
theorem q1534 : (Jvm.Cond.soleField "CodeExchangeModel" "out") ∈ lw_all := lw_g (lw_at lw_m6 238 rfl) rfl
theorem q1535 : (Jvm.Cond.lays "CodeExchangeModel" "CodeExchangeModel" "outs" "I") ∈ lw_all := lw_g (lw_at lw_m6 239 rfl) rfl
theorem q1536 : (Jvm.Cond.soleField "CodeExchangeModel" "outs") ∈ lw_all := lw_g (lw_at lw_m7 0 rfl) rfl
theorem q1537 : (Jvm.Cond.lays "CodeExchangeModel" "CodeExchangeModel" "most" "I") ∈ lw_all := lw_g (lw_at lw_m7 1 rfl) rfl
theorem q1538 : (Jvm.Cond.soleField "CodeExchangeModel" "most") ∈ lw_all := lw_g (lw_at lw_m7 2 rfl) rfl
theorem q1539 : (Jvm.Cond.lays "CodeExchangeModel" "CodeExchangeModel" "faultCount" "I") ∈ lw_all := lw_g (lw_at lw_m7 3 rfl) rfl
theorem q1540 : (Jvm.Cond.soleField "CodeExchangeModel" "faultCount") ∈ lw_all := lw_g (lw_at lw_m7 4 rfl) rfl
theorem q1541 : (Jvm.Cond.lays "CodeExchangeModel" "CodeExchangeModel" "foundMany" "I") ∈ lw_all := lw_g (lw_at lw_m7 5 rfl) rfl
theorem q1542 : (Jvm.Cond.soleField "CodeExchangeModel" "foundMany") ∈ lw_all := lw_g (lw_at lw_m7 6 rfl) rfl
theorem q1543 : (Jvm.Cond.lays "CodeExchangeModel" "CodeExchangeModel" "foundPoint" "I") ∈ lw_all := lw_g (lw_at lw_m7 7 rfl) rfl
theorem q1544 : (Jvm.Cond.soleField "CodeExchangeModel" "foundPoint") ∈ lw_all := lw_g (lw_at lw_m7 8 rfl) rfl
theorem q1545 : (Jvm.Cond.lays "CodeExchangeModel" "CodeExchangeModel" "foundShift" "I") ∈ lw_all := lw_g (lw_at lw_m7 9 rfl) rfl
theorem q1546 : (Jvm.Cond.soleField "CodeExchangeModel" "foundShift") ∈ lw_all := lw_g (lw_at lw_m7 10 rfl) rfl
theorem q1547 : (Jvm.Cond.laysFinal "CodeExchangeModel" "CodeExchangeModel" "read" "[I") ∈ lw_all := lw_g (lw_at lw_m7 11 rfl) rfl
theorem q1548 : (Jvm.Cond.soleField "CodeExchangeModel" "read") ∈ lw_all := lw_g (lw_at lw_m7 12 rfl) rfl
theorem q1549 : (Jvm.Cond.laysFinal "CodeExchangeModel" "CodeExchangeModel" "readToo" "[I") ∈ lw_all := lw_g (lw_at lw_m7 13 rfl) rfl
theorem q1550 : (Jvm.Cond.soleField "CodeExchangeModel" "readToo") ∈ lw_all := lw_g (lw_at lw_m7 14 rfl) rfl
theorem q1551 : (Jvm.Cond.laysFinal "CodeExchangeModel" "CodeExchangeModel" "written" "[I") ∈ lw_all := lw_g (lw_at lw_m7 15 rfl) rfl
theorem q1552 : (Jvm.Cond.soleField "CodeExchangeModel" "written") ∈ lw_all := lw_g (lw_at lw_m7 16 rfl) rfl
theorem q1553 : (Jvm.Cond.laysFinal "CodeExchangeModel" "CodeExchangeModel" "way" "[I") ∈ lw_all := lw_g (lw_at lw_m7 17 rfl) rfl
theorem q1554 : (Jvm.Cond.soleField "CodeExchangeModel" "way") ∈ lw_all := lw_g (lw_at lw_m7 18 rfl) rfl
theorem q1555 : (Jvm.Cond.lays "CodeExchangeModel" "CodeExchangeModel" "ways" "I") ∈ lw_all := lw_g (lw_at lw_m7 19 rfl) rfl
theorem q1556 : (Jvm.Cond.soleField "CodeExchangeModel" "ways") ∈ lw_all := lw_g (lw_at lw_m7 20 rfl) rfl
theorem q1557 : (Jvm.Cond.lays "CodeExchangeModel" "CodeExchangeModel" "counts" "Z") ∈ lw_all := lw_g (lw_at lw_m7 21 rfl) rfl
theorem q1558 : (Jvm.Cond.soleField "CodeExchangeModel" "counts") ∈ lw_all := lw_g (lw_at lw_m7 22 rfl) rfl
theorem q1559 : (Jvm.Cond.laysFinal "CodeExchangeModel" "CodeExchangeModel" "points" "[I") ∈ lw_all := lw_g (lw_at lw_m7 23 rfl) rfl
theorem q1560 : (Jvm.Cond.soleField "CodeExchangeModel" "points") ∈ lw_all := lw_g (lw_at lw_m7 24 rfl) rfl
theorem q1561 : (Jvm.Cond.laysFinal "CodeExchangeModel" "CodeExchangeModel" "seen" "[I") ∈ lw_all := lw_g (lw_at lw_m7 25 rfl) rfl
theorem q1562 : (Jvm.Cond.soleField "CodeExchangeModel" "seen") ∈ lw_all := lw_g (lw_at lw_m7 26 rfl) rfl
theorem q1563 : (Jvm.Cond.laysFinal "CodeExchangeModel" "CodeExchangeModel" "known" "[I") ∈ lw_all := lw_g (lw_at lw_m7 27 rfl) rfl
theorem q1564 : (Jvm.Cond.soleField "CodeExchangeModel" "known") ∈ lw_all := lw_g (lw_at lw_m7 28 rfl) rfl
theorem q1565 : (Jvm.Cond.laysFinal "CodeExchangeModel" "CodeExchangeModel" "begun" "[Z") ∈ lw_all := lw_g (lw_at lw_m7 29 rfl) rfl
theorem q1566 : (Jvm.Cond.soleField "CodeExchangeModel" "begun") ∈ lw_all := lw_g (lw_at lw_m7 30 rfl) rfl
theorem q1567 : (Jvm.Cond.laysFinal "CodeExchangeModel" "CodeExchangeModel" "mPage" "[I") ∈ lw_all := lw_g (lw_at lw_m7 31 rfl) rfl
theorem q1568 : (Jvm.Cond.soleField "CodeExchangeModel" "mPage") ∈ lw_all := lw_g (lw_at lw_m7 32 rfl) rfl
theorem q1569 : (Jvm.Cond.laysFinal "CodeExchangeModel" "CodeExchangeModel" "mWrites" "[Z") ∈ lw_all := lw_g (lw_at lw_m7 33 rfl) rfl
theorem q1570 : (Jvm.Cond.soleField "CodeExchangeModel" "mWrites") ∈ lw_all := lw_g (lw_at lw_m7 34 rfl) rfl
theorem q1571 : (Jvm.Cond.laysFinal "CodeExchangeModel" "CodeExchangeModel" "mRule" "[I") ∈ lw_all := lw_g (lw_at lw_m7 35 rfl) rfl
theorem q1572 : (Jvm.Cond.soleField "CodeExchangeModel" "mRule") ∈ lw_all := lw_g (lw_at lw_m7 36 rfl) rfl
theorem q1573 : (Jvm.Cond.laysFinal "CodeExchangeModel" "CodeExchangeModel" "mState" "[I") ∈ lw_all := lw_g (lw_at lw_m7 37 rfl) rfl
theorem q1574 : (Jvm.Cond.soleField "CodeExchangeModel" "mState") ∈ lw_all := lw_g (lw_at lw_m7 38 rfl) rfl
theorem q1575 : (Jvm.Cond.laysFinal "CodeExchangeModel" "CodeExchangeModel" "mPending" "[I") ∈ lw_all := lw_g (lw_at lw_m7 39 rfl) rfl
theorem q1576 : (Jvm.Cond.soleField "CodeExchangeModel" "mPending") ∈ lw_all := lw_g (lw_at lw_m7 40 rfl) rfl
theorem q1577 : (Jvm.Cond.laysFinal "CodeExchangeModel" "CodeExchangeModel" "mKept" "[I") ∈ lw_all := lw_g (lw_at lw_m7 41 rfl) rfl
theorem q1578 : (Jvm.Cond.soleField "CodeExchangeModel" "mKept") ∈ lw_all := lw_g (lw_at lw_m7 42 rfl) rfl
theorem q1579 : (Jvm.Cond.laysFinal "CodeExchangeModel" "CodeExchangeModel" "mKeeps" "[I") ∈ lw_all := lw_g (lw_at lw_m7 43 rfl) rfl
theorem q1580 : (Jvm.Cond.soleField "CodeExchangeModel" "mKeeps") ∈ lw_all := lw_g (lw_at lw_m7 44 rfl) rfl
theorem q1581 : (Jvm.Cond.laysFinal "CodeExchangeModel" "CodeExchangeModel" "mFed" "[I") ∈ lw_all := lw_g (lw_at lw_m7 45 rfl) rfl
theorem q1582 : (Jvm.Cond.soleField "CodeExchangeModel" "mFed") ∈ lw_all := lw_g (lw_at lw_m7 46 rfl) rfl
theorem q1583 : (Jvm.Cond.laysFinal "CodeExchangeModel" "CodeExchangeModel" "mMode" "[I") ∈ lw_all := lw_g (lw_at lw_m7 47 rfl) rfl
theorem q1584 : (Jvm.Cond.soleField "CodeExchangeModel" "mMode") ∈ lw_all := lw_g (lw_at lw_m7 48 rfl) rfl
theorem q1585 : (Jvm.Cond.laysFinal "CodeExchangeModel" "CodeExchangeModel" "mWaits" "[I") ∈ lw_all := lw_g (lw_at lw_m7 49 rfl) rfl
theorem q1586 : (Jvm.Cond.soleField "CodeExchangeModel" "mWaits") ∈ lw_all := lw_g (lw_at lw_m7 50 rfl) rfl
theorem q1587 : (Jvm.Cond.laysFinal "CodeExchangeModel" "CodeExchangeModel" "queues" "[I") ∈ lw_all := lw_g (lw_at lw_m7 51 rfl) rfl
theorem q1588 : (Jvm.Cond.soleField "CodeExchangeModel" "queues") ∈ lw_all := lw_g (lw_at lw_m7 52 rfl) rfl
theorem q1589 : (Jvm.Cond.laysFinal "CodeExchangeModel" "CodeExchangeModel" "keeps" "[I") ∈ lw_all := lw_g (lw_at lw_m7 53 rfl) rfl
theorem q1590 : (Jvm.Cond.soleField "CodeExchangeModel" "keeps") ∈ lw_all := lw_g (lw_at lw_m7 54 rfl) rfl
theorem q1591 : (Jvm.Cond.laysFinal "CodeExchangeModel" "CodeExchangeModel" "fresh" "[I") ∈ lw_all := lw_g (lw_at lw_m7 55 rfl) rfl
theorem q1592 : (Jvm.Cond.soleField "CodeExchangeModel" "fresh") ∈ lw_all := lw_g (lw_at lw_m7 56 rfl) rfl
theorem q1593 : (Jvm.Cond.laysFinal "CodeExchangeModel" "CodeExchangeModel" "alone" "[I") ∈ lw_all := lw_g (lw_at lw_m7 57 rfl) rfl
theorem q1594 : (Jvm.Cond.soleField "CodeExchangeModel" "alone") ∈ lw_all := lw_g (lw_at lw_m7 58 rfl) rfl
theorem q1595 : (Jvm.Cond.lays "CodeExchangeModel" "CodeExchangeModel" "at" "I") ∈ lw_all := lw_g (lw_at lw_m7 59 rfl) rfl
theorem q1596 : (Jvm.Cond.soleField "CodeExchangeModel" "at") ∈ lw_all := lw_g (lw_at lw_m7 60 rfl) rfl
theorem q1597 : (Jvm.Cond.lays "CodeExchangeModel" "CodeExchangeModel" "limit" "I") ∈ lw_all := lw_g (lw_at lw_m7 61 rfl) rfl
theorem q1598 : (Jvm.Cond.soleField "CodeExchangeModel" "limit") ∈ lw_all := lw_g (lw_at lw_m7 62 rfl) rfl
theorem q1599 : (Jvm.Cond.superclass "CodeExchangeModel" "java/lang/Object") ∈ lw_all := lw_g (lw_at lw_m7 63 rfl) rfl
theorem q1601 : (Jvm.Cond.instanceMethod ({ cls := "CodeExchangeModel", name := "page", desc := "(I)I" } : Jvm.MethodName)) ∈ lw_all := lw_g (lw_at lw_m7 65 rfl) rfl
theorem q1602 : (Jvm.Cond.selects "CodeExchangeModel" ({ cls := "CodeExchangeModel", name := "page", desc := "(I)I" } : Jvm.MethodName) ({ cls := "CodeExchangeModel", name := "page", desc := "(I)I" } : Jvm.MethodName)) ∈ lw_all := lw_g (lw_at lw_m7 66 rfl) rfl
theorem q1603 : (Jvm.Cond.code ({ cls := "CodeExchangeModel", name := "page", desc := "(I)I" } : Jvm.MethodName) prog_17_method_8_code (2 : Nat) (Option.some Jvm.ClassFile.FieldType.int)) ∈ lw_all := lw_g (lw_at lw_m7 67 rfl) rfl
theorem q1604 : (Jvm.Cond.methodLink "CodeExchangeModel" (156 : Nat) ({ cls := "CodeExchangeModel", name := "in", desc := "(III)Z" } : Jvm.MethodName)) ∈ lw_all := lw_g (lw_at lw_m7 68 rfl) rfl
theorem q1605 : (Jvm.Cond.static ({ cls := "CodeExchangeModel", name := "in", desc := "(III)Z" } : Jvm.MethodName)) ∈ lw_all := lw_g (lw_at lw_m7 69 rfl) rfl
theorem q1606 : (Jvm.Cond.code ({ cls := "CodeExchangeModel", name := "in", desc := "(III)Z" } : Jvm.MethodName) prog_17_method_3_code (3 : Nat) (Option.some Jvm.ClassFile.FieldType.boolean)) ∈ lw_all := lw_g (lw_at lw_m7 70 rfl) rfl
theorem q1607 : (Jvm.Cond.methodLink "CodeExchangeModel" (166 : Nat) ({ cls := "CodeExchangeModel", name := "tell", desc := "(I)I" } : Jvm.MethodName)) ∈ lw_all := lw_g (lw_at lw_m7 71 rfl) rfl
theorem q1608 : (Jvm.Cond.privateMethod ({ cls := "CodeExchangeModel", name := "tell", desc := "(I)I" } : Jvm.MethodName)) ∈ lw_tbl := lw_at lw_m7 72 rfl
theorem q1609 : (Jvm.Cond.instanceMethod ({ cls := "CodeExchangeModel", name := "tell", desc := "(I)I" } : Jvm.MethodName)) ∈ lw_all := lw_g (lw_at lw_m7 73 rfl) rfl
theorem q1610 : (Jvm.Cond.code ({ cls := "CodeExchangeModel", name := "tell", desc := "(I)I" } : Jvm.MethodName) prog_17_method_2_code (2 : Nat) (Option.some Jvm.ClassFile.FieldType.int)) ∈ lw_all := lw_g (lw_at lw_m7 74 rfl) rfl
theorem q1612 : (Jvm.Cond.instanceMethod ({ cls := "CodeExchangeModel", name := "derive", desc := "(I)I" } : Jvm.MethodName)) ∈ lw_all := lw_g (lw_at lw_m7 76 rfl) rfl
theorem q1613 : (Jvm.Cond.selects "CodeExchangeModel" ({ cls := "CodeExchangeModel", name := "derive", desc := "(I)I" } : Jvm.MethodName) ({ cls := "CodeExchangeModel", name := "derive", desc := "(I)I" } : Jvm.MethodName)) ∈ lw_all := lw_g (lw_at lw_m7 77 rfl) rfl
theorem q1614 : (Jvm.Cond.code ({ cls := "CodeExchangeModel", name := "derive", desc := "(I)I" } : Jvm.MethodName) prog_17_method_11_code (4 : Nat) (Option.some Jvm.ClassFile.FieldType.int)) ∈ lw_all := lw_g (lw_at lw_m7 78 rfl) rfl
theorem q1615 : (Jvm.Cond.methodLink "CodeExchangeModel" (170 : Nat) ({ cls := "CodeExchangeModel", name := "isPage", desc := "(I)Z" } : Jvm.MethodName)) ∈ lw_all := lw_g (lw_at lw_m7 79 rfl) rfl
theorem q1616 : (Jvm.Cond.privateMethod ({ cls := "CodeExchangeModel", name := "isPage", desc := "(I)Z" } : Jvm.MethodName)) ∈ lw_tbl := lw_at lw_m7 80 rfl
theorem q1617 : (Jvm.Cond.instanceMethod ({ cls := "CodeExchangeModel", name := "isPage", desc := "(I)Z" } : Jvm.MethodName)) ∈ lw_all := lw_g (lw_at lw_m7 81 rfl) rfl
theorem q1618 : (Jvm.Cond.code ({ cls := "CodeExchangeModel", name := "isPage", desc := "(I)Z" } : Jvm.MethodName) prog_17_method_7_code (2 : Nat) (Option.some Jvm.ClassFile.FieldType.boolean)) ∈ lw_all := lw_g (lw_at lw_m7 82 rfl) rfl
theorem q1619 : (Jvm.Cond.methodLink "CodeExchangeModel" (174 : Nat) ({ cls := "CodeExchangeModel", name := "copyEntry", desc := "(II)V" } : Jvm.MethodName)) ∈ lw_all := lw_g (lw_at lw_m7 83 rfl) rfl
theorem q1620 : (Jvm.Cond.privateMethod ({ cls := "CodeExchangeModel", name := "copyEntry", desc := "(II)V" } : Jvm.MethodName)) ∈ lw_tbl := lw_at lw_m7 84 rfl
theorem q1621 : (Jvm.Cond.instanceMethod ({ cls := "CodeExchangeModel", name := "copyEntry", desc := "(II)V" } : Jvm.MethodName)) ∈ lw_all := lw_g (lw_at lw_m7 85 rfl) rfl
theorem q1622 : (Jvm.Cond.code ({ cls := "CodeExchangeModel", name := "copyEntry", desc := "(II)V" } : Jvm.MethodName) prog_17_method_9_code (3 : Nat) (Option.none : Option Jvm.ClassFile.FieldType)) ∈ lw_all := lw_g (lw_at lw_m7 86 rfl) rfl
theorem q1623 : (Jvm.Cond.methodLink "CodeExchangeModel" (178 : Nat) ({ cls := "CodeExchangeModel", name := "copyShift", desc := "(II)V" } : Jvm.MethodName)) ∈ lw_all := lw_g (lw_at lw_m7 87 rfl) rfl
theorem q1624 : (Jvm.Cond.privateMethod ({ cls := "CodeExchangeModel", name := "copyShift", desc := "(II)V" } : Jvm.MethodName)) ∈ lw_tbl := lw_at lw_m7 88 rfl
theorem q1625 : (Jvm.Cond.instanceMethod ({ cls := "CodeExchangeModel", name := "copyShift", desc := "(II)V" } : Jvm.MethodName)) ∈ lw_all := lw_g (lw_at lw_m7 89 rfl) rfl
theorem q1626 : (Jvm.Cond.code ({ cls := "CodeExchangeModel", name := "copyShift", desc := "(II)V" } : Jvm.MethodName) prog_17_method_10_code (3 : Nat) (Option.none : Option Jvm.ClassFile.FieldType)) ∈ lw_all := lw_g (lw_at lw_m7 90 rfl) rfl
theorem q1628 : (Jvm.Cond.instanceMethod ({ cls := "CodeExchangeModel", name := "entry", desc := "(IIIII)I" } : Jvm.MethodName)) ∈ lw_all := lw_g (lw_at lw_m7 92 rfl) rfl
theorem q1629 : (Jvm.Cond.selects "CodeExchangeModel" ({ cls := "CodeExchangeModel", name := "entry", desc := "(IIIII)I" } : Jvm.MethodName) ({ cls := "CodeExchangeModel", name := "entry", desc := "(IIIII)I" } : Jvm.MethodName)) ∈ lw_all := lw_g (lw_at lw_m7 93 rfl) rfl
theorem q1630 : (Jvm.Cond.code ({ cls := "CodeExchangeModel", name := "entry", desc := "(IIIII)I" } : Jvm.MethodName) prog_17_method_16_code (10 : Nat) (Option.some Jvm.ClassFile.FieldType.int)) ∈ lw_all := lw_g (lw_at lw_m7 94 rfl) rfl
theorem q1631 : (Jvm.Cond.methodLink "CodeExchangeModel" (181 : Nat) ({ cls := "CodeExchangeModel", name := "fixed", desc := "(I)I" } : Jvm.MethodName)) ∈ lw_all := lw_g (lw_at lw_m7 95 rfl) rfl
theorem q1632 : (Jvm.Cond.privateMethod ({ cls := "CodeExchangeModel", name := "fixed", desc := "(I)I" } : Jvm.MethodName)) ∈ lw_tbl := lw_at lw_m7 96 rfl
theorem q1633 : (Jvm.Cond.instanceMethod ({ cls := "CodeExchangeModel", name := "fixed", desc := "(I)I" } : Jvm.MethodName)) ∈ lw_all := lw_g (lw_at lw_m7 97 rfl) rfl
theorem q1634 : (Jvm.Cond.code ({ cls := "CodeExchangeModel", name := "fixed", desc := "(I)I" } : Jvm.MethodName) prog_17_method_12_code (2 : Nat) (Option.some Jvm.ClassFile.FieldType.int)) ∈ lw_all := lw_g (lw_at lw_m7 98 rfl) rfl
theorem q1635 : (Jvm.Cond.methodLink "CodeExchangeModel" (184 : Nat) ({ cls := "CodeExchangeModel", name := "isText", desc := "(III)Z" } : Jvm.MethodName)) ∈ lw_all := lw_g (lw_at lw_m7 99 rfl) rfl
theorem q1636 : (Jvm.Cond.static ({ cls := "CodeExchangeModel", name := "isText", desc := "(III)Z" } : Jvm.MethodName)) ∈ lw_all := lw_g (lw_at lw_m7 100 rfl) rfl
theorem q1637 : (Jvm.Cond.code ({ cls := "CodeExchangeModel", name := "isText", desc := "(III)Z" } : Jvm.MethodName) prog_17_method_13_code (3 : Nat) (Option.some Jvm.ClassFile.FieldType.boolean)) ∈ lw_all := lw_g (lw_at lw_m7 101 rfl) rfl
theorem q1638 : (Jvm.Cond.methodLink "CodeExchangeModel" (187 : Nat) ({ cls := "CodeExchangeModel", name := "isPoint", desc := "(I)Z" } : Jvm.MethodName)) ∈ lw_all := lw_g (lw_at lw_m7 102 rfl) rfl
theorem q1639 : (Jvm.Cond.static ({ cls := "CodeExchangeModel", name := "isPoint", desc := "(I)Z" } : Jvm.MethodName)) ∈ lw_all := lw_g (lw_at lw_m7 103 rfl) rfl
theorem q1640 : (Jvm.Cond.code ({ cls := "CodeExchangeModel", name := "isPoint", desc := "(I)Z" } : Jvm.MethodName) prog_17_method_6_code (1 : Nat) (Option.some Jvm.ClassFile.FieldType.boolean)) ∈ lw_all := lw_g (lw_at lw_m7 104 rfl) rfl
theorem q1641 : (Jvm.Cond.constant "CodeExchangeModel" (162 : Nat) (1114111 : Int32)) ∈ lw_all := lw_g (lw_at lw_m7 105 rfl) rfl
theorem q1642 : (Jvm.Cond.constant "CodeExchangeModel" (154 : Nat) (55296 : Int32)) ∈ lw_all := lw_g (lw_at lw_m7 106 rfl) rfl
theorem q1643 : (Jvm.Cond.constant "CodeExchangeModel" (161 : Nat) (57343 : Int32)) ∈ lw_all := lw_g (lw_at lw_m7 107 rfl) rfl
theorem q1644 : (Jvm.Cond.methodLink "CodeExchangeModel" (190 : Nat) ({ cls := "CodeExchangeModel", name := "entryOf", desc := "(IIII)I" } : Jvm.MethodName)) ∈ lw_all := lw_g (lw_at lw_m7 108 rfl) rfl
theorem q1645 : (Jvm.Cond.privateMethod ({ cls := "CodeExchangeModel", name := "entryOf", desc := "(IIII)I" } : Jvm.MethodName)) ∈ lw_tbl := lw_at lw_m7 109 rfl
theorem q1646 : (Jvm.Cond.instanceMethod ({ cls := "CodeExchangeModel", name := "entryOf", desc := "(IIII)I" } : Jvm.MethodName)) ∈ lw_all := lw_g (lw_at lw_m7 110 rfl) rfl
theorem q1647 : (Jvm.Cond.code ({ cls := "CodeExchangeModel", name := "entryOf", desc := "(IIII)I" } : Jvm.MethodName) prog_17_method_14_code (6 : Nat) (Option.some Jvm.ClassFile.FieldType.int)) ∈ lw_all := lw_g (lw_at lw_m7 111 rfl) rfl
theorem q1649 : (Jvm.Cond.instanceMethod ({ cls := "CodeExchangeModel", name := "shift", desc := "(IIIIZ)I" } : Jvm.MethodName)) ∈ lw_all := lw_g (lw_at lw_m7 113 rfl) rfl
theorem q1650 : (Jvm.Cond.selects "CodeExchangeModel" ({ cls := "CodeExchangeModel", name := "shift", desc := "(IIIIZ)I" } : Jvm.MethodName) ({ cls := "CodeExchangeModel", name := "shift", desc := "(IIIIZ)I" } : Jvm.MethodName)) ∈ lw_all := lw_g (lw_at lw_m7 114 rfl) rfl
theorem q1651 : (Jvm.Cond.code ({ cls := "CodeExchangeModel", name := "shift", desc := "(IIIIZ)I" } : Jvm.MethodName) prog_17_method_17_code (8 : Nat) (Option.some Jvm.ClassFile.FieldType.int)) ∈ lw_all := lw_g (lw_at lw_m7 115 rfl) rfl
theorem q1652 : (Jvm.Cond.methodLink "CodeExchangeModel" (194 : Nat) ({ cls := "CodeExchangeModel", name := "shiftOf", desc := "(III)I" } : Jvm.MethodName)) ∈ lw_all := lw_g (lw_at lw_m7 116 rfl) rfl
theorem q1653 : (Jvm.Cond.privateMethod ({ cls := "CodeExchangeModel", name := "shiftOf", desc := "(III)I" } : Jvm.MethodName)) ∈ lw_tbl := lw_at lw_m7 117 rfl
theorem q1654 : (Jvm.Cond.instanceMethod ({ cls := "CodeExchangeModel", name := "shiftOf", desc := "(III)I" } : Jvm.MethodName)) ∈ lw_all := lw_g (lw_at lw_m7 118 rfl) rfl
theorem q1655 : (Jvm.Cond.code ({ cls := "CodeExchangeModel", name := "shiftOf", desc := "(III)I" } : Jvm.MethodName) prog_17_method_15_code (5 : Nat) (Option.some Jvm.ClassFile.FieldType.int)) ∈ lw_all := lw_g (lw_at lw_m7 119 rfl) rfl
theorem q1657 : (Jvm.Cond.instanceMethod ({ cls := "CodeExchangeModel", name := "drop", desc := "(IIII)I" } : Jvm.MethodName)) ∈ lw_all := lw_g (lw_at lw_m7 121 rfl) rfl
theorem q1658 : (Jvm.Cond.selects "CodeExchangeModel" ({ cls := "CodeExchangeModel", name := "drop", desc := "(IIII)I" } : Jvm.MethodName) ({ cls := "CodeExchangeModel", name := "drop", desc := "(IIII)I" } : Jvm.MethodName)) ∈ lw_all := lw_g (lw_at lw_m7 122 rfl) rfl
theorem q1659 : (Jvm.Cond.code ({ cls := "CodeExchangeModel", name := "drop", desc := "(IIII)I" } : Jvm.MethodName) prog_17_method_18_code (7 : Nat) (Option.some Jvm.ClassFile.FieldType.int)) ∈ lw_all := lw_g (lw_at lw_m7 123 rfl) rfl
theorem q1661 : (Jvm.Cond.instanceMethod ({ cls := "CodeExchangeModel", name := "close", desc := "(I)I" } : Jvm.MethodName)) ∈ lw_all := lw_g (lw_at lw_m7 125 rfl) rfl
theorem q1662 : (Jvm.Cond.selects "CodeExchangeModel" ({ cls := "CodeExchangeModel", name := "close", desc := "(I)I" } : Jvm.MethodName) ({ cls := "CodeExchangeModel", name := "close", desc := "(I)I" } : Jvm.MethodName)) ∈ lw_all := lw_g (lw_at lw_m7 126 rfl) rfl
theorem q1663 : (Jvm.Cond.code ({ cls := "CodeExchangeModel", name := "close", desc := "(I)I" } : Jvm.MethodName) prog_17_method_28_code (4 : Nat) (Option.some Jvm.ClassFile.FieldType.int)) ∈ lw_all := lw_g (lw_at lw_m7 127 rfl) rfl
theorem q1664 : (Jvm.Cond.methodLink "CodeExchangeModel" (225 : Nat) ({ cls := "CodeExchangeModel", name := "isGood", desc := "(I)Z" } : Jvm.MethodName)) ∈ lw_all := lw_g (lw_at lw_m7 128 rfl) rfl
theorem q1665 : (Jvm.Cond.privateMethod ({ cls := "CodeExchangeModel", name := "isGood", desc := "(I)Z" } : Jvm.MethodName)) ∈ lw_tbl := lw_at lw_m7 129 rfl
theorem q1666 : (Jvm.Cond.instanceMethod ({ cls := "CodeExchangeModel", name := "isGood", desc := "(I)Z" } : Jvm.MethodName)) ∈ lw_all := lw_g (lw_at lw_m7 130 rfl) rfl
theorem q1667 : (Jvm.Cond.code ({ cls := "CodeExchangeModel", name := "isGood", desc := "(I)Z" } : Jvm.MethodName) prog_17_method_27_code (8 : Nat) (Option.some Jvm.ClassFile.FieldType.boolean)) ∈ lw_all := lw_g (lw_at lw_m7 131 rfl) rfl
theorem q1668 : (Jvm.Cond.methodLink "CodeExchangeModel" (205 : Nat) ({ cls := "CodeExchangeModel", name := "stateOf", desc := "(II)I" } : Jvm.MethodName)) ∈ lw_all := lw_g (lw_at lw_m7 132 rfl) rfl
theorem q1669 : (Jvm.Cond.privateMethod ({ cls := "CodeExchangeModel", name := "stateOf", desc := "(II)I" } : Jvm.MethodName)) ∈ lw_tbl := lw_at lw_m7 133 rfl
theorem q1670 : (Jvm.Cond.instanceMethod ({ cls := "CodeExchangeModel", name := "stateOf", desc := "(II)I" } : Jvm.MethodName)) ∈ lw_all := lw_g (lw_at lw_m7 134 rfl) rfl
theorem q1671 : (Jvm.Cond.code ({ cls := "CodeExchangeModel", name := "stateOf", desc := "(II)I" } : Jvm.MethodName) prog_17_method_19_code (3 : Nat) (Option.some Jvm.ClassFile.FieldType.int)) ∈ lw_all := lw_g (lw_at lw_m7 135 rfl) rfl
theorem q1672 : (Jvm.Cond.methodLink "CodeExchangeModel" (208 : Nat) ({ cls := "CodeExchangeModel", name := "begins", desc := "(III)Z" } : Jvm.MethodName)) ∈ lw_all := lw_g (lw_at lw_m7 136 rfl) rfl
theorem q1673 : (Jvm.Cond.privateMethod ({ cls := "CodeExchangeModel", name := "begins", desc := "(III)Z" } : Jvm.MethodName)) ∈ lw_tbl := lw_at lw_m7 137 rfl
theorem q1674 : (Jvm.Cond.instanceMethod ({ cls := "CodeExchangeModel", name := "begins", desc := "(III)Z" } : Jvm.MethodName)) ∈ lw_all := lw_g (lw_at lw_m7 138 rfl) rfl
theorem q1675 : (Jvm.Cond.code ({ cls := "CodeExchangeModel", name := "begins", desc := "(III)Z" } : Jvm.MethodName) prog_17_method_23_code (6 : Nat) (Option.some Jvm.ClassFile.FieldType.boolean)) ∈ lw_all := lw_g (lw_at lw_m7 139 rfl) rfl
theorem q1676 : (Jvm.Cond.methodLink "CodeExchangeModel" (198 : Nat) ({ cls := "CodeExchangeModel", name := "manyOf", desc := "(II)I" } : Jvm.MethodName)) ∈ lw_all := lw_g (lw_at lw_m7 140 rfl) rfl
theorem q1677 : (Jvm.Cond.privateMethod ({ cls := "CodeExchangeModel", name := "manyOf", desc := "(II)I" } : Jvm.MethodName)) ∈ lw_tbl := lw_at lw_m7 141 rfl
theorem q1678 : (Jvm.Cond.instanceMethod ({ cls := "CodeExchangeModel", name := "manyOf", desc := "(II)I" } : Jvm.MethodName)) ∈ lw_all := lw_g (lw_at lw_m7 142 rfl) rfl
theorem q1679 : (Jvm.Cond.code ({ cls := "CodeExchangeModel", name := "manyOf", desc := "(II)I" } : Jvm.MethodName) prog_17_method_20_code (3 : Nat) (Option.some Jvm.ClassFile.FieldType.int)) ∈ lw_all := lw_g (lw_at lw_m7 143 rfl) rfl
theorem q1680 : (Jvm.Cond.methodLink "CodeExchangeModel" (202 : Nat) ({ cls := "CodeExchangeModel", name := "bytesOf", desc := "(II)I" } : Jvm.MethodName)) ∈ lw_all := lw_g (lw_at lw_m7 144 rfl) rfl
theorem q1681 : (Jvm.Cond.privateMethod ({ cls := "CodeExchangeModel", name := "bytesOf", desc := "(II)I" } : Jvm.MethodName)) ∈ lw_tbl := lw_at lw_m7 145 rfl
theorem q1682 : (Jvm.Cond.instanceMethod ({ cls := "CodeExchangeModel", name := "bytesOf", desc := "(II)I" } : Jvm.MethodName)) ∈ lw_all := lw_g (lw_at lw_m7 146 rfl) rfl
theorem q1683 : (Jvm.Cond.code ({ cls := "CodeExchangeModel", name := "bytesOf", desc := "(II)I" } : Jvm.MethodName) prog_17_method_21_code (3 : Nat) (Option.some Jvm.ClassFile.FieldType.int)) ∈ lw_all := lw_g (lw_at lw_m7 147 rfl) rfl
theorem q1684 : (Jvm.Cond.methodLink "CodeExchangeModel" (211 : Nat) ({ cls := "CodeExchangeModel", name := "numberOf", desc := "(II)I" } : Jvm.MethodName)) ∈ lw_all := lw_g (lw_at lw_m7 148 rfl) rfl
theorem q1685 : (Jvm.Cond.privateMethod ({ cls := "CodeExchangeModel", name := "numberOf", desc := "(II)I" } : Jvm.MethodName)) ∈ lw_tbl := lw_at lw_m7 149 rfl
theorem q1686 : (Jvm.Cond.instanceMethod ({ cls := "CodeExchangeModel", name := "numberOf", desc := "(II)I" } : Jvm.MethodName)) ∈ lw_all := lw_g (lw_at lw_m7 150 rfl) rfl
theorem q1687 : (Jvm.Cond.code ({ cls := "CodeExchangeModel", name := "numberOf", desc := "(II)I" } : Jvm.MethodName) prog_17_method_22_code (3 : Nat) (Option.some Jvm.ClassFile.FieldType.int)) ∈ lw_all := lw_g (lw_at lw_m7 151 rfl) rfl
theorem q1688 : (Jvm.Cond.methodLink "CodeExchangeModel" (214 : Nat) ({ cls := "CodeExchangeModel", name := "breaks", desc := "(III)Z" } : Jvm.MethodName)) ∈ lw_all := lw_g (lw_at lw_m7 152 rfl) rfl
theorem q1689 : (Jvm.Cond.privateMethod ({ cls := "CodeExchangeModel", name := "breaks", desc := "(III)Z" } : Jvm.MethodName)) ∈ lw_tbl := lw_at lw_m7 153 rfl
theorem q1690 : (Jvm.Cond.instanceMethod ({ cls := "CodeExchangeModel", name := "breaks", desc := "(III)Z" } : Jvm.MethodName)) ∈ lw_all := lw_g (lw_at lw_m7 154 rfl) rfl
theorem q1691 : (Jvm.Cond.code ({ cls := "CodeExchangeModel", name := "breaks", desc := "(III)Z" } : Jvm.MethodName) prog_17_method_26_code (4 : Nat) (Option.some Jvm.ClassFile.FieldType.boolean)) ∈ lw_all := lw_g (lw_at lw_m7 155 rfl) rfl
theorem q1692 : (Jvm.Cond.methodLink "CodeExchangeModel" (217 : Nat) ({ cls := "CodeExchangeModel", name := "reach", desc := "(I)V" } : Jvm.MethodName)) ∈ lw_all := lw_g (lw_at lw_m7 156 rfl) rfl
theorem q1693 : (Jvm.Cond.privateMethod ({ cls := "CodeExchangeModel", name := "reach", desc := "(I)V" } : Jvm.MethodName)) ∈ lw_tbl := lw_at lw_m7 157 rfl
theorem q1694 : (Jvm.Cond.instanceMethod ({ cls := "CodeExchangeModel", name := "reach", desc := "(I)V" } : Jvm.MethodName)) ∈ lw_all := lw_g (lw_at lw_m7 158 rfl) rfl
theorem q1695 : (Jvm.Cond.code ({ cls := "CodeExchangeModel", name := "reach", desc := "(I)V" } : Jvm.MethodName) prog_17_method_24_code (4 : Nat) (Option.none : Option Jvm.ClassFile.FieldType)) ∈ lw_all := lw_g (lw_at lw_m7 159 rfl) rfl
theorem q1696 : (Jvm.Cond.methodLink "CodeExchangeModel" (221 : Nat) ({ cls := "CodeExchangeModel", name := "comesHome", desc := "(II)Z" } : Jvm.MethodName)) ∈ lw_all := lw_g (lw_at lw_m7 160 rfl) rfl
theorem q1697 : (Jvm.Cond.privateMethod ({ cls := "CodeExchangeModel", name := "comesHome", desc := "(II)Z" } : Jvm.MethodName)) ∈ lw_tbl := lw_at lw_m7 161 rfl
theorem q1698 : (Jvm.Cond.instanceMethod ({ cls := "CodeExchangeModel", name := "comesHome", desc := "(II)Z" } : Jvm.MethodName)) ∈ lw_all := lw_g (lw_at lw_m7 162 rfl) rfl
theorem q1699 : (Jvm.Cond.code ({ cls := "CodeExchangeModel", name := "comesHome", desc := "(II)Z" } : Jvm.MethodName) prog_17_method_25_code (6 : Nat) (Option.some Jvm.ClassFile.FieldType.boolean)) ∈ lw_all := lw_g (lw_at lw_m7 163 rfl) rfl
theorem q1701 : (Jvm.Cond.instanceMethod ({ cls := "CodeExchangeModel", name := "size", desc := "(II)I" } : Jvm.MethodName)) ∈ lw_all := lw_g (lw_at lw_m7 165 rfl) rfl
theorem q1702 : (Jvm.Cond.selects "CodeExchangeModel" ({ cls := "CodeExchangeModel", name := "size", desc := "(II)I" } : Jvm.MethodName) ({ cls := "CodeExchangeModel", name := "size", desc := "(II)I" } : Jvm.MethodName)) ∈ lw_all := lw_g (lw_at lw_m7 166 rfl) rfl
theorem q1703 : (Jvm.Cond.code ({ cls := "CodeExchangeModel", name := "size", desc := "(II)I" } : Jvm.MethodName) prog_17_method_29_code (3 : Nat) (Option.some Jvm.ClassFile.FieldType.int)) ∈ lw_all := lw_g (lw_at lw_m7 167 rfl) rfl
theorem q1705 : (Jvm.Cond.instanceMethod ({ cls := "CodeExchangeModel", name := "code", desc := "(II)J" } : Jvm.MethodName)) ∈ lw_all := lw_g (lw_at lw_m7 169 rfl) rfl
theorem q1706 : (Jvm.Cond.selects "CodeExchangeModel" ({ cls := "CodeExchangeModel", name := "code", desc := "(II)J" } : Jvm.MethodName) ({ cls := "CodeExchangeModel", name := "code", desc := "(II)J" } : Jvm.MethodName)) ∈ lw_all := lw_g (lw_at lw_m7 170 rfl) rfl
theorem q1707 : (Jvm.Cond.code ({ cls := "CodeExchangeModel", name := "code", desc := "(II)J" } : Jvm.MethodName) prog_17_method_36_code (6 : Nat) (Option.some Jvm.ClassFile.FieldType.long)) ∈ lw_all := lw_g (lw_at lw_m7 171 rfl) rfl
theorem q1708 : (Jvm.Cond.methodLink "CodeExchangeModel" (252 : Nat) ({ cls := "CodeExchangeModel", name := "find", desc := "(II)Z" } : Jvm.MethodName)) ∈ lw_all := lw_g (lw_at lw_m7 172 rfl) rfl
theorem q1709 : (Jvm.Cond.privateMethod ({ cls := "CodeExchangeModel", name := "find", desc := "(II)Z" } : Jvm.MethodName)) ∈ lw_tbl := lw_at lw_m7 173 rfl
theorem q1710 : (Jvm.Cond.instanceMethod ({ cls := "CodeExchangeModel", name := "find", desc := "(II)Z" } : Jvm.MethodName)) ∈ lw_all := lw_g (lw_at lw_m7 174 rfl) rfl
theorem q1711 : (Jvm.Cond.code ({ cls := "CodeExchangeModel", name := "find", desc := "(II)Z" } : Jvm.MethodName) prog_17_method_31_code (4 : Nat) (Option.some Jvm.ClassFile.FieldType.boolean)) ∈ lw_all := lw_g (lw_at lw_m7 175 rfl) rfl
theorem q1712 : (Jvm.Cond.constant "CodeExchangeModel" (236 : Nat) (65536 : Int32)) ∈ lw_all := lw_g (lw_at lw_m7 176 rfl) rfl
theorem q1713 : (Jvm.Cond.methodLink "CodeExchangeModel" (237 : Nat) ({ cls := "CodeExchangeModel", name := "text", desc := "(IJ)V" } : Jvm.MethodName)) ∈ lw_all := lw_g (lw_at lw_m7 177 rfl) rfl
theorem q1714 : (Jvm.Cond.privateMethod ({ cls := "CodeExchangeModel", name := "text", desc := "(IJ)V" } : Jvm.MethodName)) ∈ lw_tbl := lw_at lw_m7 178 rfl
theorem q1715 : (Jvm.Cond.instanceMethod ({ cls := "CodeExchangeModel", name := "text", desc := "(IJ)V" } : Jvm.MethodName)) ∈ lw_all := lw_g (lw_at lw_m7 179 rfl) rfl
theorem q1716 : (Jvm.Cond.code ({ cls := "CodeExchangeModel", name := "text", desc := "(IJ)V" } : Jvm.MethodName) prog_17_method_30_code (5 : Nat) (Option.none : Option Jvm.ClassFile.FieldType)) ∈ lw_all := lw_g (lw_at lw_m7 180 rfl) rfl
theorem q1717 : (Jvm.Cond.constantLong "CodeExchangeModel" (231 : Nat) (255 : Int64)) ∈ lw_all := lw_g (lw_at lw_m7 181 rfl) rfl
theorem q1718 : (Jvm.Cond.methodLink "CodeExchangeModel" (240 : Nat) ({ cls := "CodeExchangeModel", name := "first", desc := "(I)I" } : Jvm.MethodName)) ∈ lw_all := lw_g (lw_at lw_m7 182 rfl) rfl
theorem q1719 : (Jvm.Cond.static ({ cls := "CodeExchangeModel", name := "first", desc := "(I)I" } : Jvm.MethodName)) ∈ lw_all := lw_g (lw_at lw_m7 183 rfl) rfl
theorem q1720 : (Jvm.Cond.code ({ cls := "CodeExchangeModel", name := "first", desc := "(I)I" } : Jvm.MethodName) prog_17_method_32_code (1 : Nat) (Option.some Jvm.ClassFile.FieldType.int)) ∈ lw_all := lw_g (lw_at lw_m7 184 rfl) rfl
theorem q1721 : (Jvm.Cond.methodLink "CodeExchangeModel" (243 : Nat) ({ cls := "CodeExchangeModel", name := "second", desc := "(I)I" } : Jvm.MethodName)) ∈ lw_all := lw_g (lw_at lw_m7 185 rfl) rfl
theorem q1722 : (Jvm.Cond.static ({ cls := "CodeExchangeModel", name := "second", desc := "(I)I" } : Jvm.MethodName)) ∈ lw_all := lw_g (lw_at lw_m7 186 rfl) rfl
theorem q1723 : (Jvm.Cond.code ({ cls := "CodeExchangeModel", name := "second", desc := "(I)I" } : Jvm.MethodName) prog_17_method_33_code (1 : Nat) (Option.some Jvm.ClassFile.FieldType.int)) ∈ lw_all := lw_g (lw_at lw_m7 187 rfl) rfl
theorem q1724 : (Jvm.Cond.constant "CodeExchangeModel" (160 : Nat) (56320 : Int32)) ∈ lw_all := lw_g (lw_at lw_m7 188 rfl) rfl
theorem q1725 : (Jvm.Cond.methodLink "CodeExchangeModel" (246 : Nat) ({ cls := "CodeExchangeModel", name := "turned", desc := "(I)I" } : Jvm.MethodName)) ∈ lw_all := lw_g (lw_at lw_m7 189 rfl) rfl
theorem q1726 : (Jvm.Cond.static ({ cls := "CodeExchangeModel", name := "turned", desc := "(I)I" } : Jvm.MethodName)) ∈ lw_all := lw_g (lw_at lw_m7 190 rfl) rfl
theorem q1727 : (Jvm.Cond.code ({ cls := "CodeExchangeModel", name := "turned", desc := "(I)I" } : Jvm.MethodName) prog_17_method_34_code (1 : Nat) (Option.some Jvm.ClassFile.FieldType.int)) ∈ lw_all := lw_g (lw_at lw_m7 191 rfl) rfl
theorem q1728 : (Jvm.Cond.methodLink "CodeExchangeModel" (249 : Nat) ({ cls := "CodeExchangeModel", name := "few", desc := "(I)V" } : Jvm.MethodName)) ∈ lw_all := lw_g (lw_at lw_m7 192 rfl) rfl
theorem q1729 : (Jvm.Cond.privateMethod ({ cls := "CodeExchangeModel", name := "few", desc := "(I)V" } : Jvm.MethodName)) ∈ lw_tbl := lw_at lw_m7 193 rfl
theorem q1730 : (Jvm.Cond.instanceMethod ({ cls := "CodeExchangeModel", name := "few", desc := "(I)V" } : Jvm.MethodName)) ∈ lw_all := lw_g (lw_at lw_m7 194 rfl) rfl
theorem q1731 : (Jvm.Cond.code ({ cls := "CodeExchangeModel", name := "few", desc := "(I)V" } : Jvm.MethodName) prog_17_method_35_code (4 : Nat) (Option.none : Option Jvm.ClassFile.FieldType)) ∈ lw_all := lw_g (lw_at lw_m7 195 rfl) rfl
theorem q1733 : (Jvm.Cond.instanceMethod ({ cls := "CodeExchangeModel", name := "bytesIn", desc := "(JI)I" } : Jvm.MethodName)) ∈ lw_all := lw_g (lw_at lw_m7 197 rfl) rfl
theorem q1734 : (Jvm.Cond.selects "CodeExchangeModel" ({ cls := "CodeExchangeModel", name := "bytesIn", desc := "(JI)I" } : Jvm.MethodName) ({ cls := "CodeExchangeModel", name := "bytesIn", desc := "(JI)I" } : Jvm.MethodName)) ∈ lw_all := lw_g (lw_at lw_m7 198 rfl) rfl
theorem q1735 : (Jvm.Cond.code ({ cls := "CodeExchangeModel", name := "bytesIn", desc := "(JI)I" } : Jvm.MethodName) prog_17_method_37_code (5 : Nat) (Option.some Jvm.ClassFile.FieldType.int)) ∈ lw_all := lw_g (lw_at lw_m7 199 rfl) rfl
theorem q1737 : (Jvm.Cond.instanceMethod ({ cls := "CodeExchangeModel", name := "unitsIn", desc := "(JI)I" } : Jvm.MethodName)) ∈ lw_all := lw_g (lw_at lw_m7 201 rfl) rfl
theorem q1738 : (Jvm.Cond.selects "CodeExchangeModel" ({ cls := "CodeExchangeModel", name := "unitsIn", desc := "(JI)I" } : Jvm.MethodName) ({ cls := "CodeExchangeModel", name := "unitsIn", desc := "(JI)I" } : Jvm.MethodName)) ∈ lw_all := lw_g (lw_at lw_m7 202 rfl) rfl
theorem q1739 : (Jvm.Cond.code ({ cls := "CodeExchangeModel", name := "unitsIn", desc := "(JI)I" } : Jvm.MethodName) prog_17_method_38_code (5 : Nat) (Option.some Jvm.ClassFile.FieldType.int)) ∈ lw_all := lw_g (lw_at lw_m7 203 rfl) rfl
theorem q1740 : (Jvm.Cond.constantLong "CodeExchangeModel" (261 : Nat) (65535 : Int64)) ∈ lw_all := lw_g (lw_at lw_m7 204 rfl) rfl
theorem q1742 : (Jvm.Cond.instanceMethod ({ cls := "CodeExchangeModel", name := "fill", desc := "(I)I" } : Jvm.MethodName)) ∈ lw_all := lw_g (lw_at lw_m7 206 rfl) rfl
theorem q1743 : (Jvm.Cond.selects "CodeExchangeModel" ({ cls := "CodeExchangeModel", name := "fill", desc := "(I)I" } : Jvm.MethodName) ({ cls := "CodeExchangeModel", name := "fill", desc := "(I)I" } : Jvm.MethodName)) ∈ lw_all := lw_g (lw_at lw_m7 207 rfl) rfl
theorem q1744 : (Jvm.Cond.code ({ cls := "CodeExchangeModel", name := "fill", desc := "(I)I" } : Jvm.MethodName) prog_17_method_39_code (3 : Nat) (Option.some Jvm.ClassFile.FieldType.int)) ∈ lw_all := lw_g (lw_at lw_m7 208 rfl) rfl
theorem q1746 : (Jvm.Cond.instanceMethod ({ cls := "CodeExchangeModel", name := "decode", desc := "(II)I" } : Jvm.MethodName)) ∈ lw_all := lw_g (lw_at lw_m7 210 rfl) rfl
theorem q1747 : (Jvm.Cond.selects "CodeExchangeModel" ({ cls := "CodeExchangeModel", name := "decode", desc := "(II)I" } : Jvm.MethodName) ({ cls := "CodeExchangeModel", name := "decode", desc := "(II)I" } : Jvm.MethodName)) ∈ lw_all := lw_g (lw_at lw_m7 211 rfl) rfl
theorem q1748 : (Jvm.Cond.code ({ cls := "CodeExchangeModel", name := "decode", desc := "(II)I" } : Jvm.MethodName) prog_17_method_59_code (4 : Nat) (Option.some Jvm.ClassFile.FieldType.int)) ∈ lw_all := lw_g (lw_at lw_m7 212 rfl) rfl
theorem q1749 : (Jvm.Cond.methodLink "CodeExchangeModel" (370 : Nat) ({ cls := "CodeExchangeModel", name := "readAll", desc := "(II[I)I" } : Jvm.MethodName)) ∈ lw_all := lw_g (lw_at lw_m7 213 rfl) rfl
theorem q1750 : (Jvm.Cond.privateMethod ({ cls := "CodeExchangeModel", name := "readAll", desc := "(II[I)I" } : Jvm.MethodName)) ∈ lw_tbl := lw_at lw_m7 214 rfl
theorem q1751 : (Jvm.Cond.instanceMethod ({ cls := "CodeExchangeModel", name := "readAll", desc := "(II[I)I" } : Jvm.MethodName)) ∈ lw_all := lw_g (lw_at lw_m7 215 rfl) rfl
theorem q1752 : (Jvm.Cond.code ({ cls := "CodeExchangeModel", name := "readAll", desc := "(II[I)I" } : Jvm.MethodName) prog_17_method_46_code (6 : Nat) (Option.some Jvm.ClassFile.FieldType.int)) ∈ lw_all := lw_g (lw_at lw_m7 216 rfl) rfl
theorem q1753 : (Jvm.Cond.methodLink "CodeExchangeModel" (317 : Nat) ({ cls := "CodeExchangeModel", name := "readOne", desc := "(II[IIIZ)I" } : Jvm.MethodName)) ∈ lw_all := lw_g (lw_at lw_m7 217 rfl) rfl
theorem q1754 : (Jvm.Cond.privateMethod ({ cls := "CodeExchangeModel", name := "readOne", desc := "(II[IIIZ)I" } : Jvm.MethodName)) ∈ lw_tbl := lw_at lw_m7 218 rfl
theorem q1755 : (Jvm.Cond.instanceMethod ({ cls := "CodeExchangeModel", name := "readOne", desc := "(II[IIIZ)I" } : Jvm.MethodName)) ∈ lw_all := lw_g (lw_at lw_m7 219 rfl) rfl
theorem q1756 : (Jvm.Cond.code ({ cls := "CodeExchangeModel", name := "readOne", desc := "(II[IIIZ)I" } : Jvm.MethodName) prog_17_method_45_code (8 : Nat) (Option.some Jvm.ClassFile.FieldType.int)) ∈ lw_all := lw_g (lw_at lw_m7 220 rfl) rfl
theorem q1757 : (Jvm.Cond.methodLink "CodeExchangeModel" (307 : Nat) ({ cls := "CodeExchangeModel", name := "look", desc := "(I[III)I" } : Jvm.MethodName)) ∈ lw_all := lw_g (lw_at lw_m7 221 rfl) rfl
theorem q1758 : (Jvm.Cond.privateMethod ({ cls := "CodeExchangeModel", name := "look", desc := "(I[III)I" } : Jvm.MethodName)) ∈ lw_tbl := lw_at lw_m7 222 rfl
theorem q1759 : (Jvm.Cond.instanceMethod ({ cls := "CodeExchangeModel", name := "look", desc := "(I[III)I" } : Jvm.MethodName)) ∈ lw_all := lw_g (lw_at lw_m7 223 rfl) rfl
theorem q1760 : (Jvm.Cond.code ({ cls := "CodeExchangeModel", name := "look", desc := "(I[III)I" } : Jvm.MethodName) prog_17_method_42_code (10 : Nat) (Option.some Jvm.ClassFile.FieldType.int)) ∈ lw_all := lw_g (lw_at lw_m7 224 rfl) rfl
theorem q1761 : (Jvm.Cond.methodLink "CodeExchangeModel" (278 : Nat) ({ cls := "CodeExchangeModel", name := "lookFew", desc := "([III)I" } : Jvm.MethodName)) ∈ lw_all := lw_g (lw_at lw_m7 225 rfl) rfl
theorem q1762 : (Jvm.Cond.privateMethod ({ cls := "CodeExchangeModel", name := "lookFew", desc := "([III)I" } : Jvm.MethodName)) ∈ lw_tbl := lw_at lw_m7 226 rfl
theorem q1763 : (Jvm.Cond.instanceMethod ({ cls := "CodeExchangeModel", name := "lookFew", desc := "([III)I" } : Jvm.MethodName)) ∈ lw_all := lw_g (lw_at lw_m7 227 rfl) rfl
theorem q1764 : (Jvm.Cond.code ({ cls := "CodeExchangeModel", name := "lookFew", desc := "([III)I" } : Jvm.MethodName) prog_17_method_44_code (11 : Nat) (Option.some Jvm.ClassFile.FieldType.int)) ∈ lw_all := lw_g (lw_at lw_m7 228 rfl) rfl
theorem q1765 : (Jvm.Cond.methodLink "CodeExchangeModel" (282 : Nat) ({ cls := "CodeExchangeModel", name := "lookUnits", desc := "(Z[III)I" } : Jvm.MethodName)) ∈ lw_all := lw_g (lw_at lw_m7 229 rfl) rfl
theorem q1766 : (Jvm.Cond.privateMethod ({ cls := "CodeExchangeModel", name := "lookUnits", desc := "(Z[III)I" } : Jvm.MethodName)) ∈ lw_tbl := lw_at lw_m7 230 rfl
theorem q1767 : (Jvm.Cond.instanceMethod ({ cls := "CodeExchangeModel", name := "lookUnits", desc := "(Z[III)I" } : Jvm.MethodName)) ∈ lw_all := lw_g (lw_at lw_m7 231 rfl) rfl
theorem q1768 : (Jvm.Cond.code ({ cls := "CodeExchangeModel", name := "lookUnits", desc := "(Z[III)I" } : Jvm.MethodName) prog_17_method_43_code (8 : Nat) (Option.some Jvm.ClassFile.FieldType.int)) ∈ lw_all := lw_g (lw_at lw_m7 232 rfl) rfl
theorem q1769 : (Jvm.Cond.methodLink "CodeExchangeModel" (301 : Nat) ({ cls := "CodeExchangeModel", name := "isLow", desc := "(I)Z" } : Jvm.MethodName)) ∈ lw_all := lw_g (lw_at lw_m7 233 rfl) rfl
theorem q1770 : (Jvm.Cond.static ({ cls := "CodeExchangeModel", name := "isLow", desc := "(I)Z" } : Jvm.MethodName)) ∈ lw_all := lw_g (lw_at lw_m7 234 rfl) rfl
theorem q1771 : (Jvm.Cond.code ({ cls := "CodeExchangeModel", name := "isLow", desc := "(I)Z" } : Jvm.MethodName) prog_17_method_5_code (1 : Nat) (Option.some Jvm.ClassFile.FieldType.boolean)) ∈ lw_all := lw_g (lw_at lw_m7 235 rfl) rfl
theorem q1772 : (Jvm.Cond.methodLink "CodeExchangeModel" (304 : Nat) ({ cls := "CodeExchangeModel", name := "isHigh", desc := "(I)Z" } : Jvm.MethodName)) ∈ lw_all := lw_g (lw_at lw_m7 236 rfl) rfl
theorem q1773 : (Jvm.Cond.static ({ cls := "CodeExchangeModel", name := "isHigh", desc := "(I)Z" } : Jvm.MethodName)) ∈ lw_all := lw_g (lw_at lw_m7 237 rfl) rfl
theorem q1774 : (Jvm.Cond.code ({ cls := "CodeExchangeModel", name := "isHigh", desc := "(I)Z" } : Jvm.MethodName) prog_17_method_4_code (1 : Nat) (Option.some Jvm.ClassFile.FieldType.boolean)) ∈ lw_all := lw_g (lw_at lw_m7 238 rfl) rfl
theorem q1775 : (Jvm.Cond.constant "CodeExchangeModel" (155 : Nat) (56319 : Int32)) ∈ lw_all := lw_g (lw_at lw_m7 239 rfl) rfl
theorem q1776 : (Jvm.Cond.methodLink "CodeExchangeModel" (311 : Nat) ({ cls := "CodeExchangeModel", name := "putUnits", desc := "(I)V" } : Jvm.MethodName)) ∈ lw_all := lw_g (lw_at lw_m8 0 rfl) rfl
theorem q1777 : (Jvm.Cond.privateMethod ({ cls := "CodeExchangeModel", name := "putUnits", desc := "(I)V" } : Jvm.MethodName)) ∈ lw_tbl := lw_at lw_m8 1 rfl
theorem q1778 : (Jvm.Cond.instanceMethod ({ cls := "CodeExchangeModel", name := "putUnits", desc := "(I)V" } : Jvm.MethodName)) ∈ lw_all := lw_g (lw_at lw_m8 2 rfl) rfl
theorem q1779 : (Jvm.Cond.code ({ cls := "CodeExchangeModel", name := "putUnits", desc := "(I)V" } : Jvm.MethodName) prog_17_method_41_code (2 : Nat) (Option.none : Option Jvm.ClassFile.FieldType)) ∈ lw_all := lw_g (lw_at lw_m8 3 rfl) rfl
theorem q1780 : (Jvm.Cond.methodLink "CodeExchangeModel" (275 : Nat) ({ cls := "CodeExchangeModel", name := "put", desc := "(I)V" } : Jvm.MethodName)) ∈ lw_all := lw_g (lw_at lw_m8 4 rfl) rfl
theorem q1781 : (Jvm.Cond.privateMethod ({ cls := "CodeExchangeModel", name := "put", desc := "(I)V" } : Jvm.MethodName)) ∈ lw_tbl := lw_at lw_m8 5 rfl
theorem q1782 : (Jvm.Cond.instanceMethod ({ cls := "CodeExchangeModel", name := "put", desc := "(I)V" } : Jvm.MethodName)) ∈ lw_all := lw_g (lw_at lw_m8 6 rfl) rfl
theorem q1783 : (Jvm.Cond.code ({ cls := "CodeExchangeModel", name := "put", desc := "(I)V" } : Jvm.MethodName) prog_17_method_40_code (2 : Nat) (Option.none : Option Jvm.ClassFile.FieldType)) ∈ lw_all := lw_g (lw_at lw_m8 7 rfl) rfl
theorem q1784 : (Jvm.Cond.methodLink "CodeExchangeModel" (374 : Nat) ({ cls := "CodeExchangeModel", name := "resultOf", desc := "([III)I" } : Jvm.MethodName)) ∈ lw_all := lw_g (lw_at lw_m8 8 rfl) rfl
theorem q1785 : (Jvm.Cond.privateMethod ({ cls := "CodeExchangeModel", name := "resultOf", desc := "([III)I" } : Jvm.MethodName)) ∈ lw_tbl := lw_at lw_m8 9 rfl
theorem q1786 : (Jvm.Cond.instanceMethod ({ cls := "CodeExchangeModel", name := "resultOf", desc := "([III)I" } : Jvm.MethodName)) ∈ lw_all := lw_g (lw_at lw_m8 10 rfl) rfl
theorem q1787 : (Jvm.Cond.code ({ cls := "CodeExchangeModel", name := "resultOf", desc := "([III)I" } : Jvm.MethodName) prog_17_method_58_code (5 : Nat) (Option.some Jvm.ClassFile.FieldType.int)) ∈ lw_all := lw_g (lw_at lw_m8 11 rfl) rfl
theorem q1789 : (Jvm.Cond.instanceMethod ({ cls := "CodeExchangeModel", name := "encode", desc := "(II)I" } : Jvm.MethodName)) ∈ lw_all := lw_g (lw_at lw_m8 13 rfl) rfl
theorem q1790 : (Jvm.Cond.selects "CodeExchangeModel" ({ cls := "CodeExchangeModel", name := "encode", desc := "(II)I" } : Jvm.MethodName) ({ cls := "CodeExchangeModel", name := "encode", desc := "(II)I" } : Jvm.MethodName)) ∈ lw_all := lw_g (lw_at lw_m8 14 rfl) rfl
theorem q1791 : (Jvm.Cond.code ({ cls := "CodeExchangeModel", name := "encode", desc := "(II)I" } : Jvm.MethodName) prog_17_method_60_code (4 : Nat) (Option.some Jvm.ClassFile.FieldType.int)) ∈ lw_all := lw_g (lw_at lw_m8 15 rfl) rfl
theorem q1792 : (Jvm.Cond.methodLink "CodeExchangeModel" (377 : Nat) ({ cls := "CodeExchangeModel", name := "writeAll", desc := "(II[IIII)I" } : Jvm.MethodName)) ∈ lw_all := lw_g (lw_at lw_m8 16 rfl) rfl
theorem q1793 : (Jvm.Cond.privateMethod ({ cls := "CodeExchangeModel", name := "writeAll", desc := "(II[IIII)I" } : Jvm.MethodName)) ∈ lw_tbl := lw_at lw_m8 17 rfl
theorem q1794 : (Jvm.Cond.instanceMethod ({ cls := "CodeExchangeModel", name := "writeAll", desc := "(II[IIII)I" } : Jvm.MethodName)) ∈ lw_all := lw_g (lw_at lw_m8 18 rfl) rfl
theorem q1795 : (Jvm.Cond.code ({ cls := "CodeExchangeModel", name := "writeAll", desc := "(II[IIII)I" } : Jvm.MethodName) prog_17_method_57_code (11 : Nat) (Option.some Jvm.ClassFile.FieldType.int)) ∈ lw_all := lw_g (lw_at lw_m8 19 rfl) rfl
theorem q1796 : (Jvm.Cond.methodLink "CodeExchangeModel" (361 : Nat) ({ cls := "CodeExchangeModel", name := "writePoint", desc := "(III)I" } : Jvm.MethodName)) ∈ lw_all := lw_g (lw_at lw_m8 20 rfl) rfl
theorem q1797 : (Jvm.Cond.privateMethod ({ cls := "CodeExchangeModel", name := "writePoint", desc := "(III)I" } : Jvm.MethodName)) ∈ lw_tbl := lw_at lw_m8 21 rfl
theorem q1798 : (Jvm.Cond.instanceMethod ({ cls := "CodeExchangeModel", name := "writePoint", desc := "(III)I" } : Jvm.MethodName)) ∈ lw_all := lw_g (lw_at lw_m8 22 rfl) rfl
theorem q1799 : (Jvm.Cond.code ({ cls := "CodeExchangeModel", name := "writePoint", desc := "(III)I" } : Jvm.MethodName) prog_17_method_52_code (4 : Nat) (Option.some Jvm.ClassFile.FieldType.int)) ∈ lw_all := lw_g (lw_at lw_m8 23 rfl) rfl
theorem q1800 : (Jvm.Cond.methodLink "CodeExchangeModel" (348 : Nat) ({ cls := "CodeExchangeModel", name := "putPoint", desc := "(I)I" } : Jvm.MethodName)) ∈ lw_all := lw_g (lw_at lw_m8 24 rfl) rfl
theorem q1801 : (Jvm.Cond.privateMethod ({ cls := "CodeExchangeModel", name := "putPoint", desc := "(I)I" } : Jvm.MethodName)) ∈ lw_tbl := lw_at lw_m8 25 rfl
theorem q1802 : (Jvm.Cond.instanceMethod ({ cls := "CodeExchangeModel", name := "putPoint", desc := "(I)I" } : Jvm.MethodName)) ∈ lw_all := lw_g (lw_at lw_m8 26 rfl) rfl
theorem q1803 : (Jvm.Cond.code ({ cls := "CodeExchangeModel", name := "putPoint", desc := "(I)I" } : Jvm.MethodName) prog_17_method_50_code (4 : Nat) (Option.some Jvm.ClassFile.FieldType.int)) ∈ lw_all := lw_g (lw_at lw_m8 27 rfl) rfl
theorem q1804 : (Jvm.Cond.methodLink "CodeExchangeModel" (341 : Nat) ({ cls := "CodeExchangeModel", name := "go", desc := "(IIZ)I" } : Jvm.MethodName)) ∈ lw_all := lw_g (lw_at lw_m8 28 rfl) rfl
theorem q1805 : (Jvm.Cond.privateMethod ({ cls := "CodeExchangeModel", name := "go", desc := "(IIZ)I" } : Jvm.MethodName)) ∈ lw_tbl := lw_at lw_m8 29 rfl
theorem q1806 : (Jvm.Cond.instanceMethod ({ cls := "CodeExchangeModel", name := "go", desc := "(IIZ)I" } : Jvm.MethodName)) ∈ lw_all := lw_g (lw_at lw_m8 30 rfl) rfl
theorem q1807 : (Jvm.Cond.code ({ cls := "CodeExchangeModel", name := "go", desc := "(IIZ)I" } : Jvm.MethodName) prog_17_method_49_code (6 : Nat) (Option.some Jvm.ClassFile.FieldType.int)) ∈ lw_all := lw_g (lw_at lw_m8 31 rfl) rfl
theorem q1808 : (Jvm.Cond.methodLink "CodeExchangeModel" (324 : Nat) ({ cls := "CodeExchangeModel", name := "leads", desc := "(IIIIZ)Z" } : Jvm.MethodName)) ∈ lw_all := lw_g (lw_at lw_m8 32 rfl) rfl
theorem q1809 : (Jvm.Cond.privateMethod ({ cls := "CodeExchangeModel", name := "leads", desc := "(IIIIZ)Z" } : Jvm.MethodName)) ∈ lw_tbl := lw_at lw_m8 33 rfl
theorem q1810 : (Jvm.Cond.instanceMethod ({ cls := "CodeExchangeModel", name := "leads", desc := "(IIIIZ)Z" } : Jvm.MethodName)) ∈ lw_all := lw_g (lw_at lw_m8 34 rfl) rfl
theorem q1811 : (Jvm.Cond.code ({ cls := "CodeExchangeModel", name := "leads", desc := "(IIIIZ)Z" } : Jvm.MethodName) prog_17_method_47_code (9 : Nat) (Option.some Jvm.ClassFile.FieldType.boolean)) ∈ lw_all := lw_g (lw_at lw_m8 35 rfl) rfl
theorem q1812 : (Jvm.Cond.methodLink "CodeExchangeModel" (338 : Nat) ({ cls := "CodeExchangeModel", name := "putByte", desc := "(I)I" } : Jvm.MethodName)) ∈ lw_all := lw_g (lw_at lw_m8 36 rfl) rfl
theorem q1813 : (Jvm.Cond.privateMethod ({ cls := "CodeExchangeModel", name := "putByte", desc := "(I)I" } : Jvm.MethodName)) ∈ lw_tbl := lw_at lw_m8 37 rfl
theorem q1814 : (Jvm.Cond.instanceMethod ({ cls := "CodeExchangeModel", name := "putByte", desc := "(I)I" } : Jvm.MethodName)) ∈ lw_all := lw_g (lw_at lw_m8 38 rfl) rfl
theorem q1815 : (Jvm.Cond.code ({ cls := "CodeExchangeModel", name := "putByte", desc := "(I)I" } : Jvm.MethodName) prog_17_method_48_code (2 : Nat) (Option.some Jvm.ClassFile.FieldType.int)) ∈ lw_all := lw_g (lw_at lw_m8 39 rfl) rfl
theorem q1816 : (Jvm.Cond.methodLink "CodeExchangeModel" (351 : Nat) ({ cls := "CodeExchangeModel", name := "falls", desc := "(II)Z" } : Jvm.MethodName)) ∈ lw_all := lw_g (lw_at lw_m8 40 rfl) rfl
theorem q1817 : (Jvm.Cond.privateMethod ({ cls := "CodeExchangeModel", name := "falls", desc := "(II)Z" } : Jvm.MethodName)) ∈ lw_tbl := lw_at lw_m8 41 rfl
theorem q1818 : (Jvm.Cond.instanceMethod ({ cls := "CodeExchangeModel", name := "falls", desc := "(II)Z" } : Jvm.MethodName)) ∈ lw_all := lw_g (lw_at lw_m8 42 rfl) rfl
theorem q1819 : (Jvm.Cond.code ({ cls := "CodeExchangeModel", name := "falls", desc := "(II)Z" } : Jvm.MethodName) prog_17_method_53_code (6 : Nat) (Option.some Jvm.ClassFile.FieldType.boolean)) ∈ lw_all := lw_g (lw_at lw_m8 43 rfl) rfl
theorem q1820 : (Jvm.Cond.methodLink "CodeExchangeModel" (357 : Nat) ({ cls := "CodeExchangeModel", name := "fallbackOf", desc := "(I)I" } : Jvm.MethodName)) ∈ lw_all := lw_g (lw_at lw_m8 44 rfl) rfl
theorem q1821 : (Jvm.Cond.privateMethod ({ cls := "CodeExchangeModel", name := "fallbackOf", desc := "(I)I" } : Jvm.MethodName)) ∈ lw_tbl := lw_at lw_m8 45 rfl
theorem q1822 : (Jvm.Cond.instanceMethod ({ cls := "CodeExchangeModel", name := "fallbackOf", desc := "(I)I" } : Jvm.MethodName)) ∈ lw_all := lw_g (lw_at lw_m8 46 rfl) rfl
theorem q1823 : (Jvm.Cond.code ({ cls := "CodeExchangeModel", name := "fallbackOf", desc := "(I)I" } : Jvm.MethodName) prog_17_method_51_code (3 : Nat) (Option.some Jvm.ClassFile.FieldType.int)) ∈ lw_all := lw_g (lw_at lw_m8 47 rfl) rfl
theorem q1824 : (Jvm.Cond.methodLink "CodeExchangeModel" (354 : Nat) ({ cls := "CodeExchangeModel", name := "fall", desc := "(II)I" } : Jvm.MethodName)) ∈ lw_all := lw_g (lw_at lw_m8 48 rfl) rfl
theorem q1825 : (Jvm.Cond.privateMethod ({ cls := "CodeExchangeModel", name := "fall", desc := "(II)I" } : Jvm.MethodName)) ∈ lw_tbl := lw_at lw_m8 49 rfl
theorem q1826 : (Jvm.Cond.instanceMethod ({ cls := "CodeExchangeModel", name := "fall", desc := "(II)I" } : Jvm.MethodName)) ∈ lw_all := lw_g (lw_at lw_m8 50 rfl) rfl
theorem q1827 : (Jvm.Cond.code ({ cls := "CodeExchangeModel", name := "fall", desc := "(II)I" } : Jvm.MethodName) prog_17_method_54_code (6 : Nat) (Option.some Jvm.ClassFile.FieldType.int)) ∈ lw_all := lw_g (lw_at lw_m8 51 rfl) rfl
theorem q1828 : (Jvm.Cond.methodLink "CodeExchangeModel" (364 : Nat) ({ cls := "CodeExchangeModel", name := "writeLone", desc := "(III)I" } : Jvm.MethodName)) ∈ lw_all := lw_g (lw_at lw_m8 52 rfl) rfl
theorem q1829 : (Jvm.Cond.privateMethod ({ cls := "CodeExchangeModel", name := "writeLone", desc := "(III)I" } : Jvm.MethodName)) ∈ lw_tbl := lw_at lw_m8 53 rfl
theorem q1830 : (Jvm.Cond.instanceMethod ({ cls := "CodeExchangeModel", name := "writeLone", desc := "(III)I" } : Jvm.MethodName)) ∈ lw_all := lw_g (lw_at lw_m8 54 rfl) rfl
theorem q1831 : (Jvm.Cond.code ({ cls := "CodeExchangeModel", name := "writeLone", desc := "(III)I" } : Jvm.MethodName) prog_17_method_55_code (4 : Nat) (Option.some Jvm.ClassFile.FieldType.int)) ∈ lw_all := lw_g (lw_at lw_m8 55 rfl) rfl
theorem q1832 : (Jvm.Cond.constant "CodeExchangeModel" (360 : Nat) (56575 : Int32)) ∈ lw_all := lw_g (lw_at lw_m8 56 rfl) rfl
theorem q1833 : (Jvm.Cond.methodLink "CodeExchangeModel" (367 : Nat) ({ cls := "CodeExchangeModel", name := "goHome", desc := "(I)I" } : Jvm.MethodName)) ∈ lw_all := lw_g (lw_at lw_m8 57 rfl) rfl
theorem q1834 : (Jvm.Cond.privateMethod ({ cls := "CodeExchangeModel", name := "goHome", desc := "(I)I" } : Jvm.MethodName)) ∈ lw_tbl := lw_at lw_m8 58 rfl
theorem q1835 : (Jvm.Cond.instanceMethod ({ cls := "CodeExchangeModel", name := "goHome", desc := "(I)I" } : Jvm.MethodName)) ∈ lw_all := lw_g (lw_at lw_m8 59 rfl) rfl
theorem q1836 : (Jvm.Cond.code ({ cls := "CodeExchangeModel", name := "goHome", desc := "(I)I" } : Jvm.MethodName) prog_17_method_56_code (2 : Nat) (Option.some Jvm.ClassFile.FieldType.int)) ∈ lw_all := lw_g (lw_at lw_m8 60 rfl) rfl
theorem q1838 : (Jvm.Cond.instanceMethod ({ cls := "CodeExchangeModel", name := "transcode", desc := "(IIII)I" } : Jvm.MethodName)) ∈ lw_all := lw_g (lw_at lw_m8 62 rfl) rfl
theorem q1839 : (Jvm.Cond.selects "CodeExchangeModel" ({ cls := "CodeExchangeModel", name := "transcode", desc := "(IIII)I" } : Jvm.MethodName) ({ cls := "CodeExchangeModel", name := "transcode", desc := "(IIII)I" } : Jvm.MethodName)) ∈ lw_all := lw_g (lw_at lw_m8 63 rfl) rfl
theorem q1840 : (Jvm.Cond.code ({ cls := "CodeExchangeModel", name := "transcode", desc := "(IIII)I" } : Jvm.MethodName) prog_17_method_61_code (7 : Nat) (Option.some Jvm.ClassFile.FieldType.int)) ∈ lw_all := lw_g (lw_at lw_m8 64 rfl) rfl
theorem q1842 : (Jvm.Cond.instanceMethod ({ cls := "CodeExchangeModel", name := "result", desc := "(I)I" } : Jvm.MethodName)) ∈ lw_all := lw_g (lw_at lw_m8 66 rfl) rfl
theorem q1843 : (Jvm.Cond.selects "CodeExchangeModel" ({ cls := "CodeExchangeModel", name := "result", desc := "(I)I" } : Jvm.MethodName) ({ cls := "CodeExchangeModel", name := "result", desc := "(I)I" } : Jvm.MethodName)) ∈ lw_all := lw_g (lw_at lw_m8 67 rfl) rfl
theorem q1844 : (Jvm.Cond.code ({ cls := "CodeExchangeModel", name := "result", desc := "(I)I" } : Jvm.MethodName) prog_17_method_62_code (2 : Nat) (Option.some Jvm.ClassFile.FieldType.int)) ∈ lw_all := lw_g (lw_at lw_m8 68 rfl) rfl
theorem q1846 : (Jvm.Cond.instanceMethod ({ cls := "CodeExchangeModel", name := "sign", desc := "(II)I" } : Jvm.MethodName)) ∈ lw_all := lw_g (lw_at lw_m8 70 rfl) rfl
theorem q1847 : (Jvm.Cond.selects "CodeExchangeModel" ({ cls := "CodeExchangeModel", name := "sign", desc := "(II)I" } : Jvm.MethodName) ({ cls := "CodeExchangeModel", name := "sign", desc := "(II)I" } : Jvm.MethodName)) ∈ lw_all := lw_g (lw_at lw_m8 71 rfl) rfl
theorem q1848 : (Jvm.Cond.code ({ cls := "CodeExchangeModel", name := "sign", desc := "(II)I" } : Jvm.MethodName) prog_17_method_63_code (4 : Nat) (Option.some Jvm.ClassFile.FieldType.int)) ∈ lw_all := lw_g (lw_at lw_m8 72 rfl) rfl
theorem q1850 : (Jvm.Cond.instanceMethod ({ cls := "CodeExchangeModel", name := "fallback", desc := "(I)I" } : Jvm.MethodName)) ∈ lw_all := lw_g (lw_at lw_m8 74 rfl) rfl
theorem q1851 : (Jvm.Cond.selects "CodeExchangeModel" ({ cls := "CodeExchangeModel", name := "fallback", desc := "(I)I" } : Jvm.MethodName) ({ cls := "CodeExchangeModel", name := "fallback", desc := "(I)I" } : Jvm.MethodName)) ∈ lw_all := lw_g (lw_at lw_m8 75 rfl) rfl
theorem q1852 : (Jvm.Cond.code ({ cls := "CodeExchangeModel", name := "fallback", desc := "(I)I" } : Jvm.MethodName) prog_17_method_66_code (9 : Nat) (Option.some Jvm.ClassFile.FieldType.int)) ∈ lw_all := lw_g (lw_at lw_m8 76 rfl) rfl
theorem q1853 : (Jvm.Cond.methodLink "CodeExchangeModel" (385 : Nat) ({ cls := "CodeExchangeModel", name := "comesBack", desc := "(I)Z" } : Jvm.MethodName)) ∈ lw_all := lw_g (lw_at lw_m8 77 rfl) rfl
theorem q1854 : (Jvm.Cond.privateMethod ({ cls := "CodeExchangeModel", name := "comesBack", desc := "(I)Z" } : Jvm.MethodName)) ∈ lw_tbl := lw_at lw_m8 78 rfl
theorem q1855 : (Jvm.Cond.instanceMethod ({ cls := "CodeExchangeModel", name := "comesBack", desc := "(I)Z" } : Jvm.MethodName)) ∈ lw_all := lw_g (lw_at lw_m8 79 rfl) rfl
theorem q1856 : (Jvm.Cond.code ({ cls := "CodeExchangeModel", name := "comesBack", desc := "(I)Z" } : Jvm.MethodName) prog_17_method_64_code (6 : Nat) (Option.some Jvm.ClassFile.FieldType.boolean)) ∈ lw_all := lw_g (lw_at lw_m8 80 rfl) rfl
theorem q1857 : (Jvm.Cond.methodLink "CodeExchangeModel" (381 : Nat) ({ cls := "CodeExchangeModel", name := "length", desc := "(I[I)I" } : Jvm.MethodName)) ∈ lw_all := lw_g (lw_at lw_m8 81 rfl) rfl
theorem q1858 : (Jvm.Cond.privateMethod ({ cls := "CodeExchangeModel", name := "length", desc := "(I[I)I" } : Jvm.MethodName)) ∈ lw_tbl := lw_at lw_m8 82 rfl
theorem q1859 : (Jvm.Cond.instanceMethod ({ cls := "CodeExchangeModel", name := "length", desc := "(I[I)I" } : Jvm.MethodName)) ∈ lw_all := lw_g (lw_at lw_m8 83 rfl) rfl
theorem q1860 : (Jvm.Cond.code ({ cls := "CodeExchangeModel", name := "length", desc := "(I[I)I" } : Jvm.MethodName) prog_17_method_65_code (6 : Nat) (Option.some Jvm.ClassFile.FieldType.int)) ∈ lw_all := lw_g (lw_at lw_m8 84 rfl) rfl
theorem q1862 : (Jvm.Cond.instanceMethod ({ cls := "CodeExchangeModel", name := "begin", desc := "(IIZI)I" } : Jvm.MethodName)) ∈ lw_all := lw_g (lw_at lw_m8 86 rfl) rfl
theorem q1863 : (Jvm.Cond.selects "CodeExchangeModel" ({ cls := "CodeExchangeModel", name := "begin", desc := "(IIZI)I" } : Jvm.MethodName) ({ cls := "CodeExchangeModel", name := "begin", desc := "(IIZI)I" } : Jvm.MethodName)) ∈ lw_all := lw_g (lw_at lw_m8 87 rfl) rfl
theorem q1864 : (Jvm.Cond.code ({ cls := "CodeExchangeModel", name := "begin", desc := "(IIZI)I" } : Jvm.MethodName) prog_17_method_67_code (5 : Nat) (Option.some Jvm.ClassFile.FieldType.int)) ∈ lw_all := lw_g (lw_at lw_m8 88 rfl) rfl
theorem q1866 : (Jvm.Cond.instanceMethod ({ cls := "CodeExchangeModel", name := "feed", desc := "(II)I" } : Jvm.MethodName)) ∈ lw_all := lw_g (lw_at lw_m8 90 rfl) rfl
theorem q1867 : (Jvm.Cond.selects "CodeExchangeModel" ({ cls := "CodeExchangeModel", name := "feed", desc := "(II)I" } : Jvm.MethodName) ({ cls := "CodeExchangeModel", name := "feed", desc := "(II)I" } : Jvm.MethodName)) ∈ lw_all := lw_g (lw_at lw_m8 91 rfl) rfl
theorem q1868 : (Jvm.Cond.code ({ cls := "CodeExchangeModel", name := "feed", desc := "(II)I" } : Jvm.MethodName) prog_17_method_72_code (3 : Nat) (Option.some Jvm.ClassFile.FieldType.int)) ∈ lw_all := lw_g (lw_at lw_m8 92 rfl) rfl
theorem q1869 : (Jvm.Cond.constant "CodeExchangeModel" (394 : Nat) (65535 : Int32)) ∈ lw_all := lw_g (lw_at lw_m8 93 rfl) rfl
theorem q1870 : (Jvm.Cond.methodLink "CodeExchangeModel" (395 : Nat) ({ cls := "CodeExchangeModel", name := "writes", desc := "(II)I" } : Jvm.MethodName)) ∈ lw_all := lw_g (lw_at lw_m8 94 rfl) rfl
theorem q1871 : (Jvm.Cond.privateMethod ({ cls := "CodeExchangeModel", name := "writes", desc := "(II)I" } : Jvm.MethodName)) ∈ lw_tbl := lw_at lw_m8 95 rfl
theorem q1872 : (Jvm.Cond.instanceMethod ({ cls := "CodeExchangeModel", name := "writes", desc := "(II)I" } : Jvm.MethodName)) ∈ lw_all := lw_g (lw_at lw_m8 96 rfl) rfl
theorem q1873 : (Jvm.Cond.code ({ cls := "CodeExchangeModel", name := "writes", desc := "(II)I" } : Jvm.MethodName) prog_17_method_71_code (7 : Nat) (Option.some Jvm.ClassFile.FieldType.int)) ∈ lw_all := lw_g (lw_at lw_m8 97 rfl) rfl
theorem q1874 : (Jvm.Cond.methodLink "CodeExchangeModel" (388 : Nat) ({ cls := "CodeExchangeModel", name := "load", desc := "(I)V" } : Jvm.MethodName)) ∈ lw_all := lw_g (lw_at lw_m8 98 rfl) rfl
theorem q1875 : (Jvm.Cond.privateMethod ({ cls := "CodeExchangeModel", name := "load", desc := "(I)V" } : Jvm.MethodName)) ∈ lw_tbl := lw_at lw_m8 99 rfl
theorem q1876 : (Jvm.Cond.instanceMethod ({ cls := "CodeExchangeModel", name := "load", desc := "(I)V" } : Jvm.MethodName)) ∈ lw_all := lw_g (lw_at lw_m8 100 rfl) rfl
theorem q1877 : (Jvm.Cond.code ({ cls := "CodeExchangeModel", name := "load", desc := "(I)V" } : Jvm.MethodName) prog_17_method_68_code (3 : Nat) (Option.none : Option Jvm.ClassFile.FieldType)) ∈ lw_all := lw_g (lw_at lw_m8 101 rfl) rfl
theorem q1878 : (Jvm.Cond.methodLink "CodeExchangeModel" (391 : Nat) ({ cls := "CodeExchangeModel", name := "store", desc := "(III)I" } : Jvm.MethodName)) ∈ lw_all := lw_g (lw_at lw_m8 102 rfl) rfl
theorem q1879 : (Jvm.Cond.privateMethod ({ cls := "CodeExchangeModel", name := "store", desc := "(III)I" } : Jvm.MethodName)) ∈ lw_tbl := lw_at lw_m8 103 rfl
theorem q1880 : (Jvm.Cond.instanceMethod ({ cls := "CodeExchangeModel", name := "store", desc := "(III)I" } : Jvm.MethodName)) ∈ lw_all := lw_g (lw_at lw_m8 104 rfl) rfl
theorem q1881 : (Jvm.Cond.code ({ cls := "CodeExchangeModel", name := "store", desc := "(III)I" } : Jvm.MethodName) prog_17_method_69_code (5 : Nat) (Option.some Jvm.ClassFile.FieldType.int)) ∈ lw_all := lw_g (lw_at lw_m8 105 rfl) rfl
theorem q1882 : (Jvm.Cond.methodLink "CodeExchangeModel" (398 : Nat) ({ cls := "CodeExchangeModel", name := "reads", desc := "(IZ)I" } : Jvm.MethodName)) ∈ lw_all := lw_g (lw_at lw_m8 106 rfl) rfl
theorem q1883 : (Jvm.Cond.privateMethod ({ cls := "CodeExchangeModel", name := "reads", desc := "(IZ)I" } : Jvm.MethodName)) ∈ lw_tbl := lw_at lw_m8 107 rfl
theorem q1884 : (Jvm.Cond.instanceMethod ({ cls := "CodeExchangeModel", name := "reads", desc := "(IZ)I" } : Jvm.MethodName)) ∈ lw_all := lw_g (lw_at lw_m8 108 rfl) rfl
theorem q1885 : (Jvm.Cond.code ({ cls := "CodeExchangeModel", name := "reads", desc := "(IZ)I" } : Jvm.MethodName) prog_17_method_70_code (7 : Nat) (Option.some Jvm.ClassFile.FieldType.int)) ∈ lw_all := lw_g (lw_at lw_m8 109 rfl) rfl
theorem q1887 : (Jvm.Cond.instanceMethod ({ cls := "CodeExchangeModel", name := "end", desc := "(I)I" } : Jvm.MethodName)) ∈ lw_all := lw_g (lw_at lw_m8 111 rfl) rfl
theorem q1888 : (Jvm.Cond.selects "CodeExchangeModel" ({ cls := "CodeExchangeModel", name := "end", desc := "(I)I" } : Jvm.MethodName) ({ cls := "CodeExchangeModel", name := "end", desc := "(I)I" } : Jvm.MethodName)) ∈ lw_all := lw_g (lw_at lw_m8 112 rfl) rfl
theorem q1889 : (Jvm.Cond.code ({ cls := "CodeExchangeModel", name := "end", desc := "(I)I" } : Jvm.MethodName) prog_17_method_73_code (3 : Nat) (Option.some Jvm.ClassFile.FieldType.int)) ∈ lw_all := lw_g (lw_at lw_m8 113 rfl) rfl
theorem q1891 : (Jvm.Cond.instanceMethod ({ cls := "CodeExchangeModel", name := "take", desc := "(I)I" } : Jvm.MethodName)) ∈ lw_all := lw_g (lw_at lw_m8 115 rfl) rfl
theorem q1892 : (Jvm.Cond.selects "CodeExchangeModel" ({ cls := "CodeExchangeModel", name := "take", desc := "(I)I" } : Jvm.MethodName) ({ cls := "CodeExchangeModel", name := "take", desc := "(I)I" } : Jvm.MethodName)) ∈ lw_all := lw_g (lw_at lw_m8 116 rfl) rfl
theorem q1893 : (Jvm.Cond.code ({ cls := "CodeExchangeModel", name := "take", desc := "(I)I" } : Jvm.MethodName) prog_17_method_74_code (4 : Nat) (Option.some Jvm.ClassFile.FieldType.int)) ∈ lw_all := lw_g (lw_at lw_m8 117 rfl) rfl
theorem q1895 : (Jvm.Cond.instanceMethod ({ cls := "CodeExchangeModel", name := "machine", desc := "(II)I" } : Jvm.MethodName)) ∈ lw_all := lw_g (lw_at lw_m8 119 rfl) rfl
theorem q1896 : (Jvm.Cond.selects "CodeExchangeModel" ({ cls := "CodeExchangeModel", name := "machine", desc := "(II)I" } : Jvm.MethodName) ({ cls := "CodeExchangeModel", name := "machine", desc := "(II)I" } : Jvm.MethodName)) ∈ lw_all := lw_g (lw_at lw_m8 120 rfl) rfl
theorem q1897 : (Jvm.Cond.code ({ cls := "CodeExchangeModel", name := "machine", desc := "(II)I" } : Jvm.MethodName) prog_17_method_75_code (3 : Nat) (Option.some Jvm.ClassFile.FieldType.int)) ∈ lw_all := lw_g (lw_at lw_m8 121 rfl) rfl
theorem q1899 : (Jvm.Cond.instanceMethod ({ cls := "CodeExchangeModel", name := "coverage", desc := "(III)I" } : Jvm.MethodName)) ∈ lw_all := lw_g (lw_at lw_m8 123 rfl) rfl
theorem q1900 : (Jvm.Cond.selects "CodeExchangeModel" ({ cls := "CodeExchangeModel", name := "coverage", desc := "(III)I" } : Jvm.MethodName) ({ cls := "CodeExchangeModel", name := "coverage", desc := "(III)I" } : Jvm.MethodName)) ∈ lw_all := lw_g (lw_at lw_m8 124 rfl) rfl
theorem q1901 : (Jvm.Cond.code ({ cls := "CodeExchangeModel", name := "coverage", desc := "(III)I" } : Jvm.MethodName) prog_17_method_76_code (6 : Nat) (Option.some Jvm.ClassFile.FieldType.int)) ∈ lw_all := lw_g (lw_at lw_m8 125 rfl) rfl
theorem q1903 : (Jvm.Cond.instanceMethod ({ cls := "CodeExchangeModel", name := "differ", desc := "(III)I" } : Jvm.MethodName)) ∈ lw_all := lw_g (lw_at lw_m8 127 rfl) rfl
theorem q1904 : (Jvm.Cond.selects "CodeExchangeModel" ({ cls := "CodeExchangeModel", name := "differ", desc := "(III)I" } : Jvm.MethodName) ({ cls := "CodeExchangeModel", name := "differ", desc := "(III)I" } : Jvm.MethodName)) ∈ lw_all := lw_g (lw_at lw_m8 128 rfl) rfl
theorem q1905 : (Jvm.Cond.code ({ cls := "CodeExchangeModel", name := "differ", desc := "(III)I" } : Jvm.MethodName) prog_17_method_78_code (8 : Nat) (Option.some Jvm.ClassFile.FieldType.int)) ∈ lw_all := lw_g (lw_at lw_m8 129 rfl) rfl
theorem q1906 : (Jvm.Cond.methodLink "CodeExchangeModel" (402 : Nat) ({ cls := "CodeExchangeModel", name := "aloneOf", desc := "(II)I" } : Jvm.MethodName)) ∈ lw_all := lw_g (lw_at lw_m8 130 rfl) rfl
theorem q1907 : (Jvm.Cond.privateMethod ({ cls := "CodeExchangeModel", name := "aloneOf", desc := "(II)I" } : Jvm.MethodName)) ∈ lw_tbl := lw_at lw_m8 131 rfl
theorem q1908 : (Jvm.Cond.instanceMethod ({ cls := "CodeExchangeModel", name := "aloneOf", desc := "(II)I" } : Jvm.MethodName)) ∈ lw_all := lw_g (lw_at lw_m8 132 rfl) rfl
theorem q1909 : (Jvm.Cond.code ({ cls := "CodeExchangeModel", name := "aloneOf", desc := "(II)I" } : Jvm.MethodName) prog_17_method_77_code (4 : Nat) (Option.some Jvm.ClassFile.FieldType.int)) ∈ lw_all := lw_g (lw_at lw_m8 133 rfl) rfl
theorem q1911 : (Jvm.Cond.instanceMethod ({ cls := "CodeExchangeModel", name := "misread", desc := "(II)I" } : Jvm.MethodName)) ∈ lw_all := lw_g (lw_at lw_m8 135 rfl) rfl
theorem q1912 : (Jvm.Cond.selects "CodeExchangeModel" ({ cls := "CodeExchangeModel", name := "misread", desc := "(II)I" } : Jvm.MethodName) ({ cls := "CodeExchangeModel", name := "misread", desc := "(II)I" } : Jvm.MethodName)) ∈ lw_all := lw_g (lw_at lw_m8 136 rfl) rfl
theorem q1913 : (Jvm.Cond.code ({ cls := "CodeExchangeModel", name := "misread", desc := "(II)I" } : Jvm.MethodName) prog_17_method_79_code (7 : Nat) (Option.some Jvm.ClassFile.FieldType.int)) ∈ lw_all := lw_g (lw_at lw_m8 137 rfl) rfl
theorem q1915 : (Jvm.Cond.instanceMethod ({ cls := "CodeExchangeModel", name := "faults", desc := "(I)I" } : Jvm.MethodName)) ∈ lw_all := lw_g (lw_at lw_m8 139 rfl) rfl
theorem q1916 : (Jvm.Cond.selects "CodeExchangeModel" ({ cls := "CodeExchangeModel", name := "faults", desc := "(I)I" } : Jvm.MethodName) ({ cls := "CodeExchangeModel", name := "faults", desc := "(I)I" } : Jvm.MethodName)) ∈ lw_all := lw_g (lw_at lw_m8 140 rfl) rfl
theorem q1917 : (Jvm.Cond.code ({ cls := "CodeExchangeModel", name := "faults", desc := "(I)I" } : Jvm.MethodName) prog_17_method_80_code (3 : Nat) (Option.some Jvm.ClassFile.FieldType.int)) ∈ lw_all := lw_g (lw_at lw_m8 141 rfl) rfl
theorem q1919 : (Jvm.Cond.instanceMethod ({ cls := "CodeExchangeModel", name := "detect", desc := "()I" } : Jvm.MethodName)) ∈ lw_all := lw_g (lw_at lw_m8 143 rfl) rfl
theorem q1920 : (Jvm.Cond.selects "CodeExchangeModel" ({ cls := "CodeExchangeModel", name := "detect", desc := "()I" } : Jvm.MethodName) ({ cls := "CodeExchangeModel", name := "detect", desc := "()I" } : Jvm.MethodName)) ∈ lw_all := lw_g (lw_at lw_m8 144 rfl) rfl
theorem q1921 : (Jvm.Cond.code ({ cls := "CodeExchangeModel", name := "detect", desc := "()I" } : Jvm.MethodName) prog_17_method_81_code (5 : Nat) (Option.some Jvm.ClassFile.FieldType.int)) ∈ lw_all := lw_g (lw_at lw_m8 145 rfl) rfl
theorem q1923 : (Jvm.Cond.instanceMethod ({ cls := "CodeExchangeModel", name := "lengths", desc := "(II)I" } : Jvm.MethodName)) ∈ lw_all := lw_g (lw_at lw_m8 147 rfl) rfl
theorem q1924 : (Jvm.Cond.selects "CodeExchangeModel" ({ cls := "CodeExchangeModel", name := "lengths", desc := "(II)I" } : Jvm.MethodName) ({ cls := "CodeExchangeModel", name := "lengths", desc := "(II)I" } : Jvm.MethodName)) ∈ lw_all := lw_g (lw_at lw_m8 148 rfl) rfl
theorem q1925 : (Jvm.Cond.code ({ cls := "CodeExchangeModel", name := "lengths", desc := "(II)I" } : Jvm.MethodName) prog_17_method_82_code (6 : Nat) (Option.some Jvm.ClassFile.FieldType.int)) ∈ lw_all := lw_g (lw_at lw_m8 149 rfl) rfl
theorem q1926 : (Jvm.Cond.constant "CodeExchangeModel" (405 : Nat) (1000000 : Int32)) ∈ lw_all := lw_g (lw_at lw_m8 150 rfl) rfl
theorem q1928 : (Jvm.Cond.instanceMethod ({ cls := "CodeExchangeModel", name := "send", desc := "(I)I" } : Jvm.MethodName)) ∈ lw_all := lw_g (lw_at lw_m8 152 rfl) rfl
theorem q1929 : (Jvm.Cond.selects "CodeExchangeModel" ({ cls := "CodeExchangeModel", name := "send", desc := "(I)I" } : Jvm.MethodName) ({ cls := "CodeExchangeModel", name := "send", desc := "(I)I" } : Jvm.MethodName)) ∈ lw_all := lw_g (lw_at lw_m8 153 rfl) rfl
theorem q1930 : (Jvm.Cond.code ({ cls := "CodeExchangeModel", name := "send", desc := "(I)I" } : Jvm.MethodName) prog_17_method_84_code (4 : Nat) (Option.some Jvm.ClassFile.FieldType.int)) ∈ lw_all := lw_g (lw_at lw_m8 154 rfl) rfl
theorem q1931 : (Jvm.Cond.methodLink "CodeExchangeModel" (408 : Nat) ({ cls := "CodeExchangeModel", name := "sumOf", desc := "([II)I" } : Jvm.MethodName)) ∈ lw_all := lw_g (lw_at lw_m8 155 rfl) rfl
theorem q1932 : (Jvm.Cond.privateMethod ({ cls := "CodeExchangeModel", name := "sumOf", desc := "([II)I" } : Jvm.MethodName)) ∈ lw_tbl := lw_at lw_m8 156 rfl
theorem q1933 : (Jvm.Cond.instanceMethod ({ cls := "CodeExchangeModel", name := "sumOf", desc := "([II)I" } : Jvm.MethodName)) ∈ lw_all := lw_g (lw_at lw_m8 157 rfl) rfl
theorem q1934 : (Jvm.Cond.code ({ cls := "CodeExchangeModel", name := "sumOf", desc := "([II)I" } : Jvm.MethodName) prog_17_method_83_code (6 : Nat) (Option.some Jvm.ClassFile.FieldType.int)) ∈ lw_all := lw_g (lw_at lw_m8 158 rfl) rfl
theorem q1935 : (Jvm.Cond.constantLong "CodeExchangeModel" (406 : Nat) (65521 : Int64)) ∈ lw_all := lw_g (lw_at lw_m8 159 rfl) rfl
theorem q1937 : (Jvm.Cond.instanceMethod ({ cls := "CodeExchangeModel", name := "receive", desc := "()I" } : Jvm.MethodName)) ∈ lw_all := lw_g (lw_at lw_m8 161 rfl) rfl
theorem q1938 : (Jvm.Cond.selects "CodeExchangeModel" ({ cls := "CodeExchangeModel", name := "receive", desc := "()I" } : Jvm.MethodName) ({ cls := "CodeExchangeModel", name := "receive", desc := "()I" } : Jvm.MethodName)) ∈ lw_all := lw_g (lw_at lw_m8 162 rfl) rfl
theorem q1939 : (Jvm.Cond.code ({ cls := "CodeExchangeModel", name := "receive", desc := "()I" } : Jvm.MethodName) prog_17_method_89_code (1 : Nat) (Option.some Jvm.ClassFile.FieldType.int)) ∈ lw_all := lw_g (lw_at lw_m8 163 rfl) rfl
theorem q1940 : (Jvm.Cond.methodLink "CodeExchangeModel" (428 : Nat) ({ cls := "CodeExchangeModel", name := "takeIn", desc := "(I)Z" } : Jvm.MethodName)) ∈ lw_all := lw_g (lw_at lw_m8 164 rfl) rfl
theorem q1941 : (Jvm.Cond.privateMethod ({ cls := "CodeExchangeModel", name := "takeIn", desc := "(I)Z" } : Jvm.MethodName)) ∈ lw_tbl := lw_at lw_m8 165 rfl
theorem q1942 : (Jvm.Cond.instanceMethod ({ cls := "CodeExchangeModel", name := "takeIn", desc := "(I)Z" } : Jvm.MethodName)) ∈ lw_all := lw_g (lw_at lw_m8 166 rfl) rfl
theorem q1943 : (Jvm.Cond.code ({ cls := "CodeExchangeModel", name := "takeIn", desc := "(I)Z" } : Jvm.MethodName) prog_17_method_86_code (5 : Nat) (Option.some Jvm.ClassFile.FieldType.boolean)) ∈ lw_all := lw_g (lw_at lw_m8 167 rfl) rfl
theorem q1944 : (Jvm.Cond.methodLink "CodeExchangeModel" (418 : Nat) ({ cls := "CodeExchangeModel", name := "next", desc := "()I" } : Jvm.MethodName)) ∈ lw_all := lw_g (lw_at lw_m8 168 rfl) rfl
theorem q1945 : (Jvm.Cond.privateMethod ({ cls := "CodeExchangeModel", name := "next", desc := "()I" } : Jvm.MethodName)) ∈ lw_tbl := lw_at lw_m8 169 rfl
theorem q1946 : (Jvm.Cond.instanceMethod ({ cls := "CodeExchangeModel", name := "next", desc := "()I" } : Jvm.MethodName)) ∈ lw_all := lw_g (lw_at lw_m8 170 rfl) rfl
theorem q1947 : (Jvm.Cond.code ({ cls := "CodeExchangeModel", name := "next", desc := "()I" } : Jvm.MethodName) prog_17_method_85_code (2 : Nat) (Option.some Jvm.ClassFile.FieldType.int)) ∈ lw_all := lw_g (lw_at lw_m8 171 rfl) rfl
theorem q1948 : (Jvm.Cond.methodLink "CodeExchangeModel" (422 : Nat) ({ cls := "CodeExchangeModel", name := "takeEntry", desc := "(I)Z" } : Jvm.MethodName)) ∈ lw_all := lw_g (lw_at lw_m8 172 rfl) rfl
theorem q1949 : (Jvm.Cond.privateMethod ({ cls := "CodeExchangeModel", name := "takeEntry", desc := "(I)Z" } : Jvm.MethodName)) ∈ lw_tbl := lw_at lw_m8 173 rfl
theorem q1950 : (Jvm.Cond.instanceMethod ({ cls := "CodeExchangeModel", name := "takeEntry", desc := "(I)Z" } : Jvm.MethodName)) ∈ lw_all := lw_g (lw_at lw_m8 174 rfl) rfl
theorem q1951 : (Jvm.Cond.code ({ cls := "CodeExchangeModel", name := "takeEntry", desc := "(I)Z" } : Jvm.MethodName) prog_17_method_87_code (8 : Nat) (Option.some Jvm.ClassFile.FieldType.boolean)) ∈ lw_all := lw_g (lw_at lw_m8 175 rfl) rfl
theorem q1952 : (Jvm.Cond.methodLink "CodeExchangeModel" (425 : Nat) ({ cls := "CodeExchangeModel", name := "takeShift", desc := "(I)Z" } : Jvm.MethodName)) ∈ lw_all := lw_g (lw_at lw_m8 176 rfl) rfl
theorem q1953 : (Jvm.Cond.privateMethod ({ cls := "CodeExchangeModel", name := "takeShift", desc := "(I)Z" } : Jvm.MethodName)) ∈ lw_tbl := lw_at lw_m8 177 rfl
theorem q1954 : (Jvm.Cond.instanceMethod ({ cls := "CodeExchangeModel", name := "takeShift", desc := "(I)Z" } : Jvm.MethodName)) ∈ lw_all := lw_g (lw_at lw_m8 178 rfl) rfl
theorem q1955 : (Jvm.Cond.code ({ cls := "CodeExchangeModel", name := "takeShift", desc := "(I)Z" } : Jvm.MethodName) prog_17_method_88_code (7 : Nat) (Option.some Jvm.ClassFile.FieldType.boolean)) ∈ lw_all := lw_g (lw_at lw_m8 179 rfl) rfl
theorem q1957 : (Jvm.Cond.instanceMethod ({ cls := "CodeExchangeModel", name := "told", desc := "(I)I" } : Jvm.MethodName)) ∈ lw_all := lw_g (lw_at lw_m8 181 rfl) rfl
theorem q1958 : (Jvm.Cond.selects "CodeExchangeModel" ({ cls := "CodeExchangeModel", name := "told", desc := "(I)I" } : Jvm.MethodName) ({ cls := "CodeExchangeModel", name := "told", desc := "(I)I" } : Jvm.MethodName)) ∈ lw_all := lw_g (lw_at lw_m8 182 rfl) rfl
theorem q1959 : (Jvm.Cond.code ({ cls := "CodeExchangeModel", name := "told", desc := "(I)I" } : Jvm.MethodName) prog_17_method_90_code (2 : Nat) (Option.some Jvm.ClassFile.FieldType.int)) ∈ lw_all := lw_g (lw_at lw_m8 183 rfl) rfl
theorem in_X9 : ∀ w ∈ wsX90, w ∈ lw_all := lw_in wsX90 [1461, 1463, 1465, 1467, 1469, 1471, 1473, 1475, 1477, 1479, 1481, 1483, 1485, 1487, 1489, 1491, 1493, 1495, 1497, 1499, 1501, 1503, 1505, 1507, 1509, 1511, 1513, 1515, 1517, 1519, 1521, 1523, 1525, 1527, 1529, 1531, 1533, 1535, 1537, 1539, 1541, 1543, 1545, 1547, 1549, 1551, 1553, 1555, 1557, 1559, 1561, 1563, 1565, 1567, 1569, 1571, 1573, 1575, 1577, 1579, 1581, 1583, 1585, 1587, 1589, 1591, 1593, 1595, 1597] (by decide +kernel) (by decide +kernel)
