/-! TandemKeepsAPlaceModel -/
set_option maxRecDepth 100000
def RX8 : String := "TandemKeepsAPlaceModel"
def TX8 : u_T := fun k => match k with
  | 0 => ("TandemKeepsAPlaceModel", "thrown", "I", false)
  | 1 => ("TandemKeepsAPlaceModel", "texts", "[I", true)
  | 2 => ("TandemKeepsAPlaceModel", "textSize", "[I", true)
  | 3 => ("TandemKeepsAPlaceModel", "textCount", "I", false)
  | 4 => ("TandemKeepsAPlaceModel", "rule", "I", false)
  | 5 => ("TandemKeepsAPlaceModel", "tape", "[I", true)
  | 6 => ("TandemKeepsAPlaceModel", "taped", "I", false)
  | 7 => ("TandemKeepsAPlaceModel", "hourNow", "I", false)
  | 8 => ("TandemKeepsAPlaceModel", "roads", "[I", true)
  | 9 => ("TandemKeepsAPlaceModel", "kinds", "[I", true)
  | 10 => ("TandemKeepsAPlaceModel", "rows", "[I", true)
  | 11 => ("TandemKeepsAPlaceModel", "many", "I", false)
  | 12 => ("TandemKeepsAPlaceModel", "least1", "[I", true)
  | 13 => ("TandemKeepsAPlaceModel", "ofMiles", "I", false)
  | 14 => ("TandemKeepsAPlaceModel", "ofNumber", "I", false)
  | 15 => ("TandemKeepsAPlaceModel", "ofSteps", "I", false)
  | 16 => ("TandemKeepsAPlaceModel", "ofHour", "I", false)
  | 17 => ("TandemKeepsAPlaceModel", "ofBehind", "I", false)
  | 18 => ("TandemKeepsAPlaceModel", "ofTheirs", "I", false)
  | 19 => ("TandemKeepsAPlaceModel", "textFrom", "I", false)
  | 20 => ("TandemKeepsAPlaceModel", "size", "I", false)
  | 21 => ("TandemKeepsAPlaceModel", "here", "I", false)
  | 22 => ("TandemKeepsAPlaceModel", "token", "I", false)
  | 23 => ("TandemKeepsAPlaceModel", "tokenAt", "I", false)
  | 24 => ("TandemKeepsAPlaceModel", "tokenWorth", "J", false)
  | 25 => ("TandemKeepsAPlaceModel", "open", "I", false)
  | 26 => ("TandemKeepsAPlaceModel", "bad", "Z", false)
  | 27 => ("TandemKeepsAPlaceModel", "fault", "I", false)
  | 28 => ("TandemKeepsAPlaceModel", "where", "[I", true)
  | 29 => ("TandemKeepsAPlaceModel", "stepMany", "I", false)
  | 30 => ("TandemKeepsAPlaceModel", "longAll", "I", false)
  | 31 => ("TandemKeepsAPlaceModel", "byFront", "I", false)
  | 32 => ("TandemKeepsAPlaceModel", "pairs", "[I", true)
  | 33 => ("TandemKeepsAPlaceModel", "bestDigits", "I", false)
  | 34 => ("TandemKeepsAPlaceModel", "bestLong", "I", false)
  | 35 => ("TandemKeepsAPlaceModel", "goalsWas", "[I", true)
  | 36 => ("TandemKeepsAPlaceModel", "roadsKept", "[I", true)
  | 37 => ("TandemKeepsAPlaceModel", "rowsKept", "[I", true)
  | 38 => ("TandemKeepsAPlaceModel", "manyKept", "I", false)
  | 39 => ("TandemKeepsAPlaceModel", "hourKept", "I", false)
  | 40 => ("TandemKeepsAPlaceModel", "ruleKept", "I", false)
  | 41 => ("TandemKeepsAPlaceModel", "isThere", "[Z", true)
  | 42 => ("TandemKeepsAPlaceModel", "sorts", "[I", true)
  | 43 => ("TandemKeepsAPlaceModel", "sheetSize", "[I", true)
  | _ => ("TandemKeepsAPlaceModel", "items", "[I", true)
def tyX8 : Nat → FieldType := fun k => match k with
  | 0 => .int
  | 1 => .array .int
  | 2 => .array .int
  | 3 => .int
  | 4 => .int
  | 5 => .array .int
  | 6 => .int
  | 7 => .int
  | 8 => .array .int
  | 9 => .array .int
  | 10 => .array .int
  | 11 => .int
  | 12 => .array .int
  | 13 => .int
  | 14 => .int
  | 15 => .int
  | 16 => .int
  | 17 => .int
  | 18 => .int
  | 19 => .int
  | 20 => .int
  | 21 => .int
  | 22 => .int
  | 23 => .int
  | 24 => .long
  | 25 => .int
  | 26 => .boolean
  | 27 => .int
  | 28 => .array .int
  | 29 => .int
  | 30 => .int
  | 31 => .int
  | 32 => .array .int
  | 33 => .int
  | 34 => .int
  | 35 => .array .int
  | 36 => .array .int
  | 37 => .array .int
  | 38 => .int
  | 39 => .int
  | 40 => .int
  | 41 => .array .boolean
  | 42 => .array .int
  | 43 => .array .int
  | _ => .array .int
abbrev wsX80 : List Cond := u_ws RX8 TX8 45
set_option maxRecDepth 100000 in
theorem nmX8 : ∀ a, a < 45 → ∀ b, b < 45 → a ≠ b → (TX8 a).2.1 ≠ (TX8 b).2.1 := by decide +kernel
set_option maxRecDepth 100000 in
theorem tyX8_ok : ∀ k, k < 45 → parseFieldDescriptor (TX8 k).2.2.1 = some (tyX8 k) := by decide +kernel
abbrev cX8_init : ByteArray := prog_16_method_4_code
def yX8_init : MethodName := ⟨RX8, "<init>", "()V"⟩
def dkwX8_init_14 : List UInt8 := [182, 0, 72, 42, 180, 0, 17, 3, 16, 64, 79, 42, 4, 181, 0, 76, 177]
abbrev dktX8_init_14 : List UInt8 := dkwX8_init_14 ++ []
def dkwX8_init_13 : List UInt8 := [182, 0, 72, 42, 16, 56, 16, 116, 16, 101, 16, 112, 16, 115, 16, 32, 16, 59, 16, 32, 16, 32]
abbrev dktX8_init_13 : List UInt8 := dkwX8_init_13 ++ dktX8_init_14
def dkwX8_init_12 : List UInt8 := [182, 0, 72, 42, 16, 48, 16, 104, 16, 32, 16, 49, 16, 50, 16, 32, 16, 60, 16, 32, 16, 115]
abbrev dktX8_init_12 : List UInt8 := dkwX8_init_12 ++ dktX8_init_13
def dkwX8_init_11 : List UInt8 := [182, 0, 72, 42, 16, 40, 16, 32, 16, 59, 16, 32, 16, 101, 16, 110, 16, 111, 16, 117, 16, 103]
abbrev dktX8_init_11 : List UInt8 := dkwX8_init_11 ++ dktX8_init_12
def dkwX8_init_10 : List UInt8 := [182, 0, 72, 42, 16, 32, 16, 115, 16, 32, 16, 110, 16, 117, 16, 109, 16, 98, 16, 101, 16, 114]
abbrev dktX8_init_10 : List UInt8 := dkwX8_init_10 ++ dktX8_init_11
def dkwX8_init_9 : List UInt8 := [182, 0, 72, 42, 16, 24, 16, 115, 16, 32, 16, 59, 16, 32, 16, 109, 16, 111, 16, 111, 16, 100]
abbrev dktX8_init_9 : List UInt8 := dkwX8_init_9 ++ dktX8_init_10
def dkwX8_init_8 : List UInt8 := [182, 0, 72, 42, 16, 16, 16, 114, 16, 32, 16, 45, 16, 32, 16, 115, 16, 116, 16, 101, 16, 112]
abbrev dktX8_init_8 : List UInt8 := dkwX8_init_8 ++ dktX8_init_9
def dkwX8_init_7 : List UInt8 := [16, 48, 182, 0, 72, 42, 16, 8, 16, 32, 16, 43, 16, 32, 16, 110, 16, 117, 16, 109, 16, 98, 16, 101]
abbrev dktX8_init_7 : List UInt8 := dkwX8_init_7 ++ dktX8_init_8
def dkwX8_init_6 : List UInt8 := [181, 0, 66, 42, 182, 0, 69, 42, 3, 16, 112, 16, 117, 16, 108, 16, 108, 16, 115, 16, 32, 16, 49]
abbrev dktX8_init_6 : List UInt8 := dkwX8_init_6 ++ dktX8_init_7
def dkwX8_init_5 : List UInt8 := [181, 0, 56, 42, 7, 188, 10, 181, 0, 60, 42, 7, 188, 10, 181, 0, 63, 42, 17, 0, 160, 188, 10]
abbrev dktX8_init_5 : List UInt8 := dkwX8_init_5 ++ dktX8_init_6
def dkwX8_init_4 : List UInt8 := [16, 64, 188, 10, 181, 0, 47, 42, 16, 18, 188, 10, 181, 0, 50, 42, 2, 181, 0, 53, 42, 7, 188, 4]
abbrev dktX8_init_4 : List UInt8 := dkwX8_init_4 ++ dktX8_init_5
def dkwX8_init_3 : List UInt8 := [16, 41, 188, 10, 181, 0, 38, 42, 16, 36, 188, 10, 181, 0, 41, 42, 16, 6, 188, 10, 181, 0, 44, 42]
abbrev dktX8_init_3 : List UInt8 := dkwX8_init_3 ++ dktX8_init_4
def dkwX8_init_2 : List UInt8 := [16, 6, 188, 10, 181, 0, 29, 42, 16, 18, 188, 10, 181, 0, 32, 42, 16, 64, 188, 10, 181, 0, 35, 42]
abbrev dktX8_init_2 : List UInt8 := dkwX8_init_2 ++ dktX8_init_3
def dkwX8_init_1 : List UInt8 := [17, 0, 160, 188, 10, 181, 0, 20, 42, 16, 9, 181, 0, 23, 42, 16, 64, 188, 10, 181, 0, 26, 42]
abbrev dktX8_init_1 : List UInt8 := dkwX8_init_1 ++ dktX8_init_2
def dkwX8_init_0 : List UInt8 := [42, 183, 0, 7, 42, 17, 3, 192, 188, 10, 181, 0, 13, 42, 16, 6, 188, 10, 181, 0, 17, 42]
abbrev dktX8_init_0 : List UInt8 := dkwX8_init_0 ++ dktX8_init_1
theorem dksX8_init_0 : cX8_init.data.toList.drop 0 = dktX8_init_0 := by decide +kernel
theorem dksX8_init_1 : cX8_init.data.toList.drop 22 = dktX8_init_1 := dk_seg dksX8_init_0 22 rfl rfl
theorem dksX8_init_2 : cX8_init.data.toList.drop 45 = dktX8_init_2 := dk_seg dksX8_init_1 23 rfl rfl
theorem dksX8_init_3 : cX8_init.data.toList.drop 69 = dktX8_init_3 := dk_seg dksX8_init_2 24 rfl rfl
theorem dksX8_init_4 : cX8_init.data.toList.drop 93 = dktX8_init_4 := dk_seg dksX8_init_3 24 rfl rfl
theorem dksX8_init_5 : cX8_init.data.toList.drop 117 = dktX8_init_5 := dk_seg dksX8_init_4 24 rfl rfl
theorem dksX8_init_6 : cX8_init.data.toList.drop 140 = dktX8_init_6 := dk_seg dksX8_init_5 23 rfl rfl
theorem dksX8_init_7 : cX8_init.data.toList.drop 163 = dktX8_init_7 := dk_seg dksX8_init_6 23 rfl rfl
theorem dksX8_init_8 : cX8_init.data.toList.drop 187 = dktX8_init_8 := dk_seg dksX8_init_7 24 rfl rfl
theorem dksX8_init_9 : cX8_init.data.toList.drop 209 = dktX8_init_9 := dk_seg dksX8_init_8 22 rfl rfl
theorem dksX8_init_10 : cX8_init.data.toList.drop 231 = dktX8_init_10 := dk_seg dksX8_init_9 22 rfl rfl
theorem dksX8_init_11 : cX8_init.data.toList.drop 253 = dktX8_init_11 := dk_seg dksX8_init_10 22 rfl rfl
theorem dksX8_init_12 : cX8_init.data.toList.drop 275 = dktX8_init_12 := dk_seg dksX8_init_11 22 rfl rfl
theorem dksX8_init_13 : cX8_init.data.toList.drop 297 = dktX8_init_13 := dk_seg dksX8_init_12 22 rfl rfl
theorem dksX8_init_14 : cX8_init.data.toList.drop 319 = dktX8_init_14 := dk_seg dksX8_init_13 22 rfl rfl
theorem dX8_init_0 : decode cX8_init 0 = .ok (.aload_n 0, 1) := dk_42 (dk_at dksX8_init_0 0 rfl rfl)
theorem dX8_init_1 : decode cX8_init 1 = .ok (.invokespecial 7, 3) := dk_183 0 7 (dk_at dksX8_init_0 1 rfl rfl)
theorem dX8_init_4 : decode cX8_init 4 = .ok (.aload_n 0, 1) := dk_42 (dk_at dksX8_init_0 4 rfl rfl)
theorem dX8_init_5 : decode cX8_init 5 = .ok (.sipush 960, 3) := dk_17 3 192 (dk_at dksX8_init_0 5 rfl rfl)
theorem dX8_init_8 : decode cX8_init 8 = .ok (.newarray .int, 2) := dk_188_10 (dk_at dksX8_init_0 8 rfl rfl)
theorem dX8_init_10 : decode cX8_init 10 = .ok (.putfield 13, 3) := dk_181 0 13 (dk_at dksX8_init_0 10 rfl rfl)
theorem dX8_init_13 : decode cX8_init 13 = .ok (.aload_n 0, 1) := dk_42 (dk_at dksX8_init_0 13 rfl rfl)
theorem dX8_init_14 : decode cX8_init 14 = .ok (.bipush 6, 2) := dk_16 6 (dk_at dksX8_init_0 14 rfl rfl)
theorem dX8_init_16 : decode cX8_init 16 = .ok (.newarray .int, 2) := dk_188_10 (dk_at dksX8_init_0 16 rfl rfl)
theorem dX8_init_18 : decode cX8_init 18 = .ok (.putfield 17, 3) := dk_181 0 17 (dk_at dksX8_init_0 18 rfl rfl)
theorem dX8_init_21 : decode cX8_init 21 = .ok (.aload_n 0, 1) := dk_42 (dk_at dksX8_init_0 21 rfl rfl)
theorem dX8_init_22 : decode cX8_init 22 = .ok (.sipush 160, 3) := dk_17 0 160 (dk_at dksX8_init_1 0 rfl rfl)
theorem dX8_init_25 : decode cX8_init 25 = .ok (.newarray .int, 2) := dk_188_10 (dk_at dksX8_init_1 3 rfl rfl)
theorem dX8_init_27 : decode cX8_init 27 = .ok (.putfield 20, 3) := dk_181 0 20 (dk_at dksX8_init_1 5 rfl rfl)
theorem dX8_init_30 : decode cX8_init 30 = .ok (.aload_n 0, 1) := dk_42 (dk_at dksX8_init_1 8 rfl rfl)
theorem dX8_init_31 : decode cX8_init 31 = .ok (.bipush 9, 2) := dk_16 9 (dk_at dksX8_init_1 9 rfl rfl)
theorem dX8_init_33 : decode cX8_init 33 = .ok (.putfield 23, 3) := dk_181 0 23 (dk_at dksX8_init_1 11 rfl rfl)
theorem dX8_init_36 : decode cX8_init 36 = .ok (.aload_n 0, 1) := dk_42 (dk_at dksX8_init_1 14 rfl rfl)
theorem dX8_init_37 : decode cX8_init 37 = .ok (.bipush 64, 2) := dk_16 64 (dk_at dksX8_init_1 15 rfl rfl)
theorem dX8_init_39 : decode cX8_init 39 = .ok (.newarray .int, 2) := dk_188_10 (dk_at dksX8_init_1 17 rfl rfl)
theorem dX8_init_41 : decode cX8_init 41 = .ok (.putfield 26, 3) := dk_181 0 26 (dk_at dksX8_init_1 19 rfl rfl)
theorem dX8_init_44 : decode cX8_init 44 = .ok (.aload_n 0, 1) := dk_42 (dk_at dksX8_init_1 22 rfl rfl)
theorem dX8_init_45 : decode cX8_init 45 = .ok (.bipush 6, 2) := dk_16 6 (dk_at dksX8_init_2 0 rfl rfl)
theorem dX8_init_47 : decode cX8_init 47 = .ok (.newarray .int, 2) := dk_188_10 (dk_at dksX8_init_2 2 rfl rfl)
theorem dX8_init_49 : decode cX8_init 49 = .ok (.putfield 29, 3) := dk_181 0 29 (dk_at dksX8_init_2 4 rfl rfl)
theorem dX8_init_52 : decode cX8_init 52 = .ok (.aload_n 0, 1) := dk_42 (dk_at dksX8_init_2 7 rfl rfl)
theorem dX8_init_53 : decode cX8_init 53 = .ok (.bipush 18, 2) := dk_16 18 (dk_at dksX8_init_2 8 rfl rfl)
theorem dX8_init_55 : decode cX8_init 55 = .ok (.newarray .int, 2) := dk_188_10 (dk_at dksX8_init_2 10 rfl rfl)
theorem dX8_init_57 : decode cX8_init 57 = .ok (.putfield 32, 3) := dk_181 0 32 (dk_at dksX8_init_2 12 rfl rfl)
theorem dX8_init_60 : decode cX8_init 60 = .ok (.aload_n 0, 1) := dk_42 (dk_at dksX8_init_2 15 rfl rfl)
theorem dX8_init_61 : decode cX8_init 61 = .ok (.bipush 64, 2) := dk_16 64 (dk_at dksX8_init_2 16 rfl rfl)
theorem dX8_init_63 : decode cX8_init 63 = .ok (.newarray .int, 2) := dk_188_10 (dk_at dksX8_init_2 18 rfl rfl)
theorem dX8_init_65 : decode cX8_init 65 = .ok (.putfield 35, 3) := dk_181 0 35 (dk_at dksX8_init_2 20 rfl rfl)
theorem dX8_init_68 : decode cX8_init 68 = .ok (.aload_n 0, 1) := dk_42 (dk_at dksX8_init_2 23 rfl rfl)
theorem dX8_init_69 : decode cX8_init 69 = .ok (.bipush 41, 2) := dk_16 41 (dk_at dksX8_init_3 0 rfl rfl)
theorem dX8_init_71 : decode cX8_init 71 = .ok (.newarray .int, 2) := dk_188_10 (dk_at dksX8_init_3 2 rfl rfl)
theorem dX8_init_73 : decode cX8_init 73 = .ok (.putfield 38, 3) := dk_181 0 38 (dk_at dksX8_init_3 4 rfl rfl)
theorem dX8_init_76 : decode cX8_init 76 = .ok (.aload_n 0, 1) := dk_42 (dk_at dksX8_init_3 7 rfl rfl)
theorem dX8_init_77 : decode cX8_init 77 = .ok (.bipush 36, 2) := dk_16 36 (dk_at dksX8_init_3 8 rfl rfl)
theorem dX8_init_79 : decode cX8_init 79 = .ok (.newarray .int, 2) := dk_188_10 (dk_at dksX8_init_3 10 rfl rfl)
theorem dX8_init_81 : decode cX8_init 81 = .ok (.putfield 41, 3) := dk_181 0 41 (dk_at dksX8_init_3 12 rfl rfl)
theorem dX8_init_84 : decode cX8_init 84 = .ok (.aload_n 0, 1) := dk_42 (dk_at dksX8_init_3 15 rfl rfl)
theorem dX8_init_85 : decode cX8_init 85 = .ok (.bipush 6, 2) := dk_16 6 (dk_at dksX8_init_3 16 rfl rfl)
theorem dX8_init_87 : decode cX8_init 87 = .ok (.newarray .int, 2) := dk_188_10 (dk_at dksX8_init_3 18 rfl rfl)
theorem dX8_init_89 : decode cX8_init 89 = .ok (.putfield 44, 3) := dk_181 0 44 (dk_at dksX8_init_3 20 rfl rfl)
theorem dX8_init_92 : decode cX8_init 92 = .ok (.aload_n 0, 1) := dk_42 (dk_at dksX8_init_3 23 rfl rfl)
theorem dX8_init_93 : decode cX8_init 93 = .ok (.bipush 64, 2) := dk_16 64 (dk_at dksX8_init_4 0 rfl rfl)
theorem dX8_init_95 : decode cX8_init 95 = .ok (.newarray .int, 2) := dk_188_10 (dk_at dksX8_init_4 2 rfl rfl)
theorem dX8_init_97 : decode cX8_init 97 = .ok (.putfield 47, 3) := dk_181 0 47 (dk_at dksX8_init_4 4 rfl rfl)
theorem dX8_init_100 : decode cX8_init 100 = .ok (.aload_n 0, 1) := dk_42 (dk_at dksX8_init_4 7 rfl rfl)
theorem dX8_init_101 : decode cX8_init 101 = .ok (.bipush 18, 2) := dk_16 18 (dk_at dksX8_init_4 8 rfl rfl)
theorem dX8_init_103 : decode cX8_init 103 = .ok (.newarray .int, 2) := dk_188_10 (dk_at dksX8_init_4 10 rfl rfl)
theorem dX8_init_105 : decode cX8_init 105 = .ok (.putfield 50, 3) := dk_181 0 50 (dk_at dksX8_init_4 12 rfl rfl)
theorem dX8_init_108 : decode cX8_init 108 = .ok (.aload_n 0, 1) := dk_42 (dk_at dksX8_init_4 15 rfl rfl)
theorem dX8_init_109 : decode cX8_init 109 = .ok (.iconst (-1), 1) := dk_2 (dk_at dksX8_init_4 16 rfl rfl)
theorem dX8_init_110 : decode cX8_init 110 = .ok (.putfield 53, 3) := dk_181 0 53 (dk_at dksX8_init_4 17 rfl rfl)
theorem dX8_init_113 : decode cX8_init 113 = .ok (.aload_n 0, 1) := dk_42 (dk_at dksX8_init_4 20 rfl rfl)
theorem dX8_init_114 : decode cX8_init 114 = .ok (.iconst 4, 1) := dk_7 (dk_at dksX8_init_4 21 rfl rfl)
theorem dX8_init_115 : decode cX8_init 115 = .ok (.newarray .boolean, 2) := dk_188_4 (dk_at dksX8_init_4 22 rfl rfl)
theorem dX8_init_117 : decode cX8_init 117 = .ok (.putfield 56, 3) := dk_181 0 56 (dk_at dksX8_init_5 0 rfl rfl)
theorem dX8_init_120 : decode cX8_init 120 = .ok (.aload_n 0, 1) := dk_42 (dk_at dksX8_init_5 3 rfl rfl)
theorem dX8_init_121 : decode cX8_init 121 = .ok (.iconst 4, 1) := dk_7 (dk_at dksX8_init_5 4 rfl rfl)
theorem dX8_init_122 : decode cX8_init 122 = .ok (.newarray .int, 2) := dk_188_10 (dk_at dksX8_init_5 5 rfl rfl)
theorem dX8_init_124 : decode cX8_init 124 = .ok (.putfield 60, 3) := dk_181 0 60 (dk_at dksX8_init_5 7 rfl rfl)
theorem dX8_init_127 : decode cX8_init 127 = .ok (.aload_n 0, 1) := dk_42 (dk_at dksX8_init_5 10 rfl rfl)
theorem dX8_init_128 : decode cX8_init 128 = .ok (.iconst 4, 1) := dk_7 (dk_at dksX8_init_5 11 rfl rfl)
theorem dX8_init_129 : decode cX8_init 129 = .ok (.newarray .int, 2) := dk_188_10 (dk_at dksX8_init_5 12 rfl rfl)
theorem dX8_init_131 : decode cX8_init 131 = .ok (.putfield 63, 3) := dk_181 0 63 (dk_at dksX8_init_5 14 rfl rfl)
theorem dX8_init_134 : decode cX8_init 134 = .ok (.aload_n 0, 1) := dk_42 (dk_at dksX8_init_5 17 rfl rfl)
theorem dX8_init_135 : decode cX8_init 135 = .ok (.sipush 160, 3) := dk_17 0 160 (dk_at dksX8_init_5 18 rfl rfl)
theorem dX8_init_138 : decode cX8_init 138 = .ok (.newarray .int, 2) := dk_188_10 (dk_at dksX8_init_5 21 rfl rfl)
theorem dX8_init_140 : decode cX8_init 140 = .ok (.putfield 66, 3) := dk_181 0 66 (dk_at dksX8_init_6 0 rfl rfl)
theorem dX8_init_143 : decode cX8_init 143 = .ok (.aload_n 0, 1) := dk_42 (dk_at dksX8_init_6 3 rfl rfl)
theorem dX8_init_144 : decode cX8_init 144 = .ok (.invokevirtual 69, 3) := dk_182 0 69 (dk_at dksX8_init_6 4 rfl rfl)
theorem dX8_init_147 : decode cX8_init 147 = .ok (.aload_n 0, 1) := dk_42 (dk_at dksX8_init_6 7 rfl rfl)
theorem dX8_init_148 : decode cX8_init 148 = .ok (.iconst 0, 1) := dk_3 (dk_at dksX8_init_6 8 rfl rfl)
theorem dX8_init_149 : decode cX8_init 149 = .ok (.bipush 112, 2) := dk_16 112 (dk_at dksX8_init_6 9 rfl rfl)
theorem dX8_init_151 : decode cX8_init 151 = .ok (.bipush 117, 2) := dk_16 117 (dk_at dksX8_init_6 11 rfl rfl)
theorem dX8_init_153 : decode cX8_init 153 = .ok (.bipush 108, 2) := dk_16 108 (dk_at dksX8_init_6 13 rfl rfl)
theorem dX8_init_155 : decode cX8_init 155 = .ok (.bipush 108, 2) := dk_16 108 (dk_at dksX8_init_6 15 rfl rfl)
theorem dX8_init_157 : decode cX8_init 157 = .ok (.bipush 115, 2) := dk_16 115 (dk_at dksX8_init_6 17 rfl rfl)
theorem dX8_init_159 : decode cX8_init 159 = .ok (.bipush 32, 2) := dk_16 32 (dk_at dksX8_init_6 19 rfl rfl)
theorem dX8_init_161 : decode cX8_init 161 = .ok (.bipush 49, 2) := dk_16 49 (dk_at dksX8_init_6 21 rfl rfl)
theorem dX8_init_163 : decode cX8_init 163 = .ok (.bipush 48, 2) := dk_16 48 (dk_at dksX8_init_7 0 rfl rfl)
theorem dX8_init_165 : decode cX8_init 165 = .ok (.invokevirtual 72, 3) := dk_182 0 72 (dk_at dksX8_init_7 2 rfl rfl)
theorem dX8_init_168 : decode cX8_init 168 = .ok (.aload_n 0, 1) := dk_42 (dk_at dksX8_init_7 5 rfl rfl)
theorem dX8_init_169 : decode cX8_init 169 = .ok (.bipush 8, 2) := dk_16 8 (dk_at dksX8_init_7 6 rfl rfl)
theorem dX8_init_171 : decode cX8_init 171 = .ok (.bipush 32, 2) := dk_16 32 (dk_at dksX8_init_7 8 rfl rfl)
theorem dX8_init_173 : decode cX8_init 173 = .ok (.bipush 43, 2) := dk_16 43 (dk_at dksX8_init_7 10 rfl rfl)
theorem dX8_init_175 : decode cX8_init 175 = .ok (.bipush 32, 2) := dk_16 32 (dk_at dksX8_init_7 12 rfl rfl)
theorem dX8_init_177 : decode cX8_init 177 = .ok (.bipush 110, 2) := dk_16 110 (dk_at dksX8_init_7 14 rfl rfl)
theorem dX8_init_179 : decode cX8_init 179 = .ok (.bipush 117, 2) := dk_16 117 (dk_at dksX8_init_7 16 rfl rfl)
theorem dX8_init_181 : decode cX8_init 181 = .ok (.bipush 109, 2) := dk_16 109 (dk_at dksX8_init_7 18 rfl rfl)
theorem dX8_init_183 : decode cX8_init 183 = .ok (.bipush 98, 2) := dk_16 98 (dk_at dksX8_init_7 20 rfl rfl)
theorem dX8_init_185 : decode cX8_init 185 = .ok (.bipush 101, 2) := dk_16 101 (dk_at dksX8_init_7 22 rfl rfl)
theorem dX8_init_187 : decode cX8_init 187 = .ok (.invokevirtual 72, 3) := dk_182 0 72 (dk_at dksX8_init_8 0 rfl rfl)
theorem dX8_init_190 : decode cX8_init 190 = .ok (.aload_n 0, 1) := dk_42 (dk_at dksX8_init_8 3 rfl rfl)
theorem dX8_init_191 : decode cX8_init 191 = .ok (.bipush 16, 2) := dk_16 16 (dk_at dksX8_init_8 4 rfl rfl)
theorem dX8_init_193 : decode cX8_init 193 = .ok (.bipush 114, 2) := dk_16 114 (dk_at dksX8_init_8 6 rfl rfl)
theorem dX8_init_195 : decode cX8_init 195 = .ok (.bipush 32, 2) := dk_16 32 (dk_at dksX8_init_8 8 rfl rfl)
theorem dX8_init_197 : decode cX8_init 197 = .ok (.bipush 45, 2) := dk_16 45 (dk_at dksX8_init_8 10 rfl rfl)
theorem dX8_init_199 : decode cX8_init 199 = .ok (.bipush 32, 2) := dk_16 32 (dk_at dksX8_init_8 12 rfl rfl)
theorem dX8_init_201 : decode cX8_init 201 = .ok (.bipush 115, 2) := dk_16 115 (dk_at dksX8_init_8 14 rfl rfl)
theorem dX8_init_203 : decode cX8_init 203 = .ok (.bipush 116, 2) := dk_16 116 (dk_at dksX8_init_8 16 rfl rfl)
theorem dX8_init_205 : decode cX8_init 205 = .ok (.bipush 101, 2) := dk_16 101 (dk_at dksX8_init_8 18 rfl rfl)
theorem dX8_init_207 : decode cX8_init 207 = .ok (.bipush 112, 2) := dk_16 112 (dk_at dksX8_init_8 20 rfl rfl)
theorem dX8_init_209 : decode cX8_init 209 = .ok (.invokevirtual 72, 3) := dk_182 0 72 (dk_at dksX8_init_9 0 rfl rfl)
theorem dX8_init_212 : decode cX8_init 212 = .ok (.aload_n 0, 1) := dk_42 (dk_at dksX8_init_9 3 rfl rfl)
theorem dX8_init_213 : decode cX8_init 213 = .ok (.bipush 24, 2) := dk_16 24 (dk_at dksX8_init_9 4 rfl rfl)
theorem dX8_init_215 : decode cX8_init 215 = .ok (.bipush 115, 2) := dk_16 115 (dk_at dksX8_init_9 6 rfl rfl)
theorem dX8_init_217 : decode cX8_init 217 = .ok (.bipush 32, 2) := dk_16 32 (dk_at dksX8_init_9 8 rfl rfl)
theorem dX8_init_219 : decode cX8_init 219 = .ok (.bipush 59, 2) := dk_16 59 (dk_at dksX8_init_9 10 rfl rfl)
theorem dX8_init_221 : decode cX8_init 221 = .ok (.bipush 32, 2) := dk_16 32 (dk_at dksX8_init_9 12 rfl rfl)
theorem dX8_init_223 : decode cX8_init 223 = .ok (.bipush 109, 2) := dk_16 109 (dk_at dksX8_init_9 14 rfl rfl)
theorem dX8_init_225 : decode cX8_init 225 = .ok (.bipush 111, 2) := dk_16 111 (dk_at dksX8_init_9 16 rfl rfl)
theorem dX8_init_227 : decode cX8_init 227 = .ok (.bipush 111, 2) := dk_16 111 (dk_at dksX8_init_9 18 rfl rfl)
theorem dX8_init_229 : decode cX8_init 229 = .ok (.bipush 100, 2) := dk_16 100 (dk_at dksX8_init_9 20 rfl rfl)
theorem dX8_init_231 : decode cX8_init 231 = .ok (.invokevirtual 72, 3) := dk_182 0 72 (dk_at dksX8_init_10 0 rfl rfl)
theorem dX8_init_234 : decode cX8_init 234 = .ok (.aload_n 0, 1) := dk_42 (dk_at dksX8_init_10 3 rfl rfl)
theorem dX8_init_235 : decode cX8_init 235 = .ok (.bipush 32, 2) := dk_16 32 (dk_at dksX8_init_10 4 rfl rfl)
theorem dX8_init_237 : decode cX8_init 237 = .ok (.bipush 115, 2) := dk_16 115 (dk_at dksX8_init_10 6 rfl rfl)
theorem dX8_init_239 : decode cX8_init 239 = .ok (.bipush 32, 2) := dk_16 32 (dk_at dksX8_init_10 8 rfl rfl)
theorem dX8_init_241 : decode cX8_init 241 = .ok (.bipush 110, 2) := dk_16 110 (dk_at dksX8_init_10 10 rfl rfl)
theorem dX8_init_243 : decode cX8_init 243 = .ok (.bipush 117, 2) := dk_16 117 (dk_at dksX8_init_10 12 rfl rfl)
theorem dX8_init_245 : decode cX8_init 245 = .ok (.bipush 109, 2) := dk_16 109 (dk_at dksX8_init_10 14 rfl rfl)
theorem dX8_init_247 : decode cX8_init 247 = .ok (.bipush 98, 2) := dk_16 98 (dk_at dksX8_init_10 16 rfl rfl)
theorem dX8_init_249 : decode cX8_init 249 = .ok (.bipush 101, 2) := dk_16 101 (dk_at dksX8_init_10 18 rfl rfl)
theorem dX8_init_251 : decode cX8_init 251 = .ok (.bipush 114, 2) := dk_16 114 (dk_at dksX8_init_10 20 rfl rfl)
theorem dX8_init_253 : decode cX8_init 253 = .ok (.invokevirtual 72, 3) := dk_182 0 72 (dk_at dksX8_init_11 0 rfl rfl)
theorem dX8_init_256 : decode cX8_init 256 = .ok (.aload_n 0, 1) := dk_42 (dk_at dksX8_init_11 3 rfl rfl)
theorem dX8_init_257 : decode cX8_init 257 = .ok (.bipush 40, 2) := dk_16 40 (dk_at dksX8_init_11 4 rfl rfl)
theorem dX8_init_259 : decode cX8_init 259 = .ok (.bipush 32, 2) := dk_16 32 (dk_at dksX8_init_11 6 rfl rfl)
theorem dX8_init_261 : decode cX8_init 261 = .ok (.bipush 59, 2) := dk_16 59 (dk_at dksX8_init_11 8 rfl rfl)
theorem dX8_init_263 : decode cX8_init 263 = .ok (.bipush 32, 2) := dk_16 32 (dk_at dksX8_init_11 10 rfl rfl)
theorem dX8_init_265 : decode cX8_init 265 = .ok (.bipush 101, 2) := dk_16 101 (dk_at dksX8_init_11 12 rfl rfl)
theorem dX8_init_267 : decode cX8_init 267 = .ok (.bipush 110, 2) := dk_16 110 (dk_at dksX8_init_11 14 rfl rfl)
theorem dX8_init_269 : decode cX8_init 269 = .ok (.bipush 111, 2) := dk_16 111 (dk_at dksX8_init_11 16 rfl rfl)
theorem dX8_init_271 : decode cX8_init 271 = .ok (.bipush 117, 2) := dk_16 117 (dk_at dksX8_init_11 18 rfl rfl)
theorem dX8_init_273 : decode cX8_init 273 = .ok (.bipush 103, 2) := dk_16 103 (dk_at dksX8_init_11 20 rfl rfl)
theorem dX8_init_275 : decode cX8_init 275 = .ok (.invokevirtual 72, 3) := dk_182 0 72 (dk_at dksX8_init_12 0 rfl rfl)
theorem dX8_init_278 : decode cX8_init 278 = .ok (.aload_n 0, 1) := dk_42 (dk_at dksX8_init_12 3 rfl rfl)
theorem dX8_init_279 : decode cX8_init 279 = .ok (.bipush 48, 2) := dk_16 48 (dk_at dksX8_init_12 4 rfl rfl)
theorem dX8_init_281 : decode cX8_init 281 = .ok (.bipush 104, 2) := dk_16 104 (dk_at dksX8_init_12 6 rfl rfl)
theorem dX8_init_283 : decode cX8_init 283 = .ok (.bipush 32, 2) := dk_16 32 (dk_at dksX8_init_12 8 rfl rfl)
theorem dX8_init_285 : decode cX8_init 285 = .ok (.bipush 49, 2) := dk_16 49 (dk_at dksX8_init_12 10 rfl rfl)
theorem dX8_init_287 : decode cX8_init 287 = .ok (.bipush 50, 2) := dk_16 50 (dk_at dksX8_init_12 12 rfl rfl)
theorem dX8_init_289 : decode cX8_init 289 = .ok (.bipush 32, 2) := dk_16 32 (dk_at dksX8_init_12 14 rfl rfl)
theorem dX8_init_291 : decode cX8_init 291 = .ok (.bipush 60, 2) := dk_16 60 (dk_at dksX8_init_12 16 rfl rfl)
theorem dX8_init_293 : decode cX8_init 293 = .ok (.bipush 32, 2) := dk_16 32 (dk_at dksX8_init_12 18 rfl rfl)
theorem dX8_init_295 : decode cX8_init 295 = .ok (.bipush 115, 2) := dk_16 115 (dk_at dksX8_init_12 20 rfl rfl)
theorem dX8_init_297 : decode cX8_init 297 = .ok (.invokevirtual 72, 3) := dk_182 0 72 (dk_at dksX8_init_13 0 rfl rfl)
theorem dX8_init_300 : decode cX8_init 300 = .ok (.aload_n 0, 1) := dk_42 (dk_at dksX8_init_13 3 rfl rfl)
theorem dX8_init_301 : decode cX8_init 301 = .ok (.bipush 56, 2) := dk_16 56 (dk_at dksX8_init_13 4 rfl rfl)
theorem dX8_init_303 : decode cX8_init 303 = .ok (.bipush 116, 2) := dk_16 116 (dk_at dksX8_init_13 6 rfl rfl)
theorem dX8_init_305 : decode cX8_init 305 = .ok (.bipush 101, 2) := dk_16 101 (dk_at dksX8_init_13 8 rfl rfl)
theorem dX8_init_307 : decode cX8_init 307 = .ok (.bipush 112, 2) := dk_16 112 (dk_at dksX8_init_13 10 rfl rfl)
theorem dX8_init_309 : decode cX8_init 309 = .ok (.bipush 115, 2) := dk_16 115 (dk_at dksX8_init_13 12 rfl rfl)
theorem dX8_init_311 : decode cX8_init 311 = .ok (.bipush 32, 2) := dk_16 32 (dk_at dksX8_init_13 14 rfl rfl)
theorem dX8_init_313 : decode cX8_init 313 = .ok (.bipush 59, 2) := dk_16 59 (dk_at dksX8_init_13 16 rfl rfl)
theorem dX8_init_315 : decode cX8_init 315 = .ok (.bipush 32, 2) := dk_16 32 (dk_at dksX8_init_13 18 rfl rfl)
theorem dX8_init_317 : decode cX8_init 317 = .ok (.bipush 32, 2) := dk_16 32 (dk_at dksX8_init_13 20 rfl rfl)
theorem dX8_init_319 : decode cX8_init 319 = .ok (.invokevirtual 72, 3) := dk_182 0 72 (dk_at dksX8_init_14 0 rfl rfl)
theorem dX8_init_322 : decode cX8_init 322 = .ok (.aload_n 0, 1) := dk_42 (dk_at dksX8_init_14 3 rfl rfl)
theorem dX8_init_323 : decode cX8_init 323 = .ok (.getfield 17, 3) := dk_180 0 17 (dk_at dksX8_init_14 4 rfl rfl)
theorem dX8_init_326 : decode cX8_init 326 = .ok (.iconst 0, 1) := dk_3 (dk_at dksX8_init_14 7 rfl rfl)
theorem dX8_init_327 : decode cX8_init 327 = .ok (.bipush 64, 2) := dk_16 64 (dk_at dksX8_init_14 8 rfl rfl)
theorem dX8_init_329 : decode cX8_init 329 = .ok (.iastore, 1) := dk_79 (dk_at dksX8_init_14 10 rfl rfl)
theorem dX8_init_330 : decode cX8_init 330 = .ok (.aload_n 0, 1) := dk_42 (dk_at dksX8_init_14 11 rfl rfl)
theorem dX8_init_331 : decode cX8_init 331 = .ok (.iconst 1, 1) := dk_4 (dk_at dksX8_init_14 12 rfl rfl)
theorem dX8_init_332 : decode cX8_init 332 = .ok (.putfield 76, 3) := dk_181 0 76 (dk_at dksX8_init_14 13 rfl rfl)
theorem dX8_init_335 : decode cX8_init 335 = .ok (.return_, 1) := dk_177 (dk_at dksX8_init_14 16 rfl rfl)
abbrev cX8_spreads : ByteArray := prog_16_method_12_code
def yX8_spreads : MethodName := ⟨RX8, "spreads", "()V"⟩
def dkwX8_spreads_5 : List UInt8 := [167, 0, 9, 42, 180, 0, 35, 28, 46, 79, 132, 2, 1, 167, 255, 191, 132, 1, 1, 167, 255, 177, 177]
abbrev dktX8_spreads_5 : List UInt8 := dkwX8_spreads_5 ++ []
def dkwX8_spreads_4 : List UInt8 := [16, 8, 112, 96, 46, 96, 62, 42, 180, 0, 35, 28, 29, 42, 180, 0, 35, 28, 46, 162, 0, 7, 29]
abbrev dktX8_spreads_4 : List UInt8 := dkwX8_spreads_4 ++ dktX8_spreads_5
def dkwX8_spreads_3 : List UInt8 := [42, 180, 0, 35, 16, 8, 28, 16, 8, 108, 104, 27, 96, 46, 42, 180, 0, 35, 16, 8, 27, 104, 28]
abbrev dktX8_spreads_3 : List UInt8 := dkwX8_spreads_3 ++ dktX8_spreads_4
def dkwX8_spreads_2 : List UInt8 := [46, 79, 132, 1, 1, 167, 255, 205, 3, 60, 27, 16, 8, 162, 0, 79, 3, 61, 28, 16, 64, 162, 0, 65]
abbrev dktX8_spreads_2 : List UInt8 := dkwX8_spreads_2 ++ dktX8_spreads_3
def dkwX8_spreads_1 : List UInt8 := [3, 167, 0, 24, 42, 180, 0, 26, 27, 46, 154, 0, 9, 17, 3, 231, 167, 0, 9, 42, 180, 0, 26, 27]
abbrev dktX8_spreads_1 : List UInt8 := dkwX8_spreads_1 ++ dktX8_spreads_2
def dkwX8_spreads_0 : List UInt8 := [3, 60, 27, 16, 64, 162, 0, 51, 42, 180, 0, 35, 27, 27, 16, 8, 108, 27, 16, 8, 112, 160, 0, 7]
abbrev dktX8_spreads_0 : List UInt8 := dkwX8_spreads_0 ++ dktX8_spreads_1
theorem dksX8_spreads_0 : cX8_spreads.data.toList.drop 0 = dktX8_spreads_0 := by decide +kernel
theorem dksX8_spreads_1 : cX8_spreads.data.toList.drop 24 = dktX8_spreads_1 := dk_seg dksX8_spreads_0 24 rfl rfl
theorem dksX8_spreads_2 : cX8_spreads.data.toList.drop 48 = dktX8_spreads_2 := dk_seg dksX8_spreads_1 24 rfl rfl
theorem dksX8_spreads_3 : cX8_spreads.data.toList.drop 72 = dktX8_spreads_3 := dk_seg dksX8_spreads_2 24 rfl rfl
theorem dksX8_spreads_4 : cX8_spreads.data.toList.drop 95 = dktX8_spreads_4 := dk_seg dksX8_spreads_3 23 rfl rfl
theorem dksX8_spreads_5 : cX8_spreads.data.toList.drop 118 = dktX8_spreads_5 := dk_seg dksX8_spreads_4 23 rfl rfl
theorem dX8_spreads_0 : decode cX8_spreads 0 = .ok (.iconst 0, 1) := dk_3 (dk_at dksX8_spreads_0 0 rfl rfl)
theorem dX8_spreads_1 : decode cX8_spreads 1 = .ok (.istore_n 1, 1) := dk_60 (dk_at dksX8_spreads_0 1 rfl rfl)
theorem dX8_spreads_2 : decode cX8_spreads 2 = .ok (.iload_n 1, 1) := dk_27 (dk_at dksX8_spreads_0 2 rfl rfl)
theorem dX8_spreads_3 : decode cX8_spreads 3 = .ok (.bipush 64, 2) := dk_16 64 (dk_at dksX8_spreads_0 3 rfl rfl)
theorem dX8_spreads_5 : decode cX8_spreads 5 = .ok (.if_icmp .ge 51, 3) := dk_162 0 51 (dk_at dksX8_spreads_0 5 rfl rfl)
theorem dX8_spreads_8 : decode cX8_spreads 8 = .ok (.aload_n 0, 1) := dk_42 (dk_at dksX8_spreads_0 8 rfl rfl)
theorem dX8_spreads_9 : decode cX8_spreads 9 = .ok (.getfield 35, 3) := dk_180 0 35 (dk_at dksX8_spreads_0 9 rfl rfl)
theorem dX8_spreads_12 : decode cX8_spreads 12 = .ok (.iload_n 1, 1) := dk_27 (dk_at dksX8_spreads_0 12 rfl rfl)
theorem dX8_spreads_13 : decode cX8_spreads 13 = .ok (.iload_n 1, 1) := dk_27 (dk_at dksX8_spreads_0 13 rfl rfl)
theorem dX8_spreads_14 : decode cX8_spreads 14 = .ok (.bipush 8, 2) := dk_16 8 (dk_at dksX8_spreads_0 14 rfl rfl)
theorem dX8_spreads_16 : decode cX8_spreads 16 = .ok (.idiv, 1) := dk_108 (dk_at dksX8_spreads_0 16 rfl rfl)
theorem dX8_spreads_17 : decode cX8_spreads 17 = .ok (.iload_n 1, 1) := dk_27 (dk_at dksX8_spreads_0 17 rfl rfl)
theorem dX8_spreads_18 : decode cX8_spreads 18 = .ok (.bipush 8, 2) := dk_16 8 (dk_at dksX8_spreads_0 18 rfl rfl)
theorem dX8_spreads_20 : decode cX8_spreads 20 = .ok (.irem, 1) := dk_112 (dk_at dksX8_spreads_0 20 rfl rfl)
theorem dX8_spreads_21 : decode cX8_spreads 21 = .ok (.if_icmp .ne 7, 3) := dk_160 0 7 (dk_at dksX8_spreads_0 21 rfl rfl)
theorem dX8_spreads_24 : decode cX8_spreads 24 = .ok (.iconst 0, 1) := dk_3 (dk_at dksX8_spreads_1 0 rfl rfl)
theorem dX8_spreads_25 : decode cX8_spreads 25 = .ok (.goto 24, 3) := dk_167 0 24 (dk_at dksX8_spreads_1 1 rfl rfl)
theorem dX8_spreads_28 : decode cX8_spreads 28 = .ok (.aload_n 0, 1) := dk_42 (dk_at dksX8_spreads_1 4 rfl rfl)
theorem dX8_spreads_29 : decode cX8_spreads 29 = .ok (.getfield 26, 3) := dk_180 0 26 (dk_at dksX8_spreads_1 5 rfl rfl)
theorem dX8_spreads_32 : decode cX8_spreads 32 = .ok (.iload_n 1, 1) := dk_27 (dk_at dksX8_spreads_1 8 rfl rfl)
theorem dX8_spreads_33 : decode cX8_spreads 33 = .ok (.iaload, 1) := dk_46 (dk_at dksX8_spreads_1 9 rfl rfl)
theorem dX8_spreads_34 : decode cX8_spreads 34 = .ok (.ifCond .ne 9, 3) := dk_154 0 9 (dk_at dksX8_spreads_1 10 rfl rfl)
theorem dX8_spreads_37 : decode cX8_spreads 37 = .ok (.sipush 999, 3) := dk_17 3 231 (dk_at dksX8_spreads_1 13 rfl rfl)
theorem dX8_spreads_40 : decode cX8_spreads 40 = .ok (.goto 9, 3) := dk_167 0 9 (dk_at dksX8_spreads_1 16 rfl rfl)
theorem dX8_spreads_43 : decode cX8_spreads 43 = .ok (.aload_n 0, 1) := dk_42 (dk_at dksX8_spreads_1 19 rfl rfl)
theorem dX8_spreads_44 : decode cX8_spreads 44 = .ok (.getfield 26, 3) := dk_180 0 26 (dk_at dksX8_spreads_1 20 rfl rfl)
theorem dX8_spreads_47 : decode cX8_spreads 47 = .ok (.iload_n 1, 1) := dk_27 (dk_at dksX8_spreads_1 23 rfl rfl)
theorem dX8_spreads_48 : decode cX8_spreads 48 = .ok (.iaload, 1) := dk_46 (dk_at dksX8_spreads_2 0 rfl rfl)
theorem dX8_spreads_49 : decode cX8_spreads 49 = .ok (.iastore, 1) := dk_79 (dk_at dksX8_spreads_2 1 rfl rfl)
theorem dX8_spreads_50 : decode cX8_spreads 50 = .ok (.iinc 1 1, 3) := dk_132 1 1 (dk_at dksX8_spreads_2 2 rfl rfl)
theorem dX8_spreads_53 : decode cX8_spreads 53 = .ok (.goto (-51), 3) := dk_167 255 205 (dk_at dksX8_spreads_2 5 rfl rfl)
theorem dX8_spreads_56 : decode cX8_spreads 56 = .ok (.iconst 0, 1) := dk_3 (dk_at dksX8_spreads_2 8 rfl rfl)
theorem dX8_spreads_57 : decode cX8_spreads 57 = .ok (.istore_n 1, 1) := dk_60 (dk_at dksX8_spreads_2 9 rfl rfl)
theorem dX8_spreads_58 : decode cX8_spreads 58 = .ok (.iload_n 1, 1) := dk_27 (dk_at dksX8_spreads_2 10 rfl rfl)
theorem dX8_spreads_59 : decode cX8_spreads 59 = .ok (.bipush 8, 2) := dk_16 8 (dk_at dksX8_spreads_2 11 rfl rfl)
theorem dX8_spreads_61 : decode cX8_spreads 61 = .ok (.if_icmp .ge 79, 3) := dk_162 0 79 (dk_at dksX8_spreads_2 13 rfl rfl)
theorem dX8_spreads_64 : decode cX8_spreads 64 = .ok (.iconst 0, 1) := dk_3 (dk_at dksX8_spreads_2 16 rfl rfl)
theorem dX8_spreads_65 : decode cX8_spreads 65 = .ok (.istore_n 2, 1) := dk_61 (dk_at dksX8_spreads_2 17 rfl rfl)
theorem dX8_spreads_66 : decode cX8_spreads 66 = .ok (.iload_n 2, 1) := dk_28 (dk_at dksX8_spreads_2 18 rfl rfl)
theorem dX8_spreads_67 : decode cX8_spreads 67 = .ok (.bipush 64, 2) := dk_16 64 (dk_at dksX8_spreads_2 19 rfl rfl)
theorem dX8_spreads_69 : decode cX8_spreads 69 = .ok (.if_icmp .ge 65, 3) := dk_162 0 65 (dk_at dksX8_spreads_2 21 rfl rfl)
theorem dX8_spreads_72 : decode cX8_spreads 72 = .ok (.aload_n 0, 1) := dk_42 (dk_at dksX8_spreads_3 0 rfl rfl)
theorem dX8_spreads_73 : decode cX8_spreads 73 = .ok (.getfield 35, 3) := dk_180 0 35 (dk_at dksX8_spreads_3 1 rfl rfl)
theorem dX8_spreads_76 : decode cX8_spreads 76 = .ok (.bipush 8, 2) := dk_16 8 (dk_at dksX8_spreads_3 4 rfl rfl)
theorem dX8_spreads_78 : decode cX8_spreads 78 = .ok (.iload_n 2, 1) := dk_28 (dk_at dksX8_spreads_3 6 rfl rfl)
theorem dX8_spreads_79 : decode cX8_spreads 79 = .ok (.bipush 8, 2) := dk_16 8 (dk_at dksX8_spreads_3 7 rfl rfl)
theorem dX8_spreads_81 : decode cX8_spreads 81 = .ok (.idiv, 1) := dk_108 (dk_at dksX8_spreads_3 9 rfl rfl)
theorem dX8_spreads_82 : decode cX8_spreads 82 = .ok (.imul, 1) := dk_104 (dk_at dksX8_spreads_3 10 rfl rfl)
theorem dX8_spreads_83 : decode cX8_spreads 83 = .ok (.iload_n 1, 1) := dk_27 (dk_at dksX8_spreads_3 11 rfl rfl)
theorem dX8_spreads_84 : decode cX8_spreads 84 = .ok (.iadd, 1) := dk_96 (dk_at dksX8_spreads_3 12 rfl rfl)
theorem dX8_spreads_85 : decode cX8_spreads 85 = .ok (.iaload, 1) := dk_46 (dk_at dksX8_spreads_3 13 rfl rfl)
theorem dX8_spreads_86 : decode cX8_spreads 86 = .ok (.aload_n 0, 1) := dk_42 (dk_at dksX8_spreads_3 14 rfl rfl)
theorem dX8_spreads_87 : decode cX8_spreads 87 = .ok (.getfield 35, 3) := dk_180 0 35 (dk_at dksX8_spreads_3 15 rfl rfl)
theorem dX8_spreads_90 : decode cX8_spreads 90 = .ok (.bipush 8, 2) := dk_16 8 (dk_at dksX8_spreads_3 18 rfl rfl)
theorem dX8_spreads_92 : decode cX8_spreads 92 = .ok (.iload_n 1, 1) := dk_27 (dk_at dksX8_spreads_3 20 rfl rfl)
theorem dX8_spreads_93 : decode cX8_spreads 93 = .ok (.imul, 1) := dk_104 (dk_at dksX8_spreads_3 21 rfl rfl)
theorem dX8_spreads_94 : decode cX8_spreads 94 = .ok (.iload_n 2, 1) := dk_28 (dk_at dksX8_spreads_3 22 rfl rfl)
theorem dX8_spreads_95 : decode cX8_spreads 95 = .ok (.bipush 8, 2) := dk_16 8 (dk_at dksX8_spreads_4 0 rfl rfl)
theorem dX8_spreads_97 : decode cX8_spreads 97 = .ok (.irem, 1) := dk_112 (dk_at dksX8_spreads_4 2 rfl rfl)
theorem dX8_spreads_98 : decode cX8_spreads 98 = .ok (.iadd, 1) := dk_96 (dk_at dksX8_spreads_4 3 rfl rfl)
theorem dX8_spreads_99 : decode cX8_spreads 99 = .ok (.iaload, 1) := dk_46 (dk_at dksX8_spreads_4 4 rfl rfl)
theorem dX8_spreads_100 : decode cX8_spreads 100 = .ok (.iadd, 1) := dk_96 (dk_at dksX8_spreads_4 5 rfl rfl)
theorem dX8_spreads_101 : decode cX8_spreads 101 = .ok (.istore_n 3, 1) := dk_62 (dk_at dksX8_spreads_4 6 rfl rfl)
theorem dX8_spreads_102 : decode cX8_spreads 102 = .ok (.aload_n 0, 1) := dk_42 (dk_at dksX8_spreads_4 7 rfl rfl)
theorem dX8_spreads_103 : decode cX8_spreads 103 = .ok (.getfield 35, 3) := dk_180 0 35 (dk_at dksX8_spreads_4 8 rfl rfl)
theorem dX8_spreads_106 : decode cX8_spreads 106 = .ok (.iload_n 2, 1) := dk_28 (dk_at dksX8_spreads_4 11 rfl rfl)
theorem dX8_spreads_107 : decode cX8_spreads 107 = .ok (.iload_n 3, 1) := dk_29 (dk_at dksX8_spreads_4 12 rfl rfl)
theorem dX8_spreads_108 : decode cX8_spreads 108 = .ok (.aload_n 0, 1) := dk_42 (dk_at dksX8_spreads_4 13 rfl rfl)
theorem dX8_spreads_109 : decode cX8_spreads 109 = .ok (.getfield 35, 3) := dk_180 0 35 (dk_at dksX8_spreads_4 14 rfl rfl)
theorem dX8_spreads_112 : decode cX8_spreads 112 = .ok (.iload_n 2, 1) := dk_28 (dk_at dksX8_spreads_4 17 rfl rfl)
theorem dX8_spreads_113 : decode cX8_spreads 113 = .ok (.iaload, 1) := dk_46 (dk_at dksX8_spreads_4 18 rfl rfl)
theorem dX8_spreads_114 : decode cX8_spreads 114 = .ok (.if_icmp .ge 7, 3) := dk_162 0 7 (dk_at dksX8_spreads_4 19 rfl rfl)
theorem dX8_spreads_117 : decode cX8_spreads 117 = .ok (.iload_n 3, 1) := dk_29 (dk_at dksX8_spreads_4 22 rfl rfl)
theorem dX8_spreads_118 : decode cX8_spreads 118 = .ok (.goto 9, 3) := dk_167 0 9 (dk_at dksX8_spreads_5 0 rfl rfl)
theorem dX8_spreads_121 : decode cX8_spreads 121 = .ok (.aload_n 0, 1) := dk_42 (dk_at dksX8_spreads_5 3 rfl rfl)
theorem dX8_spreads_122 : decode cX8_spreads 122 = .ok (.getfield 35, 3) := dk_180 0 35 (dk_at dksX8_spreads_5 4 rfl rfl)
theorem dX8_spreads_125 : decode cX8_spreads 125 = .ok (.iload_n 2, 1) := dk_28 (dk_at dksX8_spreads_5 7 rfl rfl)
theorem dX8_spreads_126 : decode cX8_spreads 126 = .ok (.iaload, 1) := dk_46 (dk_at dksX8_spreads_5 8 rfl rfl)
theorem dX8_spreads_127 : decode cX8_spreads 127 = .ok (.iastore, 1) := dk_79 (dk_at dksX8_spreads_5 9 rfl rfl)
theorem dX8_spreads_128 : decode cX8_spreads 128 = .ok (.iinc 2 1, 3) := dk_132 2 1 (dk_at dksX8_spreads_5 10 rfl rfl)
theorem dX8_spreads_131 : decode cX8_spreads 131 = .ok (.goto (-65), 3) := dk_167 255 191 (dk_at dksX8_spreads_5 13 rfl rfl)
theorem dX8_spreads_134 : decode cX8_spreads 134 = .ok (.iinc 1 1, 3) := dk_132 1 1 (dk_at dksX8_spreads_5 16 rfl rfl)
theorem dX8_spreads_137 : decode cX8_spreads 137 = .ok (.goto (-79), 3) := dk_167 255 177 (dk_at dksX8_spreads_5 19 rfl rfl)
theorem dX8_spreads_140 : decode cX8_spreads 140 = .ok (.return_, 1) := dk_177 (dk_at dksX8_spreads_5 22 rfl rfl)
abbrev cX8_spell : ByteArray := prog_16_method_5_code
def yX8_spell : MethodName := ⟨RX8, "spell", "(IIIIIIIII)V"⟩
def dkwX8_spell_3 : List UInt8 := [27, 16, 7, 96, 21, 9, 79, 177]
abbrev dktX8_spell_3 : List UInt8 := dkwX8_spell_3 ++ []
def dkwX8_spell_2 : List UInt8 := [180, 0, 13, 27, 8, 96, 21, 7, 79, 42, 180, 0, 13, 27, 16, 6, 96, 21, 8, 79, 42, 180, 0, 13]
abbrev dktX8_spell_2 : List UInt8 := dkwX8_spell_2 ++ dktX8_spell_3
def dkwX8_spell_1 : List UInt8 := [21, 4, 79, 42, 180, 0, 13, 27, 6, 96, 21, 5, 79, 42, 180, 0, 13, 27, 7, 96, 21, 6, 79, 42]
abbrev dktX8_spell_1 : List UInt8 := dkwX8_spell_1 ++ dktX8_spell_2
def dkwX8_spell_0 : List UInt8 := [42, 180, 0, 13, 27, 28, 79, 42, 180, 0, 13, 27, 4, 96, 29, 79, 42, 180, 0, 13, 27, 5, 96]
abbrev dktX8_spell_0 : List UInt8 := dkwX8_spell_0 ++ dktX8_spell_1
theorem dksX8_spell_0 : cX8_spell.data.toList.drop 0 = dktX8_spell_0 := by decide +kernel
theorem dksX8_spell_1 : cX8_spell.data.toList.drop 23 = dktX8_spell_1 := dk_seg dksX8_spell_0 23 rfl rfl
theorem dksX8_spell_2 : cX8_spell.data.toList.drop 47 = dktX8_spell_2 := dk_seg dksX8_spell_1 24 rfl rfl
theorem dksX8_spell_3 : cX8_spell.data.toList.drop 71 = dktX8_spell_3 := dk_seg dksX8_spell_2 24 rfl rfl
theorem dX8_spell_0 : decode cX8_spell 0 = .ok (.aload_n 0, 1) := dk_42 (dk_at dksX8_spell_0 0 rfl rfl)
theorem dX8_spell_1 : decode cX8_spell 1 = .ok (.getfield 13, 3) := dk_180 0 13 (dk_at dksX8_spell_0 1 rfl rfl)
theorem dX8_spell_4 : decode cX8_spell 4 = .ok (.iload_n 1, 1) := dk_27 (dk_at dksX8_spell_0 4 rfl rfl)
theorem dX8_spell_5 : decode cX8_spell 5 = .ok (.iload_n 2, 1) := dk_28 (dk_at dksX8_spell_0 5 rfl rfl)
theorem dX8_spell_6 : decode cX8_spell 6 = .ok (.iastore, 1) := dk_79 (dk_at dksX8_spell_0 6 rfl rfl)
theorem dX8_spell_7 : decode cX8_spell 7 = .ok (.aload_n 0, 1) := dk_42 (dk_at dksX8_spell_0 7 rfl rfl)
theorem dX8_spell_8 : decode cX8_spell 8 = .ok (.getfield 13, 3) := dk_180 0 13 (dk_at dksX8_spell_0 8 rfl rfl)
theorem dX8_spell_11 : decode cX8_spell 11 = .ok (.iload_n 1, 1) := dk_27 (dk_at dksX8_spell_0 11 rfl rfl)
theorem dX8_spell_12 : decode cX8_spell 12 = .ok (.iconst 1, 1) := dk_4 (dk_at dksX8_spell_0 12 rfl rfl)
theorem dX8_spell_13 : decode cX8_spell 13 = .ok (.iadd, 1) := dk_96 (dk_at dksX8_spell_0 13 rfl rfl)
theorem dX8_spell_14 : decode cX8_spell 14 = .ok (.iload_n 3, 1) := dk_29 (dk_at dksX8_spell_0 14 rfl rfl)
theorem dX8_spell_15 : decode cX8_spell 15 = .ok (.iastore, 1) := dk_79 (dk_at dksX8_spell_0 15 rfl rfl)
theorem dX8_spell_16 : decode cX8_spell 16 = .ok (.aload_n 0, 1) := dk_42 (dk_at dksX8_spell_0 16 rfl rfl)
theorem dX8_spell_17 : decode cX8_spell 17 = .ok (.getfield 13, 3) := dk_180 0 13 (dk_at dksX8_spell_0 17 rfl rfl)
theorem dX8_spell_20 : decode cX8_spell 20 = .ok (.iload_n 1, 1) := dk_27 (dk_at dksX8_spell_0 20 rfl rfl)
theorem dX8_spell_21 : decode cX8_spell 21 = .ok (.iconst 2, 1) := dk_5 (dk_at dksX8_spell_0 21 rfl rfl)
theorem dX8_spell_22 : decode cX8_spell 22 = .ok (.iadd, 1) := dk_96 (dk_at dksX8_spell_0 22 rfl rfl)
theorem dX8_spell_23 : decode cX8_spell 23 = .ok (.iload 4, 2) := dk_21 4 (dk_at dksX8_spell_1 0 rfl rfl)
theorem dX8_spell_25 : decode cX8_spell 25 = .ok (.iastore, 1) := dk_79 (dk_at dksX8_spell_1 2 rfl rfl)
theorem dX8_spell_26 : decode cX8_spell 26 = .ok (.aload_n 0, 1) := dk_42 (dk_at dksX8_spell_1 3 rfl rfl)
theorem dX8_spell_27 : decode cX8_spell 27 = .ok (.getfield 13, 3) := dk_180 0 13 (dk_at dksX8_spell_1 4 rfl rfl)
theorem dX8_spell_30 : decode cX8_spell 30 = .ok (.iload_n 1, 1) := dk_27 (dk_at dksX8_spell_1 7 rfl rfl)
theorem dX8_spell_31 : decode cX8_spell 31 = .ok (.iconst 3, 1) := dk_6 (dk_at dksX8_spell_1 8 rfl rfl)
theorem dX8_spell_32 : decode cX8_spell 32 = .ok (.iadd, 1) := dk_96 (dk_at dksX8_spell_1 9 rfl rfl)
theorem dX8_spell_33 : decode cX8_spell 33 = .ok (.iload 5, 2) := dk_21 5 (dk_at dksX8_spell_1 10 rfl rfl)
theorem dX8_spell_35 : decode cX8_spell 35 = .ok (.iastore, 1) := dk_79 (dk_at dksX8_spell_1 12 rfl rfl)
theorem dX8_spell_36 : decode cX8_spell 36 = .ok (.aload_n 0, 1) := dk_42 (dk_at dksX8_spell_1 13 rfl rfl)
theorem dX8_spell_37 : decode cX8_spell 37 = .ok (.getfield 13, 3) := dk_180 0 13 (dk_at dksX8_spell_1 14 rfl rfl)
theorem dX8_spell_40 : decode cX8_spell 40 = .ok (.iload_n 1, 1) := dk_27 (dk_at dksX8_spell_1 17 rfl rfl)
theorem dX8_spell_41 : decode cX8_spell 41 = .ok (.iconst 4, 1) := dk_7 (dk_at dksX8_spell_1 18 rfl rfl)
theorem dX8_spell_42 : decode cX8_spell 42 = .ok (.iadd, 1) := dk_96 (dk_at dksX8_spell_1 19 rfl rfl)
theorem dX8_spell_43 : decode cX8_spell 43 = .ok (.iload 6, 2) := dk_21 6 (dk_at dksX8_spell_1 20 rfl rfl)
theorem dX8_spell_45 : decode cX8_spell 45 = .ok (.iastore, 1) := dk_79 (dk_at dksX8_spell_1 22 rfl rfl)
theorem dX8_spell_46 : decode cX8_spell 46 = .ok (.aload_n 0, 1) := dk_42 (dk_at dksX8_spell_1 23 rfl rfl)
theorem dX8_spell_47 : decode cX8_spell 47 = .ok (.getfield 13, 3) := dk_180 0 13 (dk_at dksX8_spell_2 0 rfl rfl)
theorem dX8_spell_50 : decode cX8_spell 50 = .ok (.iload_n 1, 1) := dk_27 (dk_at dksX8_spell_2 3 rfl rfl)
theorem dX8_spell_51 : decode cX8_spell 51 = .ok (.iconst 5, 1) := dk_8 (dk_at dksX8_spell_2 4 rfl rfl)
theorem dX8_spell_52 : decode cX8_spell 52 = .ok (.iadd, 1) := dk_96 (dk_at dksX8_spell_2 5 rfl rfl)
theorem dX8_spell_53 : decode cX8_spell 53 = .ok (.iload 7, 2) := dk_21 7 (dk_at dksX8_spell_2 6 rfl rfl)
theorem dX8_spell_55 : decode cX8_spell 55 = .ok (.iastore, 1) := dk_79 (dk_at dksX8_spell_2 8 rfl rfl)
theorem dX8_spell_56 : decode cX8_spell 56 = .ok (.aload_n 0, 1) := dk_42 (dk_at dksX8_spell_2 9 rfl rfl)
theorem dX8_spell_57 : decode cX8_spell 57 = .ok (.getfield 13, 3) := dk_180 0 13 (dk_at dksX8_spell_2 10 rfl rfl)
theorem dX8_spell_60 : decode cX8_spell 60 = .ok (.iload_n 1, 1) := dk_27 (dk_at dksX8_spell_2 13 rfl rfl)
theorem dX8_spell_61 : decode cX8_spell 61 = .ok (.bipush 6, 2) := dk_16 6 (dk_at dksX8_spell_2 14 rfl rfl)
theorem dX8_spell_63 : decode cX8_spell 63 = .ok (.iadd, 1) := dk_96 (dk_at dksX8_spell_2 16 rfl rfl)
theorem dX8_spell_64 : decode cX8_spell 64 = .ok (.iload 8, 2) := dk_21 8 (dk_at dksX8_spell_2 17 rfl rfl)
theorem dX8_spell_66 : decode cX8_spell 66 = .ok (.iastore, 1) := dk_79 (dk_at dksX8_spell_2 19 rfl rfl)
theorem dX8_spell_67 : decode cX8_spell 67 = .ok (.aload_n 0, 1) := dk_42 (dk_at dksX8_spell_2 20 rfl rfl)
theorem dX8_spell_68 : decode cX8_spell 68 = .ok (.getfield 13, 3) := dk_180 0 13 (dk_at dksX8_spell_2 21 rfl rfl)
theorem dX8_spell_71 : decode cX8_spell 71 = .ok (.iload_n 1, 1) := dk_27 (dk_at dksX8_spell_3 0 rfl rfl)
theorem dX8_spell_72 : decode cX8_spell 72 = .ok (.bipush 7, 2) := dk_16 7 (dk_at dksX8_spell_3 1 rfl rfl)
theorem dX8_spell_74 : decode cX8_spell 74 = .ok (.iadd, 1) := dk_96 (dk_at dksX8_spell_3 3 rfl rfl)
theorem dX8_spell_75 : decode cX8_spell 75 = .ok (.iload 9, 2) := dk_21 9 (dk_at dksX8_spell_3 4 rfl rfl)
theorem dX8_spell_77 : decode cX8_spell 77 = .ok (.iastore, 1) := dk_79 (dk_at dksX8_spell_3 6 rfl rfl)
theorem dX8_spell_78 : decode cX8_spell 78 = .ok (.return_, 1) := dk_177 (dk_at dksX8_spell_3 7 rfl rfl)
abbrev cX8_set : ByteArray := prog_16_method_10_code
def yX8_set : MethodName := ⟨RX8, "set", "(III)I"⟩
def dkwX8_set_2 : List UInt8 := [54, 4, 42, 27, 28, 29, 182, 0, 102, 21, 4, 172]
abbrev dktX8_set_2 : List UInt8 := dkwX8_set_2 ++ []
def dkwX8_set_1 : List UInt8 := [29, 133, 9, 27, 184, 0, 94, 133, 184, 0, 82, 154, 0, 6, 16, 254, 172, 42, 28, 27, 182, 0, 98]
abbrev dktX8_set_1 : List UInt8 := dkwX8_set_1 ++ dktX8_set_2
def dkwX8_set_0 : List UInt8 := [27, 133, 9, 20, 0, 92, 184, 0, 82, 153, 0, 29, 27, 158, 0, 11, 42, 28, 182, 0, 86, 153, 0, 17]
abbrev dktX8_set_0 : List UInt8 := dkwX8_set_0 ++ dktX8_set_1
theorem dksX8_set_0 : cX8_set.data.toList.drop 0 = dktX8_set_0 := by decide +kernel
theorem dksX8_set_1 : cX8_set.data.toList.drop 24 = dktX8_set_1 := dk_seg dksX8_set_0 24 rfl rfl
theorem dksX8_set_2 : cX8_set.data.toList.drop 47 = dktX8_set_2 := dk_seg dksX8_set_1 23 rfl rfl
theorem dX8_set_0 : decode cX8_set 0 = .ok (.iload_n 1, 1) := dk_27 (dk_at dksX8_set_0 0 rfl rfl)
theorem dX8_set_1 : decode cX8_set 1 = .ok (.i2l, 1) := dk_133 (dk_at dksX8_set_0 1 rfl rfl)
theorem dX8_set_2 : decode cX8_set 2 = .ok (.lconst 0, 1) := dk_9 (dk_at dksX8_set_0 2 rfl rfl)
theorem dX8_set_3 : decode cX8_set 3 = .ok (.ldc2_w 92, 3) := dk_20 0 92 (dk_at dksX8_set_0 3 rfl rfl)
theorem dX8_set_6 : decode cX8_set 6 = .ok (.invokestatic 82, 3) := dk_184 0 82 (dk_at dksX8_set_0 6 rfl rfl)
theorem dX8_set_9 : decode cX8_set 9 = .ok (.ifCond .eq 29, 3) := dk_153 0 29 (dk_at dksX8_set_0 9 rfl rfl)
theorem dX8_set_12 : decode cX8_set 12 = .ok (.iload_n 1, 1) := dk_27 (dk_at dksX8_set_0 12 rfl rfl)
theorem dX8_set_13 : decode cX8_set 13 = .ok (.ifCond .le 11, 3) := dk_158 0 11 (dk_at dksX8_set_0 13 rfl rfl)
theorem dX8_set_16 : decode cX8_set 16 = .ok (.aload_n 0, 1) := dk_42 (dk_at dksX8_set_0 16 rfl rfl)
theorem dX8_set_17 : decode cX8_set 17 = .ok (.iload_n 2, 1) := dk_28 (dk_at dksX8_set_0 17 rfl rfl)
theorem dX8_set_18 : decode cX8_set 18 = .ok (.invokevirtual 86, 3) := dk_182 0 86 (dk_at dksX8_set_0 18 rfl rfl)
theorem dX8_set_21 : decode cX8_set 21 = .ok (.ifCond .eq 17, 3) := dk_153 0 17 (dk_at dksX8_set_0 21 rfl rfl)
theorem dX8_set_24 : decode cX8_set 24 = .ok (.iload_n 3, 1) := dk_29 (dk_at dksX8_set_1 0 rfl rfl)
theorem dX8_set_25 : decode cX8_set 25 = .ok (.i2l, 1) := dk_133 (dk_at dksX8_set_1 1 rfl rfl)
theorem dX8_set_26 : decode cX8_set 26 = .ok (.lconst 0, 1) := dk_9 (dk_at dksX8_set_1 2 rfl rfl)
theorem dX8_set_27 : decode cX8_set 27 = .ok (.iload_n 1, 1) := dk_27 (dk_at dksX8_set_1 3 rfl rfl)
theorem dX8_set_28 : decode cX8_set 28 = .ok (.invokestatic 94, 3) := dk_184 0 94 (dk_at dksX8_set_1 4 rfl rfl)
theorem dX8_set_31 : decode cX8_set 31 = .ok (.i2l, 1) := dk_133 (dk_at dksX8_set_1 7 rfl rfl)
theorem dX8_set_32 : decode cX8_set 32 = .ok (.invokestatic 82, 3) := dk_184 0 82 (dk_at dksX8_set_1 8 rfl rfl)
theorem dX8_set_35 : decode cX8_set 35 = .ok (.ifCond .ne 6, 3) := dk_154 0 6 (dk_at dksX8_set_1 11 rfl rfl)
theorem dX8_set_38 : decode cX8_set 38 = .ok (.bipush (-2), 2) := dk_16 254 (dk_at dksX8_set_1 14 rfl rfl)
theorem dX8_set_40 : decode cX8_set 40 = .ok (.ireturn, 1) := dk_172 (dk_at dksX8_set_1 16 rfl rfl)
theorem dX8_set_41 : decode cX8_set 41 = .ok (.aload_n 0, 1) := dk_42 (dk_at dksX8_set_1 17 rfl rfl)
theorem dX8_set_42 : decode cX8_set 42 = .ok (.iload_n 2, 1) := dk_28 (dk_at dksX8_set_1 18 rfl rfl)
theorem dX8_set_43 : decode cX8_set 43 = .ok (.iload_n 1, 1) := dk_27 (dk_at dksX8_set_1 19 rfl rfl)
theorem dX8_set_44 : decode cX8_set 44 = .ok (.invokevirtual 98, 3) := dk_182 0 98 (dk_at dksX8_set_1 20 rfl rfl)
theorem dX8_set_47 : decode cX8_set 47 = .ok (.istore 4, 2) := dk_54 4 (dk_at dksX8_set_2 0 rfl rfl)
theorem dX8_set_49 : decode cX8_set 49 = .ok (.aload_n 0, 1) := dk_42 (dk_at dksX8_set_2 2 rfl rfl)
theorem dX8_set_50 : decode cX8_set 50 = .ok (.iload_n 1, 1) := dk_27 (dk_at dksX8_set_2 3 rfl rfl)
theorem dX8_set_51 : decode cX8_set 51 = .ok (.iload_n 2, 1) := dk_28 (dk_at dksX8_set_2 4 rfl rfl)
theorem dX8_set_52 : decode cX8_set 52 = .ok (.iload_n 3, 1) := dk_29 (dk_at dksX8_set_2 5 rfl rfl)
theorem dX8_set_53 : decode cX8_set 53 = .ok (.invokevirtual 102, 3) := dk_182 0 102 (dk_at dksX8_set_2 6 rfl rfl)
theorem dX8_set_56 : decode cX8_set 56 = .ok (.iload 4, 2) := dk_21 4 (dk_at dksX8_set_2 9 rfl rfl)
theorem dX8_set_58 : decode cX8_set 58 = .ok (.ireturn, 1) := dk_172 (dk_at dksX8_set_2 11 rfl rfl)
abbrev cX8_in : ByteArray := prog_16_method_2_code
def yX8_in : MethodName := ⟨RX8, "in", "(JJJ)Z"⟩
def dkwX8_in_0 : List UInt8 := [30, 32, 148, 155, 0, 14, 30, 22, 4, 148, 157, 0, 7, 4, 167, 0, 4, 3, 172]
abbrev dktX8_in_0 : List UInt8 := dkwX8_in_0 ++ []
theorem dksX8_in_0 : cX8_in.data.toList.drop 0 = dktX8_in_0 := by decide +kernel
theorem dX8_in_0 : decode cX8_in 0 = .ok (.lload_n 0, 1) := dk_30 (dk_at dksX8_in_0 0 rfl rfl)
theorem dX8_in_1 : decode cX8_in 1 = .ok (.lload_n 2, 1) := dk_32 (dk_at dksX8_in_0 1 rfl rfl)
theorem dX8_in_2 : decode cX8_in 2 = .ok (.lcmp, 1) := dk_148 (dk_at dksX8_in_0 2 rfl rfl)
theorem dX8_in_3 : decode cX8_in 3 = .ok (.ifCond .lt 14, 3) := dk_155 0 14 (dk_at dksX8_in_0 3 rfl rfl)
theorem dX8_in_6 : decode cX8_in 6 = .ok (.lload_n 0, 1) := dk_30 (dk_at dksX8_in_0 6 rfl rfl)
theorem dX8_in_7 : decode cX8_in 7 = .ok (.lload 4, 2) := dk_22 4 (dk_at dksX8_in_0 7 rfl rfl)
theorem dX8_in_9 : decode cX8_in 9 = .ok (.lcmp, 1) := dk_148 (dk_at dksX8_in_0 9 rfl rfl)
theorem dX8_in_10 : decode cX8_in 10 = .ok (.ifCond .gt 7, 3) := dk_157 0 7 (dk_at dksX8_in_0 10 rfl rfl)
theorem dX8_in_13 : decode cX8_in 13 = .ok (.iconst 1, 1) := dk_4 (dk_at dksX8_in_0 13 rfl rfl)
theorem dX8_in_14 : decode cX8_in 14 = .ok (.goto 4, 3) := dk_167 0 4 (dk_at dksX8_in_0 14 rfl rfl)
theorem dX8_in_17 : decode cX8_in 17 = .ok (.iconst 0, 1) := dk_3 (dk_at dksX8_in_0 17 rfl rfl)
theorem dX8_in_18 : decode cX8_in 18 = .ok (.ireturn, 1) := dk_172 (dk_at dksX8_in_0 18 rfl rfl)
abbrev cX8_isOne : ByteArray := prog_16_method_6_code
def yX8_isOne : MethodName := ⟨RX8, "isOne", "(I)Z"⟩
def dkwX8_isOne_0 : List UInt8 := [27, 133, 9, 42, 180, 0, 79, 4, 100, 133, 184, 0, 82, 172]
abbrev dktX8_isOne_0 : List UInt8 := dkwX8_isOne_0 ++ []
theorem dksX8_isOne_0 : cX8_isOne.data.toList.drop 0 = dktX8_isOne_0 := by decide +kernel
theorem dX8_isOne_0 : decode cX8_isOne 0 = .ok (.iload_n 1, 1) := dk_27 (dk_at dksX8_isOne_0 0 rfl rfl)
theorem dX8_isOne_1 : decode cX8_isOne 1 = .ok (.i2l, 1) := dk_133 (dk_at dksX8_isOne_0 1 rfl rfl)
theorem dX8_isOne_2 : decode cX8_isOne 2 = .ok (.lconst 0, 1) := dk_9 (dk_at dksX8_isOne_0 2 rfl rfl)
theorem dX8_isOne_3 : decode cX8_isOne 3 = .ok (.aload_n 0, 1) := dk_42 (dk_at dksX8_isOne_0 3 rfl rfl)
theorem dX8_isOne_4 : decode cX8_isOne 4 = .ok (.getfield 79, 3) := dk_180 0 79 (dk_at dksX8_isOne_0 4 rfl rfl)
theorem dX8_isOne_7 : decode cX8_isOne 7 = .ok (.iconst 1, 1) := dk_4 (dk_at dksX8_isOne_0 7 rfl rfl)
theorem dX8_isOne_8 : decode cX8_isOne 8 = .ok (.isub, 1) := dk_100 (dk_at dksX8_isOne_0 8 rfl rfl)
theorem dX8_isOne_9 : decode cX8_isOne 9 = .ok (.i2l, 1) := dk_133 (dk_at dksX8_isOne_0 9 rfl rfl)
theorem dX8_isOne_10 : decode cX8_isOne 10 = .ok (.invokestatic 82, 3) := dk_184 0 82 (dk_at dksX8_isOne_0 10 rfl rfl)
theorem dX8_isOne_13 : decode cX8_isOne 13 = .ok (.ireturn, 1) := dk_172 (dk_at dksX8_isOne_0 13 rfl rfl)
abbrev cX8_mostOf : ByteArray := prog_16_method_9_code
def yX8_mostOf : MethodName := ⟨RX8, "mostOf", "(I)I"⟩
def dkwX8_mostOf_0 : List UInt8 := [26, 154, 0, 8, 16, 23, 167, 0, 15, 26, 4, 160, 0, 8, 16, 9, 167, 0, 5, 16, 7, 172]
abbrev dktX8_mostOf_0 : List UInt8 := dkwX8_mostOf_0 ++ []
theorem dksX8_mostOf_0 : cX8_mostOf.data.toList.drop 0 = dktX8_mostOf_0 := by decide +kernel
theorem dX8_mostOf_0 : decode cX8_mostOf 0 = .ok (.iload_n 0, 1) := dk_26 (dk_at dksX8_mostOf_0 0 rfl rfl)
theorem dX8_mostOf_1 : decode cX8_mostOf 1 = .ok (.ifCond .ne 8, 3) := dk_154 0 8 (dk_at dksX8_mostOf_0 1 rfl rfl)
theorem dX8_mostOf_4 : decode cX8_mostOf 4 = .ok (.bipush 23, 2) := dk_16 23 (dk_at dksX8_mostOf_0 4 rfl rfl)
theorem dX8_mostOf_6 : decode cX8_mostOf 6 = .ok (.goto 15, 3) := dk_167 0 15 (dk_at dksX8_mostOf_0 6 rfl rfl)
theorem dX8_mostOf_9 : decode cX8_mostOf 9 = .ok (.iload_n 0, 1) := dk_26 (dk_at dksX8_mostOf_0 9 rfl rfl)
theorem dX8_mostOf_10 : decode cX8_mostOf 10 = .ok (.iconst 1, 1) := dk_4 (dk_at dksX8_mostOf_0 10 rfl rfl)
theorem dX8_mostOf_11 : decode cX8_mostOf 11 = .ok (.if_icmp .ne 8, 3) := dk_160 0 8 (dk_at dksX8_mostOf_0 11 rfl rfl)
theorem dX8_mostOf_14 : decode cX8_mostOf 14 = .ok (.bipush 9, 2) := dk_16 9 (dk_at dksX8_mostOf_0 14 rfl rfl)
theorem dX8_mostOf_16 : decode cX8_mostOf 16 = .ok (.goto 5, 3) := dk_167 0 5 (dk_at dksX8_mostOf_0 16 rfl rfl)
theorem dX8_mostOf_19 : decode cX8_mostOf 19 = .ok (.bipush 7, 2) := dk_16 7 (dk_at dksX8_mostOf_0 19 rfl rfl)
theorem dX8_mostOf_21 : decode cX8_mostOf 21 = .ok (.ireturn, 1) := dk_172 (dk_at dksX8_mostOf_0 21 rfl rfl)
abbrev cX8_told : ByteArray := prog_16_method_16_code
def yX8_told : MethodName := ⟨RX8, "told", "(II)I"⟩
def dkwX8_told_3 : List UInt8 := [160, 0, 16, 42, 180, 0, 32, 6, 27, 104, 5, 96, 46, 167, 0, 8, 42, 27, 182, 0, 121, 172]
abbrev dktX8_told_3 : List UInt8 := dkwX8_told_3 ++ []
def dkwX8_told_2 : List UInt8 := [27, 104, 28, 96, 4, 100, 46, 172, 28, 6, 160, 0, 12, 42, 180, 0, 29, 27, 46, 167, 0, 26, 28, 7]
abbrev dktX8_told_2 : List UInt8 := dkwX8_told_2 ++ dktX8_told_3
def dkwX8_told_1 : List UInt8 := [16, 254, 172, 28, 6, 162, 0, 27, 28, 154, 0, 10, 42, 180, 0, 23, 167, 0, 15, 42, 180, 0, 32, 6]
abbrev dktX8_told_1 : List UInt8 := dkwX8_told_1 ++ dktX8_told_2
def dkwX8_told_0 : List UInt8 := [28, 133, 9, 20, 0, 117, 184, 0, 82, 153, 0, 15, 28, 158, 0, 14, 42, 27, 182, 0, 86, 154, 0, 6]
abbrev dktX8_told_0 : List UInt8 := dkwX8_told_0 ++ dktX8_told_1
theorem dksX8_told_0 : cX8_told.data.toList.drop 0 = dktX8_told_0 := by decide +kernel
theorem dksX8_told_1 : cX8_told.data.toList.drop 24 = dktX8_told_1 := dk_seg dksX8_told_0 24 rfl rfl
theorem dksX8_told_2 : cX8_told.data.toList.drop 48 = dktX8_told_2 := dk_seg dksX8_told_1 24 rfl rfl
theorem dksX8_told_3 : cX8_told.data.toList.drop 72 = dktX8_told_3 := dk_seg dksX8_told_2 24 rfl rfl
theorem dX8_told_0 : decode cX8_told 0 = .ok (.iload_n 2, 1) := dk_28 (dk_at dksX8_told_0 0 rfl rfl)
theorem dX8_told_1 : decode cX8_told 1 = .ok (.i2l, 1) := dk_133 (dk_at dksX8_told_0 1 rfl rfl)
theorem dX8_told_2 : decode cX8_told 2 = .ok (.lconst 0, 1) := dk_9 (dk_at dksX8_told_0 2 rfl rfl)
theorem dX8_told_3 : decode cX8_told 3 = .ok (.ldc2_w 117, 3) := dk_20 0 117 (dk_at dksX8_told_0 3 rfl rfl)
theorem dX8_told_6 : decode cX8_told 6 = .ok (.invokestatic 82, 3) := dk_184 0 82 (dk_at dksX8_told_0 6 rfl rfl)
theorem dX8_told_9 : decode cX8_told 9 = .ok (.ifCond .eq 15, 3) := dk_153 0 15 (dk_at dksX8_told_0 9 rfl rfl)
theorem dX8_told_12 : decode cX8_told 12 = .ok (.iload_n 2, 1) := dk_28 (dk_at dksX8_told_0 12 rfl rfl)
theorem dX8_told_13 : decode cX8_told 13 = .ok (.ifCond .le 14, 3) := dk_158 0 14 (dk_at dksX8_told_0 13 rfl rfl)
theorem dX8_told_16 : decode cX8_told 16 = .ok (.aload_n 0, 1) := dk_42 (dk_at dksX8_told_0 16 rfl rfl)
theorem dX8_told_17 : decode cX8_told 17 = .ok (.iload_n 1, 1) := dk_27 (dk_at dksX8_told_0 17 rfl rfl)
theorem dX8_told_18 : decode cX8_told 18 = .ok (.invokevirtual 86, 3) := dk_182 0 86 (dk_at dksX8_told_0 18 rfl rfl)
theorem dX8_told_21 : decode cX8_told 21 = .ok (.ifCond .ne 6, 3) := dk_154 0 6 (dk_at dksX8_told_0 21 rfl rfl)
theorem dX8_told_24 : decode cX8_told 24 = .ok (.bipush (-2), 2) := dk_16 254 (dk_at dksX8_told_1 0 rfl rfl)
theorem dX8_told_26 : decode cX8_told 26 = .ok (.ireturn, 1) := dk_172 (dk_at dksX8_told_1 2 rfl rfl)
theorem dX8_told_27 : decode cX8_told 27 = .ok (.iload_n 2, 1) := dk_28 (dk_at dksX8_told_1 3 rfl rfl)
theorem dX8_told_28 : decode cX8_told 28 = .ok (.iconst 3, 1) := dk_6 (dk_at dksX8_told_1 4 rfl rfl)
theorem dX8_told_29 : decode cX8_told 29 = .ok (.if_icmp .ge 27, 3) := dk_162 0 27 (dk_at dksX8_told_1 5 rfl rfl)
theorem dX8_told_32 : decode cX8_told 32 = .ok (.iload_n 2, 1) := dk_28 (dk_at dksX8_told_1 8 rfl rfl)
theorem dX8_told_33 : decode cX8_told 33 = .ok (.ifCond .ne 10, 3) := dk_154 0 10 (dk_at dksX8_told_1 9 rfl rfl)
theorem dX8_told_36 : decode cX8_told 36 = .ok (.aload_n 0, 1) := dk_42 (dk_at dksX8_told_1 12 rfl rfl)
theorem dX8_told_37 : decode cX8_told 37 = .ok (.getfield 23, 3) := dk_180 0 23 (dk_at dksX8_told_1 13 rfl rfl)
theorem dX8_told_40 : decode cX8_told 40 = .ok (.goto 15, 3) := dk_167 0 15 (dk_at dksX8_told_1 16 rfl rfl)
theorem dX8_told_43 : decode cX8_told 43 = .ok (.aload_n 0, 1) := dk_42 (dk_at dksX8_told_1 19 rfl rfl)
theorem dX8_told_44 : decode cX8_told 44 = .ok (.getfield 32, 3) := dk_180 0 32 (dk_at dksX8_told_1 20 rfl rfl)
theorem dX8_told_47 : decode cX8_told 47 = .ok (.iconst 3, 1) := dk_6 (dk_at dksX8_told_1 23 rfl rfl)
theorem dX8_told_48 : decode cX8_told 48 = .ok (.iload_n 1, 1) := dk_27 (dk_at dksX8_told_2 0 rfl rfl)
theorem dX8_told_49 : decode cX8_told 49 = .ok (.imul, 1) := dk_104 (dk_at dksX8_told_2 1 rfl rfl)
theorem dX8_told_50 : decode cX8_told 50 = .ok (.iload_n 2, 1) := dk_28 (dk_at dksX8_told_2 2 rfl rfl)
theorem dX8_told_51 : decode cX8_told 51 = .ok (.iadd, 1) := dk_96 (dk_at dksX8_told_2 3 rfl rfl)
theorem dX8_told_52 : decode cX8_told 52 = .ok (.iconst 1, 1) := dk_4 (dk_at dksX8_told_2 4 rfl rfl)
theorem dX8_told_53 : decode cX8_told 53 = .ok (.isub, 1) := dk_100 (dk_at dksX8_told_2 5 rfl rfl)
theorem dX8_told_54 : decode cX8_told 54 = .ok (.iaload, 1) := dk_46 (dk_at dksX8_told_2 6 rfl rfl)
theorem dX8_told_55 : decode cX8_told 55 = .ok (.ireturn, 1) := dk_172 (dk_at dksX8_told_2 7 rfl rfl)
theorem dX8_told_56 : decode cX8_told 56 = .ok (.iload_n 2, 1) := dk_28 (dk_at dksX8_told_2 8 rfl rfl)
theorem dX8_told_57 : decode cX8_told 57 = .ok (.iconst 3, 1) := dk_6 (dk_at dksX8_told_2 9 rfl rfl)
theorem dX8_told_58 : decode cX8_told 58 = .ok (.if_icmp .ne 12, 3) := dk_160 0 12 (dk_at dksX8_told_2 10 rfl rfl)
theorem dX8_told_61 : decode cX8_told 61 = .ok (.aload_n 0, 1) := dk_42 (dk_at dksX8_told_2 13 rfl rfl)
theorem dX8_told_62 : decode cX8_told 62 = .ok (.getfield 29, 3) := dk_180 0 29 (dk_at dksX8_told_2 14 rfl rfl)
theorem dX8_told_65 : decode cX8_told 65 = .ok (.iload_n 1, 1) := dk_27 (dk_at dksX8_told_2 17 rfl rfl)
theorem dX8_told_66 : decode cX8_told 66 = .ok (.iaload, 1) := dk_46 (dk_at dksX8_told_2 18 rfl rfl)
theorem dX8_told_67 : decode cX8_told 67 = .ok (.goto 26, 3) := dk_167 0 26 (dk_at dksX8_told_2 19 rfl rfl)
theorem dX8_told_70 : decode cX8_told 70 = .ok (.iload_n 2, 1) := dk_28 (dk_at dksX8_told_2 22 rfl rfl)
theorem dX8_told_71 : decode cX8_told 71 = .ok (.iconst 4, 1) := dk_7 (dk_at dksX8_told_2 23 rfl rfl)
theorem dX8_told_72 : decode cX8_told 72 = .ok (.if_icmp .ne 16, 3) := dk_160 0 16 (dk_at dksX8_told_3 0 rfl rfl)
theorem dX8_told_75 : decode cX8_told 75 = .ok (.aload_n 0, 1) := dk_42 (dk_at dksX8_told_3 3 rfl rfl)
theorem dX8_told_76 : decode cX8_told 76 = .ok (.getfield 32, 3) := dk_180 0 32 (dk_at dksX8_told_3 4 rfl rfl)
theorem dX8_told_79 : decode cX8_told 79 = .ok (.iconst 3, 1) := dk_6 (dk_at dksX8_told_3 7 rfl rfl)
theorem dX8_told_80 : decode cX8_told 80 = .ok (.iload_n 1, 1) := dk_27 (dk_at dksX8_told_3 8 rfl rfl)
theorem dX8_told_81 : decode cX8_told 81 = .ok (.imul, 1) := dk_104 (dk_at dksX8_told_3 9 rfl rfl)
theorem dX8_told_82 : decode cX8_told 82 = .ok (.iconst 2, 1) := dk_5 (dk_at dksX8_told_3 10 rfl rfl)
theorem dX8_told_83 : decode cX8_told 83 = .ok (.iadd, 1) := dk_96 (dk_at dksX8_told_3 11 rfl rfl)
theorem dX8_told_84 : decode cX8_told 84 = .ok (.iaload, 1) := dk_46 (dk_at dksX8_told_3 12 rfl rfl)
theorem dX8_told_85 : decode cX8_told 85 = .ok (.goto 8, 3) := dk_167 0 8 (dk_at dksX8_told_3 13 rfl rfl)
theorem dX8_told_88 : decode cX8_told 88 = .ok (.aload_n 0, 1) := dk_42 (dk_at dksX8_told_3 16 rfl rfl)
theorem dX8_told_89 : decode cX8_told 89 = .ok (.iload_n 1, 1) := dk_27 (dk_at dksX8_told_3 17 rfl rfl)
theorem dX8_told_90 : decode cX8_told 90 = .ok (.invokevirtual 121, 3) := dk_182 0 121 (dk_at dksX8_told_3 18 rfl rfl)
theorem dX8_told_93 : decode cX8_told 93 = .ok (.ireturn, 1) := dk_172 (dk_at dksX8_told_3 21 rfl rfl)
abbrev cX8_rulesOf : ByteArray := prog_16_method_90_code
def yX8_rulesOf : MethodName := ⟨RX8, "rulesOf", "(I)I"⟩
def dkwX8_rulesOf_3 : List UInt8 := [167, 0, 4, 3, 29, 120, 128, 61, 132, 3, 1, 167, 255, 181, 28, 172]
abbrev dktX8_rulesOf_3 : List UInt8 := dkwX8_rulesOf_3 ++ []
def dkwX8_rulesOf_2 : List UInt8 := [167, 0, 4, 3, 96, 54, 4, 132, 5, 1, 167, 255, 218, 28, 21, 4, 16, 8, 160, 0, 7, 4]
abbrev dktX8_rulesOf_2 : List UInt8 := dkwX8_rulesOf_2 ++ dktX8_rulesOf_3
def dkwX8_rulesOf_1 : List UInt8 := [162, 0, 37, 29, 27, 159, 0, 32, 21, 4, 42, 29, 27, 21, 5, 3, 182, 1, 108, 27, 160, 0, 7, 4]
abbrev dktX8_rulesOf_1 : List UInt8 := dkwX8_rulesOf_1 ++ dktX8_rulesOf_2
def dkwX8_rulesOf_0 : List UInt8 := [3, 61, 3, 62, 29, 42, 180, 0, 79, 162, 0, 73, 3, 54, 4, 3, 54, 5, 21, 5, 16, 8]
abbrev dktX8_rulesOf_0 : List UInt8 := dkwX8_rulesOf_0 ++ dktX8_rulesOf_1
theorem dksX8_rulesOf_0 : cX8_rulesOf.data.toList.drop 0 = dktX8_rulesOf_0 := by decide +kernel
theorem dksX8_rulesOf_1 : cX8_rulesOf.data.toList.drop 22 = dktX8_rulesOf_1 := dk_seg dksX8_rulesOf_0 22 rfl rfl
theorem dksX8_rulesOf_2 : cX8_rulesOf.data.toList.drop 46 = dktX8_rulesOf_2 := dk_seg dksX8_rulesOf_1 24 rfl rfl
theorem dksX8_rulesOf_3 : cX8_rulesOf.data.toList.drop 68 = dktX8_rulesOf_3 := dk_seg dksX8_rulesOf_2 22 rfl rfl
theorem dX8_rulesOf_0 : decode cX8_rulesOf 0 = .ok (.iconst 0, 1) := dk_3 (dk_at dksX8_rulesOf_0 0 rfl rfl)
theorem dX8_rulesOf_1 : decode cX8_rulesOf 1 = .ok (.istore_n 2, 1) := dk_61 (dk_at dksX8_rulesOf_0 1 rfl rfl)
theorem dX8_rulesOf_2 : decode cX8_rulesOf 2 = .ok (.iconst 0, 1) := dk_3 (dk_at dksX8_rulesOf_0 2 rfl rfl)
theorem dX8_rulesOf_3 : decode cX8_rulesOf 3 = .ok (.istore_n 3, 1) := dk_62 (dk_at dksX8_rulesOf_0 3 rfl rfl)
theorem dX8_rulesOf_4 : decode cX8_rulesOf 4 = .ok (.iload_n 3, 1) := dk_29 (dk_at dksX8_rulesOf_0 4 rfl rfl)
theorem dX8_rulesOf_5 : decode cX8_rulesOf 5 = .ok (.aload_n 0, 1) := dk_42 (dk_at dksX8_rulesOf_0 5 rfl rfl)
theorem dX8_rulesOf_6 : decode cX8_rulesOf 6 = .ok (.getfield 79, 3) := dk_180 0 79 (dk_at dksX8_rulesOf_0 6 rfl rfl)
theorem dX8_rulesOf_9 : decode cX8_rulesOf 9 = .ok (.if_icmp .ge 73, 3) := dk_162 0 73 (dk_at dksX8_rulesOf_0 9 rfl rfl)
theorem dX8_rulesOf_12 : decode cX8_rulesOf 12 = .ok (.iconst 0, 1) := dk_3 (dk_at dksX8_rulesOf_0 12 rfl rfl)
theorem dX8_rulesOf_13 : decode cX8_rulesOf 13 = .ok (.istore 4, 2) := dk_54 4 (dk_at dksX8_rulesOf_0 13 rfl rfl)
theorem dX8_rulesOf_15 : decode cX8_rulesOf 15 = .ok (.iconst 0, 1) := dk_3 (dk_at dksX8_rulesOf_0 15 rfl rfl)
theorem dX8_rulesOf_16 : decode cX8_rulesOf 16 = .ok (.istore 5, 2) := dk_54 5 (dk_at dksX8_rulesOf_0 16 rfl rfl)
theorem dX8_rulesOf_18 : decode cX8_rulesOf 18 = .ok (.iload 5, 2) := dk_21 5 (dk_at dksX8_rulesOf_0 18 rfl rfl)
theorem dX8_rulesOf_20 : decode cX8_rulesOf 20 = .ok (.bipush 8, 2) := dk_16 8 (dk_at dksX8_rulesOf_0 20 rfl rfl)
theorem dX8_rulesOf_22 : decode cX8_rulesOf 22 = .ok (.if_icmp .ge 37, 3) := dk_162 0 37 (dk_at dksX8_rulesOf_1 0 rfl rfl)
theorem dX8_rulesOf_25 : decode cX8_rulesOf 25 = .ok (.iload_n 3, 1) := dk_29 (dk_at dksX8_rulesOf_1 3 rfl rfl)
theorem dX8_rulesOf_26 : decode cX8_rulesOf 26 = .ok (.iload_n 1, 1) := dk_27 (dk_at dksX8_rulesOf_1 4 rfl rfl)
theorem dX8_rulesOf_27 : decode cX8_rulesOf 27 = .ok (.if_icmp .eq 32, 3) := dk_159 0 32 (dk_at dksX8_rulesOf_1 5 rfl rfl)
theorem dX8_rulesOf_30 : decode cX8_rulesOf 30 = .ok (.iload 4, 2) := dk_21 4 (dk_at dksX8_rulesOf_1 8 rfl rfl)
theorem dX8_rulesOf_32 : decode cX8_rulesOf 32 = .ok (.aload_n 0, 1) := dk_42 (dk_at dksX8_rulesOf_1 10 rfl rfl)
theorem dX8_rulesOf_33 : decode cX8_rulesOf 33 = .ok (.iload_n 3, 1) := dk_29 (dk_at dksX8_rulesOf_1 11 rfl rfl)
theorem dX8_rulesOf_34 : decode cX8_rulesOf 34 = .ok (.iload_n 1, 1) := dk_27 (dk_at dksX8_rulesOf_1 12 rfl rfl)
theorem dX8_rulesOf_35 : decode cX8_rulesOf 35 = .ok (.iload 5, 2) := dk_21 5 (dk_at dksX8_rulesOf_1 13 rfl rfl)
theorem dX8_rulesOf_37 : decode cX8_rulesOf 37 = .ok (.iconst 0, 1) := dk_3 (dk_at dksX8_rulesOf_1 15 rfl rfl)
theorem dX8_rulesOf_38 : decode cX8_rulesOf 38 = .ok (.invokevirtual 364, 3) := dk_182 1 108 (dk_at dksX8_rulesOf_1 16 rfl rfl)
theorem dX8_rulesOf_41 : decode cX8_rulesOf 41 = .ok (.iload_n 1, 1) := dk_27 (dk_at dksX8_rulesOf_1 19 rfl rfl)
theorem dX8_rulesOf_42 : decode cX8_rulesOf 42 = .ok (.if_icmp .ne 7, 3) := dk_160 0 7 (dk_at dksX8_rulesOf_1 20 rfl rfl)
theorem dX8_rulesOf_45 : decode cX8_rulesOf 45 = .ok (.iconst 1, 1) := dk_4 (dk_at dksX8_rulesOf_1 23 rfl rfl)
theorem dX8_rulesOf_46 : decode cX8_rulesOf 46 = .ok (.goto 4, 3) := dk_167 0 4 (dk_at dksX8_rulesOf_2 0 rfl rfl)
theorem dX8_rulesOf_49 : decode cX8_rulesOf 49 = .ok (.iconst 0, 1) := dk_3 (dk_at dksX8_rulesOf_2 3 rfl rfl)
theorem dX8_rulesOf_50 : decode cX8_rulesOf 50 = .ok (.iadd, 1) := dk_96 (dk_at dksX8_rulesOf_2 4 rfl rfl)
theorem dX8_rulesOf_51 : decode cX8_rulesOf 51 = .ok (.istore 4, 2) := dk_54 4 (dk_at dksX8_rulesOf_2 5 rfl rfl)
theorem dX8_rulesOf_53 : decode cX8_rulesOf 53 = .ok (.iinc 5 1, 3) := dk_132 5 1 (dk_at dksX8_rulesOf_2 7 rfl rfl)
theorem dX8_rulesOf_56 : decode cX8_rulesOf 56 = .ok (.goto (-38), 3) := dk_167 255 218 (dk_at dksX8_rulesOf_2 10 rfl rfl)
theorem dX8_rulesOf_59 : decode cX8_rulesOf 59 = .ok (.iload_n 2, 1) := dk_28 (dk_at dksX8_rulesOf_2 13 rfl rfl)
theorem dX8_rulesOf_60 : decode cX8_rulesOf 60 = .ok (.iload 4, 2) := dk_21 4 (dk_at dksX8_rulesOf_2 14 rfl rfl)
theorem dX8_rulesOf_62 : decode cX8_rulesOf 62 = .ok (.bipush 8, 2) := dk_16 8 (dk_at dksX8_rulesOf_2 16 rfl rfl)
theorem dX8_rulesOf_64 : decode cX8_rulesOf 64 = .ok (.if_icmp .ne 7, 3) := dk_160 0 7 (dk_at dksX8_rulesOf_2 18 rfl rfl)
theorem dX8_rulesOf_67 : decode cX8_rulesOf 67 = .ok (.iconst 1, 1) := dk_4 (dk_at dksX8_rulesOf_2 21 rfl rfl)
theorem dX8_rulesOf_68 : decode cX8_rulesOf 68 = .ok (.goto 4, 3) := dk_167 0 4 (dk_at dksX8_rulesOf_3 0 rfl rfl)
theorem dX8_rulesOf_71 : decode cX8_rulesOf 71 = .ok (.iconst 0, 1) := dk_3 (dk_at dksX8_rulesOf_3 3 rfl rfl)
theorem dX8_rulesOf_72 : decode cX8_rulesOf 72 = .ok (.iload_n 3, 1) := dk_29 (dk_at dksX8_rulesOf_3 4 rfl rfl)
theorem dX8_rulesOf_73 : decode cX8_rulesOf 73 = .ok (.ishl, 1) := dk_120 (dk_at dksX8_rulesOf_3 5 rfl rfl)
theorem dX8_rulesOf_74 : decode cX8_rulesOf 74 = .ok (.ior, 1) := dk_128 (dk_at dksX8_rulesOf_3 6 rfl rfl)
theorem dX8_rulesOf_75 : decode cX8_rulesOf 75 = .ok (.istore_n 2, 1) := dk_61 (dk_at dksX8_rulesOf_3 7 rfl rfl)
theorem dX8_rulesOf_76 : decode cX8_rulesOf 76 = .ok (.iinc 3 1, 3) := dk_132 3 1 (dk_at dksX8_rulesOf_3 8 rfl rfl)
theorem dX8_rulesOf_79 : decode cX8_rulesOf 79 = .ok (.goto (-75), 3) := dk_167 255 181 (dk_at dksX8_rulesOf_3 11 rfl rfl)
theorem dX8_rulesOf_82 : decode cX8_rulesOf 82 = .ok (.iload_n 2, 1) := dk_28 (dk_at dksX8_rulesOf_3 14 rfl rfl)
theorem dX8_rulesOf_83 : decode cX8_rulesOf 83 = .ok (.ireturn, 1) := dk_172 (dk_at dksX8_rulesOf_3 15 rfl rfl)
abbrev cX8_steersOf : ByteArray := prog_16_method_71_code
def yX8_steersOf : MethodName := ⟨RX8, "steersOf", "(IIII)I"⟩
def dkwX8_steersOf_2 : List UInt8 := [21, 5, 164, 0, 7, 28, 167, 0, 4, 27, 172]
abbrev dktX8_steersOf_2 : List UInt8 := dkwX8_steersOf_2 ++ []
def dkwX8_steersOf_1 : List UInt8 := [28, 27, 4, 29, 21, 4, 182, 1, 88, 42, 28, 27, 4, 29, 21, 4, 182, 1, 92, 96, 54, 6, 21, 6]
abbrev dktX8_steersOf_1 : List UInt8 := dkwX8_steersOf_1 ++ dktX8_steersOf_2
def dkwX8_steersOf_0 : List UInt8 := [42, 27, 28, 3, 29, 21, 4, 182, 1, 88, 42, 27, 28, 3, 29, 21, 4, 182, 1, 92, 96, 54, 5, 42]
abbrev dktX8_steersOf_0 : List UInt8 := dkwX8_steersOf_0 ++ dktX8_steersOf_1
theorem dksX8_steersOf_0 : cX8_steersOf.data.toList.drop 0 = dktX8_steersOf_0 := by decide +kernel
theorem dksX8_steersOf_1 : cX8_steersOf.data.toList.drop 24 = dktX8_steersOf_1 := dk_seg dksX8_steersOf_0 24 rfl rfl
theorem dksX8_steersOf_2 : cX8_steersOf.data.toList.drop 48 = dktX8_steersOf_2 := dk_seg dksX8_steersOf_1 24 rfl rfl
theorem dX8_steersOf_0 : decode cX8_steersOf 0 = .ok (.aload_n 0, 1) := dk_42 (dk_at dksX8_steersOf_0 0 rfl rfl)
theorem dX8_steersOf_1 : decode cX8_steersOf 1 = .ok (.iload_n 1, 1) := dk_27 (dk_at dksX8_steersOf_0 1 rfl rfl)
theorem dX8_steersOf_2 : decode cX8_steersOf 2 = .ok (.iload_n 2, 1) := dk_28 (dk_at dksX8_steersOf_0 2 rfl rfl)
theorem dX8_steersOf_3 : decode cX8_steersOf 3 = .ok (.iconst 0, 1) := dk_3 (dk_at dksX8_steersOf_0 3 rfl rfl)
theorem dX8_steersOf_4 : decode cX8_steersOf 4 = .ok (.iload_n 3, 1) := dk_29 (dk_at dksX8_steersOf_0 4 rfl rfl)
theorem dX8_steersOf_5 : decode cX8_steersOf 5 = .ok (.iload 4, 2) := dk_21 4 (dk_at dksX8_steersOf_0 5 rfl rfl)
theorem dX8_steersOf_7 : decode cX8_steersOf 7 = .ok (.invokevirtual 344, 3) := dk_182 1 88 (dk_at dksX8_steersOf_0 7 rfl rfl)
theorem dX8_steersOf_10 : decode cX8_steersOf 10 = .ok (.aload_n 0, 1) := dk_42 (dk_at dksX8_steersOf_0 10 rfl rfl)
theorem dX8_steersOf_11 : decode cX8_steersOf 11 = .ok (.iload_n 1, 1) := dk_27 (dk_at dksX8_steersOf_0 11 rfl rfl)
theorem dX8_steersOf_12 : decode cX8_steersOf 12 = .ok (.iload_n 2, 1) := dk_28 (dk_at dksX8_steersOf_0 12 rfl rfl)
theorem dX8_steersOf_13 : decode cX8_steersOf 13 = .ok (.iconst 0, 1) := dk_3 (dk_at dksX8_steersOf_0 13 rfl rfl)
theorem dX8_steersOf_14 : decode cX8_steersOf 14 = .ok (.iload_n 3, 1) := dk_29 (dk_at dksX8_steersOf_0 14 rfl rfl)
theorem dX8_steersOf_15 : decode cX8_steersOf 15 = .ok (.iload 4, 2) := dk_21 4 (dk_at dksX8_steersOf_0 15 rfl rfl)
theorem dX8_steersOf_17 : decode cX8_steersOf 17 = .ok (.invokevirtual 348, 3) := dk_182 1 92 (dk_at dksX8_steersOf_0 17 rfl rfl)
theorem dX8_steersOf_20 : decode cX8_steersOf 20 = .ok (.iadd, 1) := dk_96 (dk_at dksX8_steersOf_0 20 rfl rfl)
theorem dX8_steersOf_21 : decode cX8_steersOf 21 = .ok (.istore 5, 2) := dk_54 5 (dk_at dksX8_steersOf_0 21 rfl rfl)
theorem dX8_steersOf_23 : decode cX8_steersOf 23 = .ok (.aload_n 0, 1) := dk_42 (dk_at dksX8_steersOf_0 23 rfl rfl)
theorem dX8_steersOf_24 : decode cX8_steersOf 24 = .ok (.iload_n 2, 1) := dk_28 (dk_at dksX8_steersOf_1 0 rfl rfl)
theorem dX8_steersOf_25 : decode cX8_steersOf 25 = .ok (.iload_n 1, 1) := dk_27 (dk_at dksX8_steersOf_1 1 rfl rfl)
theorem dX8_steersOf_26 : decode cX8_steersOf 26 = .ok (.iconst 1, 1) := dk_4 (dk_at dksX8_steersOf_1 2 rfl rfl)
theorem dX8_steersOf_27 : decode cX8_steersOf 27 = .ok (.iload_n 3, 1) := dk_29 (dk_at dksX8_steersOf_1 3 rfl rfl)
theorem dX8_steersOf_28 : decode cX8_steersOf 28 = .ok (.iload 4, 2) := dk_21 4 (dk_at dksX8_steersOf_1 4 rfl rfl)
theorem dX8_steersOf_30 : decode cX8_steersOf 30 = .ok (.invokevirtual 344, 3) := dk_182 1 88 (dk_at dksX8_steersOf_1 6 rfl rfl)
theorem dX8_steersOf_33 : decode cX8_steersOf 33 = .ok (.aload_n 0, 1) := dk_42 (dk_at dksX8_steersOf_1 9 rfl rfl)
theorem dX8_steersOf_34 : decode cX8_steersOf 34 = .ok (.iload_n 2, 1) := dk_28 (dk_at dksX8_steersOf_1 10 rfl rfl)
theorem dX8_steersOf_35 : decode cX8_steersOf 35 = .ok (.iload_n 1, 1) := dk_27 (dk_at dksX8_steersOf_1 11 rfl rfl)
theorem dX8_steersOf_36 : decode cX8_steersOf 36 = .ok (.iconst 1, 1) := dk_4 (dk_at dksX8_steersOf_1 12 rfl rfl)
theorem dX8_steersOf_37 : decode cX8_steersOf 37 = .ok (.iload_n 3, 1) := dk_29 (dk_at dksX8_steersOf_1 13 rfl rfl)
theorem dX8_steersOf_38 : decode cX8_steersOf 38 = .ok (.iload 4, 2) := dk_21 4 (dk_at dksX8_steersOf_1 14 rfl rfl)
theorem dX8_steersOf_40 : decode cX8_steersOf 40 = .ok (.invokevirtual 348, 3) := dk_182 1 92 (dk_at dksX8_steersOf_1 16 rfl rfl)
theorem dX8_steersOf_43 : decode cX8_steersOf 43 = .ok (.iadd, 1) := dk_96 (dk_at dksX8_steersOf_1 19 rfl rfl)
theorem dX8_steersOf_44 : decode cX8_steersOf 44 = .ok (.istore 6, 2) := dk_54 6 (dk_at dksX8_steersOf_1 20 rfl rfl)
theorem dX8_steersOf_46 : decode cX8_steersOf 46 = .ok (.iload 6, 2) := dk_21 6 (dk_at dksX8_steersOf_1 22 rfl rfl)
theorem dX8_steersOf_48 : decode cX8_steersOf 48 = .ok (.iload 5, 2) := dk_21 5 (dk_at dksX8_steersOf_2 0 rfl rfl)
theorem dX8_steersOf_50 : decode cX8_steersOf 50 = .ok (.if_icmp .le 7, 3) := dk_164 0 7 (dk_at dksX8_steersOf_2 2 rfl rfl)
theorem dX8_steersOf_53 : decode cX8_steersOf 53 = .ok (.iload_n 2, 1) := dk_28 (dk_at dksX8_steersOf_2 5 rfl rfl)
theorem dX8_steersOf_54 : decode cX8_steersOf 54 = .ok (.goto 4, 3) := dk_167 0 4 (dk_at dksX8_steersOf_2 6 rfl rfl)
theorem dX8_steersOf_57 : decode cX8_steersOf 57 = .ok (.iload_n 1, 1) := dk_27 (dk_at dksX8_steersOf_2 9 rfl rfl)
theorem dX8_steersOf_58 : decode cX8_steersOf 58 = .ok (.ireturn, 1) := dk_172 (dk_at dksX8_steersOf_2 10 rfl rfl)
abbrev cX8_pullOf : ByteArray := prog_16_method_68_code
def yX8_pullOf : MethodName := ⟨RX8, "pullOf", "(IIZII)I"⟩
def dkwX8_pullOf_6 : List UInt8 := [167, 0, 5, 21, 7, 3, 17, 3, 231, 184, 1, 80, 172]
abbrev dktX8_pullOf_6 : List UInt8 := dkwX8_pullOf_6 ++ []
def dkwX8_pullOf_5 : List UInt8 := [96, 167, 0, 28, 21, 6, 7, 160, 0, 20, 21, 7, 42, 180, 0, 32, 6, 27, 104, 46, 96, 16, 10, 96]
abbrev dktX8_pullOf_5 : List UInt8 := dkwX8_pullOf_5 ++ dktX8_pullOf_6
def dkwX8_pullOf_4 : List UInt8 := [167, 0, 53, 21, 8, 167, 0, 48, 21, 6, 5, 160, 0, 17, 21, 7, 42, 180, 0, 32, 6, 27, 104, 46]
abbrev dktX8_pullOf_4 : List UInt8 := dkwX8_pullOf_4 ++ dktX8_pullOf_5
def dkwX8_pullOf_3 : List UInt8 := [21, 8, 167, 0, 75, 21, 6, 6, 160, 0, 24, 42, 180, 0, 23, 16, 12, 162, 0, 10, 5, 21, 8, 104]
abbrev dktX8_pullOf_3 : List UInt8 := dkwX8_pullOf_3 ++ dktX8_pullOf_4
def dkwX8_pullOf_2 : List UInt8 := [54, 7, 29, 153, 0, 10, 21, 7, 5, 108, 167, 0, 5, 21, 7, 54, 8, 21, 6, 4, 160, 0, 8]
abbrev dktX8_pullOf_2 : List UInt8 := dkwX8_pullOf_2 ++ dktX8_pullOf_3
def dkwX8_pullOf_1 : List UInt8 := [21, 6, 8, 160, 0, 7, 4, 167, 0, 4, 3, 172, 42, 3, 27, 28, 29, 21, 4, 21, 5, 182, 1, 84]
abbrev dktX8_pullOf_1 : List UInt8 := dkwX8_pullOf_1 ++ dktX8_pullOf_2
def dkwX8_pullOf_0 : List UInt8 := [42, 180, 0, 29, 27, 46, 54, 6, 21, 6, 8, 159, 0, 13, 21, 6, 7, 160, 0, 19, 29, 154, 0, 15]
abbrev dktX8_pullOf_0 : List UInt8 := dkwX8_pullOf_0 ++ dktX8_pullOf_1
theorem dksX8_pullOf_0 : cX8_pullOf.data.toList.drop 0 = dktX8_pullOf_0 := by decide +kernel
theorem dksX8_pullOf_1 : cX8_pullOf.data.toList.drop 24 = dktX8_pullOf_1 := dk_seg dksX8_pullOf_0 24 rfl rfl
theorem dksX8_pullOf_2 : cX8_pullOf.data.toList.drop 48 = dktX8_pullOf_2 := dk_seg dksX8_pullOf_1 24 rfl rfl
theorem dksX8_pullOf_3 : cX8_pullOf.data.toList.drop 71 = dktX8_pullOf_3 := dk_seg dksX8_pullOf_2 23 rfl rfl
theorem dksX8_pullOf_4 : cX8_pullOf.data.toList.drop 95 = dktX8_pullOf_4 := dk_seg dksX8_pullOf_3 24 rfl rfl
theorem dksX8_pullOf_5 : cX8_pullOf.data.toList.drop 119 = dktX8_pullOf_5 := dk_seg dksX8_pullOf_4 24 rfl rfl
theorem dksX8_pullOf_6 : cX8_pullOf.data.toList.drop 143 = dktX8_pullOf_6 := dk_seg dksX8_pullOf_5 24 rfl rfl
theorem dX8_pullOf_0 : decode cX8_pullOf 0 = .ok (.aload_n 0, 1) := dk_42 (dk_at dksX8_pullOf_0 0 rfl rfl)
theorem dX8_pullOf_1 : decode cX8_pullOf 1 = .ok (.getfield 29, 3) := dk_180 0 29 (dk_at dksX8_pullOf_0 1 rfl rfl)
theorem dX8_pullOf_4 : decode cX8_pullOf 4 = .ok (.iload_n 1, 1) := dk_27 (dk_at dksX8_pullOf_0 4 rfl rfl)
theorem dX8_pullOf_5 : decode cX8_pullOf 5 = .ok (.iaload, 1) := dk_46 (dk_at dksX8_pullOf_0 5 rfl rfl)
theorem dX8_pullOf_6 : decode cX8_pullOf 6 = .ok (.istore 6, 2) := dk_54 6 (dk_at dksX8_pullOf_0 6 rfl rfl)
theorem dX8_pullOf_8 : decode cX8_pullOf 8 = .ok (.iload 6, 2) := dk_21 6 (dk_at dksX8_pullOf_0 8 rfl rfl)
theorem dX8_pullOf_10 : decode cX8_pullOf 10 = .ok (.iconst 5, 1) := dk_8 (dk_at dksX8_pullOf_0 10 rfl rfl)
theorem dX8_pullOf_11 : decode cX8_pullOf 11 = .ok (.if_icmp .eq 13, 3) := dk_159 0 13 (dk_at dksX8_pullOf_0 11 rfl rfl)
theorem dX8_pullOf_14 : decode cX8_pullOf 14 = .ok (.iload 6, 2) := dk_21 6 (dk_at dksX8_pullOf_0 14 rfl rfl)
theorem dX8_pullOf_16 : decode cX8_pullOf 16 = .ok (.iconst 4, 1) := dk_7 (dk_at dksX8_pullOf_0 16 rfl rfl)
theorem dX8_pullOf_17 : decode cX8_pullOf 17 = .ok (.if_icmp .ne 19, 3) := dk_160 0 19 (dk_at dksX8_pullOf_0 17 rfl rfl)
theorem dX8_pullOf_20 : decode cX8_pullOf 20 = .ok (.iload_n 3, 1) := dk_29 (dk_at dksX8_pullOf_0 20 rfl rfl)
theorem dX8_pullOf_21 : decode cX8_pullOf 21 = .ok (.ifCond .ne 15, 3) := dk_154 0 15 (dk_at dksX8_pullOf_0 21 rfl rfl)
theorem dX8_pullOf_24 : decode cX8_pullOf 24 = .ok (.iload 6, 2) := dk_21 6 (dk_at dksX8_pullOf_1 0 rfl rfl)
theorem dX8_pullOf_26 : decode cX8_pullOf 26 = .ok (.iconst 5, 1) := dk_8 (dk_at dksX8_pullOf_1 2 rfl rfl)
theorem dX8_pullOf_27 : decode cX8_pullOf 27 = .ok (.if_icmp .ne 7, 3) := dk_160 0 7 (dk_at dksX8_pullOf_1 3 rfl rfl)
theorem dX8_pullOf_30 : decode cX8_pullOf 30 = .ok (.iconst 1, 1) := dk_4 (dk_at dksX8_pullOf_1 6 rfl rfl)
theorem dX8_pullOf_31 : decode cX8_pullOf 31 = .ok (.goto 4, 3) := dk_167 0 4 (dk_at dksX8_pullOf_1 7 rfl rfl)
theorem dX8_pullOf_34 : decode cX8_pullOf 34 = .ok (.iconst 0, 1) := dk_3 (dk_at dksX8_pullOf_1 10 rfl rfl)
theorem dX8_pullOf_35 : decode cX8_pullOf 35 = .ok (.ireturn, 1) := dk_172 (dk_at dksX8_pullOf_1 11 rfl rfl)
theorem dX8_pullOf_36 : decode cX8_pullOf 36 = .ok (.aload_n 0, 1) := dk_42 (dk_at dksX8_pullOf_1 12 rfl rfl)
theorem dX8_pullOf_37 : decode cX8_pullOf 37 = .ok (.iconst 0, 1) := dk_3 (dk_at dksX8_pullOf_1 13 rfl rfl)
theorem dX8_pullOf_38 : decode cX8_pullOf 38 = .ok (.iload_n 1, 1) := dk_27 (dk_at dksX8_pullOf_1 14 rfl rfl)
theorem dX8_pullOf_39 : decode cX8_pullOf 39 = .ok (.iload_n 2, 1) := dk_28 (dk_at dksX8_pullOf_1 15 rfl rfl)
theorem dX8_pullOf_40 : decode cX8_pullOf 40 = .ok (.iload_n 3, 1) := dk_29 (dk_at dksX8_pullOf_1 16 rfl rfl)
theorem dX8_pullOf_41 : decode cX8_pullOf 41 = .ok (.iload 4, 2) := dk_21 4 (dk_at dksX8_pullOf_1 17 rfl rfl)
theorem dX8_pullOf_43 : decode cX8_pullOf 43 = .ok (.iload 5, 2) := dk_21 5 (dk_at dksX8_pullOf_1 19 rfl rfl)
theorem dX8_pullOf_45 : decode cX8_pullOf 45 = .ok (.invokevirtual 340, 3) := dk_182 1 84 (dk_at dksX8_pullOf_1 21 rfl rfl)
theorem dX8_pullOf_48 : decode cX8_pullOf 48 = .ok (.istore 7, 2) := dk_54 7 (dk_at dksX8_pullOf_2 0 rfl rfl)
theorem dX8_pullOf_50 : decode cX8_pullOf 50 = .ok (.iload_n 3, 1) := dk_29 (dk_at dksX8_pullOf_2 2 rfl rfl)
theorem dX8_pullOf_51 : decode cX8_pullOf 51 = .ok (.ifCond .eq 10, 3) := dk_153 0 10 (dk_at dksX8_pullOf_2 3 rfl rfl)
theorem dX8_pullOf_54 : decode cX8_pullOf 54 = .ok (.iload 7, 2) := dk_21 7 (dk_at dksX8_pullOf_2 6 rfl rfl)
theorem dX8_pullOf_56 : decode cX8_pullOf 56 = .ok (.iconst 2, 1) := dk_5 (dk_at dksX8_pullOf_2 8 rfl rfl)
theorem dX8_pullOf_57 : decode cX8_pullOf 57 = .ok (.idiv, 1) := dk_108 (dk_at dksX8_pullOf_2 9 rfl rfl)
theorem dX8_pullOf_58 : decode cX8_pullOf 58 = .ok (.goto 5, 3) := dk_167 0 5 (dk_at dksX8_pullOf_2 10 rfl rfl)
theorem dX8_pullOf_61 : decode cX8_pullOf 61 = .ok (.iload 7, 2) := dk_21 7 (dk_at dksX8_pullOf_2 13 rfl rfl)
theorem dX8_pullOf_63 : decode cX8_pullOf 63 = .ok (.istore 8, 2) := dk_54 8 (dk_at dksX8_pullOf_2 15 rfl rfl)
theorem dX8_pullOf_65 : decode cX8_pullOf 65 = .ok (.iload 6, 2) := dk_21 6 (dk_at dksX8_pullOf_2 17 rfl rfl)
theorem dX8_pullOf_67 : decode cX8_pullOf 67 = .ok (.iconst 1, 1) := dk_4 (dk_at dksX8_pullOf_2 19 rfl rfl)
theorem dX8_pullOf_68 : decode cX8_pullOf 68 = .ok (.if_icmp .ne 8, 3) := dk_160 0 8 (dk_at dksX8_pullOf_2 20 rfl rfl)
theorem dX8_pullOf_71 : decode cX8_pullOf 71 = .ok (.iload 8, 2) := dk_21 8 (dk_at dksX8_pullOf_3 0 rfl rfl)
theorem dX8_pullOf_73 : decode cX8_pullOf 73 = .ok (.goto 75, 3) := dk_167 0 75 (dk_at dksX8_pullOf_3 2 rfl rfl)
theorem dX8_pullOf_76 : decode cX8_pullOf 76 = .ok (.iload 6, 2) := dk_21 6 (dk_at dksX8_pullOf_3 5 rfl rfl)
theorem dX8_pullOf_78 : decode cX8_pullOf 78 = .ok (.iconst 3, 1) := dk_6 (dk_at dksX8_pullOf_3 7 rfl rfl)
theorem dX8_pullOf_79 : decode cX8_pullOf 79 = .ok (.if_icmp .ne 24, 3) := dk_160 0 24 (dk_at dksX8_pullOf_3 8 rfl rfl)
theorem dX8_pullOf_82 : decode cX8_pullOf 82 = .ok (.aload_n 0, 1) := dk_42 (dk_at dksX8_pullOf_3 11 rfl rfl)
theorem dX8_pullOf_83 : decode cX8_pullOf 83 = .ok (.getfield 23, 3) := dk_180 0 23 (dk_at dksX8_pullOf_3 12 rfl rfl)
theorem dX8_pullOf_86 : decode cX8_pullOf 86 = .ok (.bipush 12, 2) := dk_16 12 (dk_at dksX8_pullOf_3 15 rfl rfl)
theorem dX8_pullOf_88 : decode cX8_pullOf 88 = .ok (.if_icmp .ge 10, 3) := dk_162 0 10 (dk_at dksX8_pullOf_3 17 rfl rfl)
theorem dX8_pullOf_91 : decode cX8_pullOf 91 = .ok (.iconst 2, 1) := dk_5 (dk_at dksX8_pullOf_3 20 rfl rfl)
theorem dX8_pullOf_92 : decode cX8_pullOf 92 = .ok (.iload 8, 2) := dk_21 8 (dk_at dksX8_pullOf_3 21 rfl rfl)
theorem dX8_pullOf_94 : decode cX8_pullOf 94 = .ok (.imul, 1) := dk_104 (dk_at dksX8_pullOf_3 23 rfl rfl)
theorem dX8_pullOf_95 : decode cX8_pullOf 95 = .ok (.goto 53, 3) := dk_167 0 53 (dk_at dksX8_pullOf_4 0 rfl rfl)
theorem dX8_pullOf_98 : decode cX8_pullOf 98 = .ok (.iload 8, 2) := dk_21 8 (dk_at dksX8_pullOf_4 3 rfl rfl)
theorem dX8_pullOf_100 : decode cX8_pullOf 100 = .ok (.goto 48, 3) := dk_167 0 48 (dk_at dksX8_pullOf_4 5 rfl rfl)
theorem dX8_pullOf_103 : decode cX8_pullOf 103 = .ok (.iload 6, 2) := dk_21 6 (dk_at dksX8_pullOf_4 8 rfl rfl)
theorem dX8_pullOf_105 : decode cX8_pullOf 105 = .ok (.iconst 2, 1) := dk_5 (dk_at dksX8_pullOf_4 10 rfl rfl)
theorem dX8_pullOf_106 : decode cX8_pullOf 106 = .ok (.if_icmp .ne 17, 3) := dk_160 0 17 (dk_at dksX8_pullOf_4 11 rfl rfl)
theorem dX8_pullOf_109 : decode cX8_pullOf 109 = .ok (.iload 7, 2) := dk_21 7 (dk_at dksX8_pullOf_4 14 rfl rfl)
theorem dX8_pullOf_111 : decode cX8_pullOf 111 = .ok (.aload_n 0, 1) := dk_42 (dk_at dksX8_pullOf_4 16 rfl rfl)
theorem dX8_pullOf_112 : decode cX8_pullOf 112 = .ok (.getfield 32, 3) := dk_180 0 32 (dk_at dksX8_pullOf_4 17 rfl rfl)
theorem dX8_pullOf_115 : decode cX8_pullOf 115 = .ok (.iconst 3, 1) := dk_6 (dk_at dksX8_pullOf_4 20 rfl rfl)
theorem dX8_pullOf_116 : decode cX8_pullOf 116 = .ok (.iload_n 1, 1) := dk_27 (dk_at dksX8_pullOf_4 21 rfl rfl)
theorem dX8_pullOf_117 : decode cX8_pullOf 117 = .ok (.imul, 1) := dk_104 (dk_at dksX8_pullOf_4 22 rfl rfl)
theorem dX8_pullOf_118 : decode cX8_pullOf 118 = .ok (.iaload, 1) := dk_46 (dk_at dksX8_pullOf_4 23 rfl rfl)
theorem dX8_pullOf_119 : decode cX8_pullOf 119 = .ok (.iadd, 1) := dk_96 (dk_at dksX8_pullOf_5 0 rfl rfl)
theorem dX8_pullOf_120 : decode cX8_pullOf 120 = .ok (.goto 28, 3) := dk_167 0 28 (dk_at dksX8_pullOf_5 1 rfl rfl)
theorem dX8_pullOf_123 : decode cX8_pullOf 123 = .ok (.iload 6, 2) := dk_21 6 (dk_at dksX8_pullOf_5 4 rfl rfl)
theorem dX8_pullOf_125 : decode cX8_pullOf 125 = .ok (.iconst 4, 1) := dk_7 (dk_at dksX8_pullOf_5 6 rfl rfl)
theorem dX8_pullOf_126 : decode cX8_pullOf 126 = .ok (.if_icmp .ne 20, 3) := dk_160 0 20 (dk_at dksX8_pullOf_5 7 rfl rfl)
theorem dX8_pullOf_129 : decode cX8_pullOf 129 = .ok (.iload 7, 2) := dk_21 7 (dk_at dksX8_pullOf_5 10 rfl rfl)
theorem dX8_pullOf_131 : decode cX8_pullOf 131 = .ok (.aload_n 0, 1) := dk_42 (dk_at dksX8_pullOf_5 12 rfl rfl)
theorem dX8_pullOf_132 : decode cX8_pullOf 132 = .ok (.getfield 32, 3) := dk_180 0 32 (dk_at dksX8_pullOf_5 13 rfl rfl)
theorem dX8_pullOf_135 : decode cX8_pullOf 135 = .ok (.iconst 3, 1) := dk_6 (dk_at dksX8_pullOf_5 16 rfl rfl)
theorem dX8_pullOf_136 : decode cX8_pullOf 136 = .ok (.iload_n 1, 1) := dk_27 (dk_at dksX8_pullOf_5 17 rfl rfl)
theorem dX8_pullOf_137 : decode cX8_pullOf 137 = .ok (.imul, 1) := dk_104 (dk_at dksX8_pullOf_5 18 rfl rfl)
theorem dX8_pullOf_138 : decode cX8_pullOf 138 = .ok (.iaload, 1) := dk_46 (dk_at dksX8_pullOf_5 19 rfl rfl)
theorem dX8_pullOf_139 : decode cX8_pullOf 139 = .ok (.iadd, 1) := dk_96 (dk_at dksX8_pullOf_5 20 rfl rfl)
theorem dX8_pullOf_140 : decode cX8_pullOf 140 = .ok (.bipush 10, 2) := dk_16 10 (dk_at dksX8_pullOf_5 21 rfl rfl)
theorem dX8_pullOf_142 : decode cX8_pullOf 142 = .ok (.iadd, 1) := dk_96 (dk_at dksX8_pullOf_5 23 rfl rfl)
theorem dX8_pullOf_143 : decode cX8_pullOf 143 = .ok (.goto 5, 3) := dk_167 0 5 (dk_at dksX8_pullOf_6 0 rfl rfl)
theorem dX8_pullOf_146 : decode cX8_pullOf 146 = .ok (.iload 7, 2) := dk_21 7 (dk_at dksX8_pullOf_6 3 rfl rfl)
theorem dX8_pullOf_148 : decode cX8_pullOf 148 = .ok (.iconst 0, 1) := dk_3 (dk_at dksX8_pullOf_6 5 rfl rfl)
theorem dX8_pullOf_149 : decode cX8_pullOf 149 = .ok (.sipush 999, 3) := dk_17 3 231 (dk_at dksX8_pullOf_6 6 rfl rfl)
theorem dX8_pullOf_152 : decode cX8_pullOf 152 = .ok (.invokestatic 336, 3) := dk_184 1 80 (dk_at dksX8_pullOf_6 9 rfl rfl)
theorem dX8_pullOf_155 : decode cX8_pullOf 155 = .ok (.ireturn, 1) := dk_172 (dk_at dksX8_pullOf_6 12 rfl rfl)
abbrev cX8_says : ByteArray := prog_16_method_67_code
def yX8_says : MethodName := ⟨RX8, "says", "(IIIZII)I"⟩
def dkwX8_says_4 : List UInt8 := [21, 7, 3, 16, 99, 184, 1, 80, 172]
abbrev dktX8_says_4 : List UInt8 := dkwX8_says_4 ++ []
def dkwX8_says_3 : List UInt8 := [181, 0, 200, 42, 42, 180, 0, 106, 27, 182, 1, 74, 54, 7, 27, 5, 160, 0, 8, 21, 7, 167, 0, 11]
abbrev dktX8_says_3 : List UInt8 := dkwX8_says_3 ++ dktX8_says_4
def dkwX8_says_2 : List UInt8 := [42, 21, 4, 153, 0, 7, 4, 167, 0, 4, 3, 181, 0, 197, 42, 42, 180, 0, 32, 6, 29, 104, 46]
abbrev dktX8_says_2 : List UInt8 := dkwX8_says_2 ++ dktX8_says_3
def dkwX8_says_1 : List UInt8 := [180, 0, 32, 6, 28, 104, 46, 181, 0, 188, 42, 21, 6, 181, 0, 191, 42, 42, 180, 0, 23, 181, 0, 194]
abbrev dktX8_says_1 : List UInt8 := dkwX8_says_1 ++ dktX8_says_2
def dkwX8_says_0 : List UInt8 := [42, 42, 180, 0, 35, 16, 8, 21, 5, 104, 42, 28, 182, 1, 77, 96, 46, 181, 0, 185, 42, 42]
abbrev dktX8_says_0 : List UInt8 := dkwX8_says_0 ++ dktX8_says_1
theorem dksX8_says_0 : cX8_says.data.toList.drop 0 = dktX8_says_0 := by decide +kernel
theorem dksX8_says_1 : cX8_says.data.toList.drop 22 = dktX8_says_1 := dk_seg dksX8_says_0 22 rfl rfl
theorem dksX8_says_2 : cX8_says.data.toList.drop 46 = dktX8_says_2 := dk_seg dksX8_says_1 24 rfl rfl
theorem dksX8_says_3 : cX8_says.data.toList.drop 69 = dktX8_says_3 := dk_seg dksX8_says_2 23 rfl rfl
theorem dksX8_says_4 : cX8_says.data.toList.drop 93 = dktX8_says_4 := dk_seg dksX8_says_3 24 rfl rfl
theorem dX8_says_0 : decode cX8_says 0 = .ok (.aload_n 0, 1) := dk_42 (dk_at dksX8_says_0 0 rfl rfl)
theorem dX8_says_1 : decode cX8_says 1 = .ok (.aload_n 0, 1) := dk_42 (dk_at dksX8_says_0 1 rfl rfl)
theorem dX8_says_2 : decode cX8_says 2 = .ok (.getfield 35, 3) := dk_180 0 35 (dk_at dksX8_says_0 2 rfl rfl)
theorem dX8_says_5 : decode cX8_says 5 = .ok (.bipush 8, 2) := dk_16 8 (dk_at dksX8_says_0 5 rfl rfl)
theorem dX8_says_7 : decode cX8_says 7 = .ok (.iload 5, 2) := dk_21 5 (dk_at dksX8_says_0 7 rfl rfl)
theorem dX8_says_9 : decode cX8_says 9 = .ok (.imul, 1) := dk_104 (dk_at dksX8_says_0 9 rfl rfl)
theorem dX8_says_10 : decode cX8_says 10 = .ok (.aload_n 0, 1) := dk_42 (dk_at dksX8_says_0 10 rfl rfl)
theorem dX8_says_11 : decode cX8_says 11 = .ok (.iload_n 2, 1) := dk_28 (dk_at dksX8_says_0 11 rfl rfl)
theorem dX8_says_12 : decode cX8_says 12 = .ok (.invokevirtual 333, 3) := dk_182 1 77 (dk_at dksX8_says_0 12 rfl rfl)
theorem dX8_says_15 : decode cX8_says 15 = .ok (.iadd, 1) := dk_96 (dk_at dksX8_says_0 15 rfl rfl)
theorem dX8_says_16 : decode cX8_says 16 = .ok (.iaload, 1) := dk_46 (dk_at dksX8_says_0 16 rfl rfl)
theorem dX8_says_17 : decode cX8_says 17 = .ok (.putfield 185, 3) := dk_181 0 185 (dk_at dksX8_says_0 17 rfl rfl)
theorem dX8_says_20 : decode cX8_says 20 = .ok (.aload_n 0, 1) := dk_42 (dk_at dksX8_says_0 20 rfl rfl)
theorem dX8_says_21 : decode cX8_says 21 = .ok (.aload_n 0, 1) := dk_42 (dk_at dksX8_says_0 21 rfl rfl)
theorem dX8_says_22 : decode cX8_says 22 = .ok (.getfield 32, 3) := dk_180 0 32 (dk_at dksX8_says_1 0 rfl rfl)
theorem dX8_says_25 : decode cX8_says 25 = .ok (.iconst 3, 1) := dk_6 (dk_at dksX8_says_1 3 rfl rfl)
theorem dX8_says_26 : decode cX8_says 26 = .ok (.iload_n 2, 1) := dk_28 (dk_at dksX8_says_1 4 rfl rfl)
theorem dX8_says_27 : decode cX8_says 27 = .ok (.imul, 1) := dk_104 (dk_at dksX8_says_1 5 rfl rfl)
theorem dX8_says_28 : decode cX8_says 28 = .ok (.iaload, 1) := dk_46 (dk_at dksX8_says_1 6 rfl rfl)
theorem dX8_says_29 : decode cX8_says 29 = .ok (.putfield 188, 3) := dk_181 0 188 (dk_at dksX8_says_1 7 rfl rfl)
theorem dX8_says_32 : decode cX8_says 32 = .ok (.aload_n 0, 1) := dk_42 (dk_at dksX8_says_1 10 rfl rfl)
theorem dX8_says_33 : decode cX8_says 33 = .ok (.iload 6, 2) := dk_21 6 (dk_at dksX8_says_1 11 rfl rfl)
theorem dX8_says_35 : decode cX8_says 35 = .ok (.putfield 191, 3) := dk_181 0 191 (dk_at dksX8_says_1 13 rfl rfl)
theorem dX8_says_38 : decode cX8_says 38 = .ok (.aload_n 0, 1) := dk_42 (dk_at dksX8_says_1 16 rfl rfl)
theorem dX8_says_39 : decode cX8_says 39 = .ok (.aload_n 0, 1) := dk_42 (dk_at dksX8_says_1 17 rfl rfl)
theorem dX8_says_40 : decode cX8_says 40 = .ok (.getfield 23, 3) := dk_180 0 23 (dk_at dksX8_says_1 18 rfl rfl)
theorem dX8_says_43 : decode cX8_says 43 = .ok (.putfield 194, 3) := dk_181 0 194 (dk_at dksX8_says_1 21 rfl rfl)
theorem dX8_says_46 : decode cX8_says 46 = .ok (.aload_n 0, 1) := dk_42 (dk_at dksX8_says_2 0 rfl rfl)
theorem dX8_says_47 : decode cX8_says 47 = .ok (.iload 4, 2) := dk_21 4 (dk_at dksX8_says_2 1 rfl rfl)
theorem dX8_says_49 : decode cX8_says 49 = .ok (.ifCond .eq 7, 3) := dk_153 0 7 (dk_at dksX8_says_2 3 rfl rfl)
theorem dX8_says_52 : decode cX8_says 52 = .ok (.iconst 1, 1) := dk_4 (dk_at dksX8_says_2 6 rfl rfl)
theorem dX8_says_53 : decode cX8_says 53 = .ok (.goto 4, 3) := dk_167 0 4 (dk_at dksX8_says_2 7 rfl rfl)
theorem dX8_says_56 : decode cX8_says 56 = .ok (.iconst 0, 1) := dk_3 (dk_at dksX8_says_2 10 rfl rfl)
theorem dX8_says_57 : decode cX8_says 57 = .ok (.putfield 197, 3) := dk_181 0 197 (dk_at dksX8_says_2 11 rfl rfl)
theorem dX8_says_60 : decode cX8_says 60 = .ok (.aload_n 0, 1) := dk_42 (dk_at dksX8_says_2 14 rfl rfl)
theorem dX8_says_61 : decode cX8_says 61 = .ok (.aload_n 0, 1) := dk_42 (dk_at dksX8_says_2 15 rfl rfl)
theorem dX8_says_62 : decode cX8_says 62 = .ok (.getfield 32, 3) := dk_180 0 32 (dk_at dksX8_says_2 16 rfl rfl)
theorem dX8_says_65 : decode cX8_says 65 = .ok (.iconst 3, 1) := dk_6 (dk_at dksX8_says_2 19 rfl rfl)
theorem dX8_says_66 : decode cX8_says 66 = .ok (.iload_n 3, 1) := dk_29 (dk_at dksX8_says_2 20 rfl rfl)
theorem dX8_says_67 : decode cX8_says 67 = .ok (.imul, 1) := dk_104 (dk_at dksX8_says_2 21 rfl rfl)
theorem dX8_says_68 : decode cX8_says 68 = .ok (.iaload, 1) := dk_46 (dk_at dksX8_says_2 22 rfl rfl)
theorem dX8_says_69 : decode cX8_says 69 = .ok (.putfield 200, 3) := dk_181 0 200 (dk_at dksX8_says_3 0 rfl rfl)
theorem dX8_says_72 : decode cX8_says 72 = .ok (.aload_n 0, 1) := dk_42 (dk_at dksX8_says_3 3 rfl rfl)
theorem dX8_says_73 : decode cX8_says 73 = .ok (.aload_n 0, 1) := dk_42 (dk_at dksX8_says_3 4 rfl rfl)
theorem dX8_says_74 : decode cX8_says 74 = .ok (.getfield 106, 3) := dk_180 0 106 (dk_at dksX8_says_3 5 rfl rfl)
theorem dX8_says_77 : decode cX8_says 77 = .ok (.iload_n 1, 1) := dk_27 (dk_at dksX8_says_3 8 rfl rfl)
theorem dX8_says_78 : decode cX8_says 78 = .ok (.invokevirtual 330, 3) := dk_182 1 74 (dk_at dksX8_says_3 9 rfl rfl)
theorem dX8_says_81 : decode cX8_says 81 = .ok (.istore 7, 2) := dk_54 7 (dk_at dksX8_says_3 12 rfl rfl)
theorem dX8_says_83 : decode cX8_says 83 = .ok (.iload_n 1, 1) := dk_27 (dk_at dksX8_says_3 14 rfl rfl)
theorem dX8_says_84 : decode cX8_says 84 = .ok (.iconst 2, 1) := dk_5 (dk_at dksX8_says_3 15 rfl rfl)
theorem dX8_says_85 : decode cX8_says 85 = .ok (.if_icmp .ne 8, 3) := dk_160 0 8 (dk_at dksX8_says_3 16 rfl rfl)
theorem dX8_says_88 : decode cX8_says 88 = .ok (.iload 7, 2) := dk_21 7 (dk_at dksX8_says_3 19 rfl rfl)
theorem dX8_says_90 : decode cX8_says 90 = .ok (.goto 11, 3) := dk_167 0 11 (dk_at dksX8_says_3 21 rfl rfl)
theorem dX8_says_93 : decode cX8_says 93 = .ok (.iload 7, 2) := dk_21 7 (dk_at dksX8_says_4 0 rfl rfl)
theorem dX8_says_95 : decode cX8_says 95 = .ok (.iconst 0, 1) := dk_3 (dk_at dksX8_says_4 2 rfl rfl)
theorem dX8_says_96 : decode cX8_says 96 = .ok (.bipush 99, 2) := dk_16 99 (dk_at dksX8_says_4 3 rfl rfl)
theorem dX8_says_98 : decode cX8_says 98 = .ok (.invokestatic 336, 3) := dk_184 1 80 (dk_at dksX8_says_4 5 rfl rfl)
theorem dX8_says_101 : decode cX8_says 101 = .ok (.ireturn, 1) := dk_172 (dk_at dksX8_says_4 8 rfl rfl)
abbrev cX8_goalOf : ByteArray := prog_16_method_66_code
def yX8_goalOf : MethodName := ⟨RX8, "goalOf", "(I)I"⟩
def dkwX8_goalOf_0 : List UInt8 := [42, 180, 0, 32, 6, 27, 104, 4, 96, 46, 172]
abbrev dktX8_goalOf_0 : List UInt8 := dkwX8_goalOf_0 ++ []
theorem dksX8_goalOf_0 : cX8_goalOf.data.toList.drop 0 = dktX8_goalOf_0 := by decide +kernel
theorem dX8_goalOf_0 : decode cX8_goalOf 0 = .ok (.aload_n 0, 1) := dk_42 (dk_at dksX8_goalOf_0 0 rfl rfl)
theorem dX8_goalOf_1 : decode cX8_goalOf 1 = .ok (.getfield 32, 3) := dk_180 0 32 (dk_at dksX8_goalOf_0 1 rfl rfl)
theorem dX8_goalOf_4 : decode cX8_goalOf 4 = .ok (.iconst 3, 1) := dk_6 (dk_at dksX8_goalOf_0 4 rfl rfl)
theorem dX8_goalOf_5 : decode cX8_goalOf 5 = .ok (.iload_n 1, 1) := dk_27 (dk_at dksX8_goalOf_0 5 rfl rfl)
theorem dX8_goalOf_6 : decode cX8_goalOf 6 = .ok (.imul, 1) := dk_104 (dk_at dksX8_goalOf_0 6 rfl rfl)
theorem dX8_goalOf_7 : decode cX8_goalOf 7 = .ok (.iconst 1, 1) := dk_4 (dk_at dksX8_goalOf_0 7 rfl rfl)
theorem dX8_goalOf_8 : decode cX8_goalOf 8 = .ok (.iadd, 1) := dk_96 (dk_at dksX8_goalOf_0 8 rfl rfl)
theorem dX8_goalOf_9 : decode cX8_goalOf 9 = .ok (.iaload, 1) := dk_46 (dk_at dksX8_goalOf_0 9 rfl rfl)
theorem dX8_goalOf_10 : decode cX8_goalOf 10 = .ok (.ireturn, 1) := dk_172 (dk_at dksX8_goalOf_0 10 rfl rfl)
abbrev cX8_read : ByteArray := prog_16_method_63_code
def yX8_read : MethodName := ⟨RX8, "read", "(II)I"⟩
def dkwX8_read_7 : List UInt8 := [172]
abbrev dktX8_read_7 : List UInt8 := dkwX8_read_7 ++ []
def dkwX8_read_6 : List UInt8 := [42, 182, 0, 175, 28, 154, 0, 7, 29, 167, 0, 15, 28, 4, 160, 0, 8, 21, 4, 167, 0, 5, 21, 5]
abbrev dktX8_read_6 : List UInt8 := dkwX8_read_6 ++ dktX8_read_7
def dkwX8_read_5 : List UInt8 := [3, 3, 182, 0, 181, 182, 1, 70, 54, 5, 42, 180, 0, 161, 154, 0, 14, 42, 180, 0, 144, 153, 0, 7]
abbrev dktX8_read_5 : List UInt8 := dkwX8_read_5 ++ dktX8_read_6
def dkwX8_read_4 : List UInt8 := [180, 0, 161, 153, 0, 7, 3, 167, 0, 25, 42, 42, 16, 101, 16, 110, 16, 111, 16, 117, 16, 103, 16, 104]
abbrev dktX8_read_4 : List UInt8 := dkwX8_read_4 ++ dktX8_read_5
def dkwX8_read_3 : List UInt8 := [42, 16, 109, 16, 111, 16, 111, 16, 100, 16, 115, 3, 3, 3, 182, 0, 181, 182, 1, 70, 54, 4, 42]
abbrev dktX8_read_3 : List UInt8 := dkwX8_read_3 ++ dktX8_read_4
def dkwX8_read_2 : List UInt8 := [16, 115, 3, 3, 3, 182, 0, 181, 182, 1, 70, 62, 42, 180, 0, 161, 153, 0, 7, 3, 167, 0, 24, 42]
abbrev dktX8_read_2 : List UInt8 := dkwX8_read_2 ++ dktX8_read_3
def dkwX8_read_1 : List UInt8 := [42, 3, 181, 0, 172, 42, 3, 181, 0, 161, 42, 182, 0, 178, 42, 42, 16, 112, 16, 117, 16, 108, 16, 108]
abbrev dktX8_read_1 : List UInt8 := dkwX8_read_1 ++ dktX8_read_2
def dkwX8_read_0 : List UInt8 := [42, 17, 0, 160, 27, 104, 181, 0, 132, 42, 42, 180, 0, 17, 27, 46, 181, 0, 129, 42, 3, 181, 0, 135]
abbrev dktX8_read_0 : List UInt8 := dkwX8_read_0 ++ dktX8_read_1
theorem dksX8_read_0 : cX8_read.data.toList.drop 0 = dktX8_read_0 := by decide +kernel
theorem dksX8_read_1 : cX8_read.data.toList.drop 24 = dktX8_read_1 := dk_seg dksX8_read_0 24 rfl rfl
theorem dksX8_read_2 : cX8_read.data.toList.drop 48 = dktX8_read_2 := dk_seg dksX8_read_1 24 rfl rfl
theorem dksX8_read_3 : cX8_read.data.toList.drop 72 = dktX8_read_3 := dk_seg dksX8_read_2 24 rfl rfl
theorem dksX8_read_4 : cX8_read.data.toList.drop 95 = dktX8_read_4 := dk_seg dksX8_read_3 23 rfl rfl
theorem dksX8_read_5 : cX8_read.data.toList.drop 119 = dktX8_read_5 := dk_seg dksX8_read_4 24 rfl rfl
theorem dksX8_read_6 : cX8_read.data.toList.drop 143 = dktX8_read_6 := dk_seg dksX8_read_5 24 rfl rfl
theorem dksX8_read_7 : cX8_read.data.toList.drop 167 = dktX8_read_7 := dk_seg dksX8_read_6 24 rfl rfl
theorem dX8_read_0 : decode cX8_read 0 = .ok (.aload_n 0, 1) := dk_42 (dk_at dksX8_read_0 0 rfl rfl)
theorem dX8_read_1 : decode cX8_read 1 = .ok (.sipush 160, 3) := dk_17 0 160 (dk_at dksX8_read_0 1 rfl rfl)
theorem dX8_read_4 : decode cX8_read 4 = .ok (.iload_n 1, 1) := dk_27 (dk_at dksX8_read_0 4 rfl rfl)
theorem dX8_read_5 : decode cX8_read 5 = .ok (.imul, 1) := dk_104 (dk_at dksX8_read_0 5 rfl rfl)
theorem dX8_read_6 : decode cX8_read 6 = .ok (.putfield 132, 3) := dk_181 0 132 (dk_at dksX8_read_0 6 rfl rfl)
theorem dX8_read_9 : decode cX8_read 9 = .ok (.aload_n 0, 1) := dk_42 (dk_at dksX8_read_0 9 rfl rfl)
theorem dX8_read_10 : decode cX8_read 10 = .ok (.aload_n 0, 1) := dk_42 (dk_at dksX8_read_0 10 rfl rfl)
theorem dX8_read_11 : decode cX8_read 11 = .ok (.getfield 17, 3) := dk_180 0 17 (dk_at dksX8_read_0 11 rfl rfl)
theorem dX8_read_14 : decode cX8_read 14 = .ok (.iload_n 1, 1) := dk_27 (dk_at dksX8_read_0 14 rfl rfl)
theorem dX8_read_15 : decode cX8_read 15 = .ok (.iaload, 1) := dk_46 (dk_at dksX8_read_0 15 rfl rfl)
theorem dX8_read_16 : decode cX8_read 16 = .ok (.putfield 129, 3) := dk_181 0 129 (dk_at dksX8_read_0 16 rfl rfl)
theorem dX8_read_19 : decode cX8_read 19 = .ok (.aload_n 0, 1) := dk_42 (dk_at dksX8_read_0 19 rfl rfl)
theorem dX8_read_20 : decode cX8_read 20 = .ok (.iconst 0, 1) := dk_3 (dk_at dksX8_read_0 20 rfl rfl)
theorem dX8_read_21 : decode cX8_read 21 = .ok (.putfield 135, 3) := dk_181 0 135 (dk_at dksX8_read_0 21 rfl rfl)
theorem dX8_read_24 : decode cX8_read 24 = .ok (.aload_n 0, 1) := dk_42 (dk_at dksX8_read_1 0 rfl rfl)
theorem dX8_read_25 : decode cX8_read 25 = .ok (.iconst 0, 1) := dk_3 (dk_at dksX8_read_1 1 rfl rfl)
theorem dX8_read_26 : decode cX8_read 26 = .ok (.putfield 172, 3) := dk_181 0 172 (dk_at dksX8_read_1 2 rfl rfl)
theorem dX8_read_29 : decode cX8_read 29 = .ok (.aload_n 0, 1) := dk_42 (dk_at dksX8_read_1 5 rfl rfl)
theorem dX8_read_30 : decode cX8_read 30 = .ok (.iconst 0, 1) := dk_3 (dk_at dksX8_read_1 6 rfl rfl)
theorem dX8_read_31 : decode cX8_read 31 = .ok (.putfield 161, 3) := dk_181 0 161 (dk_at dksX8_read_1 7 rfl rfl)
theorem dX8_read_34 : decode cX8_read 34 = .ok (.aload_n 0, 1) := dk_42 (dk_at dksX8_read_1 10 rfl rfl)
theorem dX8_read_35 : decode cX8_read 35 = .ok (.invokevirtual 178, 3) := dk_182 0 178 (dk_at dksX8_read_1 11 rfl rfl)
theorem dX8_read_38 : decode cX8_read 38 = .ok (.aload_n 0, 1) := dk_42 (dk_at dksX8_read_1 14 rfl rfl)
theorem dX8_read_39 : decode cX8_read 39 = .ok (.aload_n 0, 1) := dk_42 (dk_at dksX8_read_1 15 rfl rfl)
theorem dX8_read_40 : decode cX8_read 40 = .ok (.bipush 112, 2) := dk_16 112 (dk_at dksX8_read_1 16 rfl rfl)
theorem dX8_read_42 : decode cX8_read 42 = .ok (.bipush 117, 2) := dk_16 117 (dk_at dksX8_read_1 18 rfl rfl)
theorem dX8_read_44 : decode cX8_read 44 = .ok (.bipush 108, 2) := dk_16 108 (dk_at dksX8_read_1 20 rfl rfl)
theorem dX8_read_46 : decode cX8_read 46 = .ok (.bipush 108, 2) := dk_16 108 (dk_at dksX8_read_1 22 rfl rfl)
theorem dX8_read_48 : decode cX8_read 48 = .ok (.bipush 115, 2) := dk_16 115 (dk_at dksX8_read_2 0 rfl rfl)
theorem dX8_read_50 : decode cX8_read 50 = .ok (.iconst 0, 1) := dk_3 (dk_at dksX8_read_2 2 rfl rfl)
theorem dX8_read_51 : decode cX8_read 51 = .ok (.iconst 0, 1) := dk_3 (dk_at dksX8_read_2 3 rfl rfl)
theorem dX8_read_52 : decode cX8_read 52 = .ok (.iconst 0, 1) := dk_3 (dk_at dksX8_read_2 4 rfl rfl)
theorem dX8_read_53 : decode cX8_read 53 = .ok (.invokevirtual 181, 3) := dk_182 0 181 (dk_at dksX8_read_2 5 rfl rfl)
theorem dX8_read_56 : decode cX8_read 56 = .ok (.invokevirtual 326, 3) := dk_182 1 70 (dk_at dksX8_read_2 8 rfl rfl)
theorem dX8_read_59 : decode cX8_read 59 = .ok (.istore_n 3, 1) := dk_62 (dk_at dksX8_read_2 11 rfl rfl)
theorem dX8_read_60 : decode cX8_read 60 = .ok (.aload_n 0, 1) := dk_42 (dk_at dksX8_read_2 12 rfl rfl)
theorem dX8_read_61 : decode cX8_read 61 = .ok (.getfield 161, 3) := dk_180 0 161 (dk_at dksX8_read_2 13 rfl rfl)
theorem dX8_read_64 : decode cX8_read 64 = .ok (.ifCond .eq 7, 3) := dk_153 0 7 (dk_at dksX8_read_2 16 rfl rfl)
theorem dX8_read_67 : decode cX8_read 67 = .ok (.iconst 0, 1) := dk_3 (dk_at dksX8_read_2 19 rfl rfl)
theorem dX8_read_68 : decode cX8_read 68 = .ok (.goto 24, 3) := dk_167 0 24 (dk_at dksX8_read_2 20 rfl rfl)
theorem dX8_read_71 : decode cX8_read 71 = .ok (.aload_n 0, 1) := dk_42 (dk_at dksX8_read_2 23 rfl rfl)
theorem dX8_read_72 : decode cX8_read 72 = .ok (.aload_n 0, 1) := dk_42 (dk_at dksX8_read_3 0 rfl rfl)
theorem dX8_read_73 : decode cX8_read 73 = .ok (.bipush 109, 2) := dk_16 109 (dk_at dksX8_read_3 1 rfl rfl)
theorem dX8_read_75 : decode cX8_read 75 = .ok (.bipush 111, 2) := dk_16 111 (dk_at dksX8_read_3 3 rfl rfl)
theorem dX8_read_77 : decode cX8_read 77 = .ok (.bipush 111, 2) := dk_16 111 (dk_at dksX8_read_3 5 rfl rfl)
theorem dX8_read_79 : decode cX8_read 79 = .ok (.bipush 100, 2) := dk_16 100 (dk_at dksX8_read_3 7 rfl rfl)
theorem dX8_read_81 : decode cX8_read 81 = .ok (.bipush 115, 2) := dk_16 115 (dk_at dksX8_read_3 9 rfl rfl)
theorem dX8_read_83 : decode cX8_read 83 = .ok (.iconst 0, 1) := dk_3 (dk_at dksX8_read_3 11 rfl rfl)
theorem dX8_read_84 : decode cX8_read 84 = .ok (.iconst 0, 1) := dk_3 (dk_at dksX8_read_3 12 rfl rfl)
theorem dX8_read_85 : decode cX8_read 85 = .ok (.iconst 0, 1) := dk_3 (dk_at dksX8_read_3 13 rfl rfl)
theorem dX8_read_86 : decode cX8_read 86 = .ok (.invokevirtual 181, 3) := dk_182 0 181 (dk_at dksX8_read_3 14 rfl rfl)
theorem dX8_read_89 : decode cX8_read 89 = .ok (.invokevirtual 326, 3) := dk_182 1 70 (dk_at dksX8_read_3 17 rfl rfl)
theorem dX8_read_92 : decode cX8_read 92 = .ok (.istore 4, 2) := dk_54 4 (dk_at dksX8_read_3 20 rfl rfl)
theorem dX8_read_94 : decode cX8_read 94 = .ok (.aload_n 0, 1) := dk_42 (dk_at dksX8_read_3 22 rfl rfl)
theorem dX8_read_95 : decode cX8_read 95 = .ok (.getfield 161, 3) := dk_180 0 161 (dk_at dksX8_read_4 0 rfl rfl)
theorem dX8_read_98 : decode cX8_read 98 = .ok (.ifCond .eq 7, 3) := dk_153 0 7 (dk_at dksX8_read_4 3 rfl rfl)
theorem dX8_read_101 : decode cX8_read 101 = .ok (.iconst 0, 1) := dk_3 (dk_at dksX8_read_4 6 rfl rfl)
theorem dX8_read_102 : decode cX8_read 102 = .ok (.goto 25, 3) := dk_167 0 25 (dk_at dksX8_read_4 7 rfl rfl)
theorem dX8_read_105 : decode cX8_read 105 = .ok (.aload_n 0, 1) := dk_42 (dk_at dksX8_read_4 10 rfl rfl)
theorem dX8_read_106 : decode cX8_read 106 = .ok (.aload_n 0, 1) := dk_42 (dk_at dksX8_read_4 11 rfl rfl)
theorem dX8_read_107 : decode cX8_read 107 = .ok (.bipush 101, 2) := dk_16 101 (dk_at dksX8_read_4 12 rfl rfl)
theorem dX8_read_109 : decode cX8_read 109 = .ok (.bipush 110, 2) := dk_16 110 (dk_at dksX8_read_4 14 rfl rfl)
theorem dX8_read_111 : decode cX8_read 111 = .ok (.bipush 111, 2) := dk_16 111 (dk_at dksX8_read_4 16 rfl rfl)
theorem dX8_read_113 : decode cX8_read 113 = .ok (.bipush 117, 2) := dk_16 117 (dk_at dksX8_read_4 18 rfl rfl)
theorem dX8_read_115 : decode cX8_read 115 = .ok (.bipush 103, 2) := dk_16 103 (dk_at dksX8_read_4 20 rfl rfl)
theorem dX8_read_117 : decode cX8_read 117 = .ok (.bipush 104, 2) := dk_16 104 (dk_at dksX8_read_4 22 rfl rfl)
theorem dX8_read_119 : decode cX8_read 119 = .ok (.iconst 0, 1) := dk_3 (dk_at dksX8_read_5 0 rfl rfl)
theorem dX8_read_120 : decode cX8_read 120 = .ok (.iconst 0, 1) := dk_3 (dk_at dksX8_read_5 1 rfl rfl)
theorem dX8_read_121 : decode cX8_read 121 = .ok (.invokevirtual 181, 3) := dk_182 0 181 (dk_at dksX8_read_5 2 rfl rfl)
theorem dX8_read_124 : decode cX8_read 124 = .ok (.invokevirtual 326, 3) := dk_182 1 70 (dk_at dksX8_read_5 5 rfl rfl)
theorem dX8_read_127 : decode cX8_read 127 = .ok (.istore 5, 2) := dk_54 5 (dk_at dksX8_read_5 8 rfl rfl)
theorem dX8_read_129 : decode cX8_read 129 = .ok (.aload_n 0, 1) := dk_42 (dk_at dksX8_read_5 10 rfl rfl)
theorem dX8_read_130 : decode cX8_read 130 = .ok (.getfield 161, 3) := dk_180 0 161 (dk_at dksX8_read_5 11 rfl rfl)
theorem dX8_read_133 : decode cX8_read 133 = .ok (.ifCond .ne 14, 3) := dk_154 0 14 (dk_at dksX8_read_5 14 rfl rfl)
theorem dX8_read_136 : decode cX8_read 136 = .ok (.aload_n 0, 1) := dk_42 (dk_at dksX8_read_5 17 rfl rfl)
theorem dX8_read_137 : decode cX8_read 137 = .ok (.getfield 144, 3) := dk_180 0 144 (dk_at dksX8_read_5 18 rfl rfl)
theorem dX8_read_140 : decode cX8_read 140 = .ok (.ifCond .eq 7, 3) := dk_153 0 7 (dk_at dksX8_read_5 21 rfl rfl)
theorem dX8_read_143 : decode cX8_read 143 = .ok (.aload_n 0, 1) := dk_42 (dk_at dksX8_read_6 0 rfl rfl)
theorem dX8_read_144 : decode cX8_read 144 = .ok (.invokevirtual 175, 3) := dk_182 0 175 (dk_at dksX8_read_6 1 rfl rfl)
theorem dX8_read_147 : decode cX8_read 147 = .ok (.iload_n 2, 1) := dk_28 (dk_at dksX8_read_6 4 rfl rfl)
theorem dX8_read_148 : decode cX8_read 148 = .ok (.ifCond .ne 7, 3) := dk_154 0 7 (dk_at dksX8_read_6 5 rfl rfl)
theorem dX8_read_151 : decode cX8_read 151 = .ok (.iload_n 3, 1) := dk_29 (dk_at dksX8_read_6 8 rfl rfl)
theorem dX8_read_152 : decode cX8_read 152 = .ok (.goto 15, 3) := dk_167 0 15 (dk_at dksX8_read_6 9 rfl rfl)
theorem dX8_read_155 : decode cX8_read 155 = .ok (.iload_n 2, 1) := dk_28 (dk_at dksX8_read_6 12 rfl rfl)
theorem dX8_read_156 : decode cX8_read 156 = .ok (.iconst 1, 1) := dk_4 (dk_at dksX8_read_6 13 rfl rfl)
theorem dX8_read_157 : decode cX8_read 157 = .ok (.if_icmp .ne 8, 3) := dk_160 0 8 (dk_at dksX8_read_6 14 rfl rfl)
theorem dX8_read_160 : decode cX8_read 160 = .ok (.iload 4, 2) := dk_21 4 (dk_at dksX8_read_6 17 rfl rfl)
theorem dX8_read_162 : decode cX8_read 162 = .ok (.goto 5, 3) := dk_167 0 5 (dk_at dksX8_read_6 19 rfl rfl)
theorem dX8_read_165 : decode cX8_read 165 = .ok (.iload 5, 2) := dk_21 5 (dk_at dksX8_read_6 22 rfl rfl)
theorem dX8_read_167 : decode cX8_read 167 = .ok (.ireturn, 1) := dk_172 (dk_at dksX8_read_7 0 rfl rfl)
abbrev cX8_next : ByteArray := prog_16_method_19_code
def yX8_next : MethodName := ⟨RX8, "next", "()V"⟩
def dkwX8_next_13 : List UInt8 := [181, 0, 144, 42, 27, 133, 181, 0, 155, 42, 89, 180, 0, 135, 4, 96, 181, 0, 135, 177]
abbrev dktX8_next_13 : List UInt8 := dkwX8_next_13 ++ []
def dkwX8_next_12 : List UInt8 := [159, 0, 21, 27, 16, 42, 159, 0, 15, 27, 16, 60, 159, 0, 9, 27, 16, 61, 160, 0, 24, 42, 6]
abbrev dktX8_next_12 : List UInt8 := dkwX8_next_12 ++ dktX8_next_13
def dkwX8_next_11 : List UInt8 := [159, 0, 45, 27, 16, 41, 159, 0, 39, 27, 16, 59, 159, 0, 33, 27, 16, 43, 159, 0, 27, 27, 16, 45]
abbrev dktX8_next_11 : List UInt8 := dkwX8_next_11 ++ dktX8_next_12
def dkwX8_next_10 : List UInt8 := [167, 255, 184, 42, 28, 7, 164, 0, 7, 7, 167, 0, 4, 5, 181, 0, 144, 167, 0, 72, 27, 16, 40]
abbrev dktX8_next_10 : List UInt8 := dkwX8_next_10 ++ dktX8_next_11
def dkwX8_next_9 : List UInt8 := [167, 0, 7, 42, 180, 0, 155, 181, 0, 155, 132, 2, 1, 42, 89, 180, 0, 135, 4, 96, 181, 0, 135]
abbrev dktX8_next_9 : List UInt8 := dkwX8_next_9 ++ dktX8_next_10
def dkwX8_next_8 : List UInt8 := [20, 0, 159, 42, 180, 0, 155, 105, 42, 42, 180, 0, 135, 182, 0, 138, 133, 97, 20, 0, 151, 101]
abbrev dktX8_next_8 : List UInt8 := dkwX8_next_8 ++ dktX8_next_9
def dkwX8_next_7 : List UInt8 := [182, 0, 138, 133, 20, 0, 151, 20, 0, 153, 184, 0, 82, 153, 0, 57, 42, 28, 7, 162, 0, 28]
abbrev dktX8_next_7 : List UInt8 := dkwX8_next_7 ++ dktX8_next_8
def dkwX8_next_6 : List UInt8 := [184, 0, 82, 153, 0, 107, 42, 5, 181, 0, 144, 42, 9, 181, 0, 155, 3, 61, 42, 42, 180, 0, 135]
abbrev dktX8_next_6 : List UInt8 := dkwX8_next_6 ++ dktX8_next_7
def dkwX8_next_5 : List UInt8 := [153, 0, 203, 42, 89, 180, 0, 135, 4, 96, 181, 0, 135, 167, 255, 225, 27, 133, 20, 0, 151, 20, 0, 153]
abbrev dktX8_next_5 : List UInt8 := dkwX8_next_5 ++ dktX8_next_6
def dkwX8_next_4 : List UInt8 := [42, 4, 181, 0, 144, 42, 42, 180, 0, 135, 182, 0, 138, 133, 20, 0, 147, 20, 0, 149, 184, 0, 82]
abbrev dktX8_next_4 : List UInt8 := dkwX8_next_4 ++ dktX8_next_5
def dkwX8_next_3 : List UInt8 := [42, 180, 0, 129, 181, 0, 141, 167, 0, 243, 27, 133, 20, 0, 147, 20, 0, 149, 184, 0, 82, 153, 0, 42]
abbrev dktX8_next_3 : List UInt8 := dkwX8_next_3 ++ dktX8_next_4
def dkwX8_next_2 : List UInt8 := [42, 42, 180, 0, 135, 182, 0, 138, 60, 42, 7, 181, 0, 144, 27, 156, 0, 19, 42, 3, 181, 0, 144, 42]
abbrev dktX8_next_2 : List UInt8 := dkwX8_next_2 ++ dktX8_next_3
def dkwX8_next_1 : List UInt8 := [160, 0, 16, 42, 89, 180, 0, 135, 4, 96, 181, 0, 135, 167, 255, 220, 42, 42, 180, 0, 135, 181, 0, 141]
abbrev dktX8_next_1 : List UInt8 := dkwX8_next_1 ++ dktX8_next_2
def dkwX8_next_0 : List UInt8 := [42, 42, 180, 0, 135, 182, 0, 138, 16, 32, 159, 0, 16, 42, 42, 180, 0, 135, 182, 0, 138, 16, 10]
abbrev dktX8_next_0 : List UInt8 := dkwX8_next_0 ++ dktX8_next_1
theorem dksX8_next_0 : cX8_next.data.toList.drop 0 = dktX8_next_0 := by decide +kernel
theorem dksX8_next_1 : cX8_next.data.toList.drop 23 = dktX8_next_1 := dk_seg dksX8_next_0 23 rfl rfl
theorem dksX8_next_2 : cX8_next.data.toList.drop 47 = dktX8_next_2 := dk_seg dksX8_next_1 24 rfl rfl
theorem dksX8_next_3 : cX8_next.data.toList.drop 71 = dktX8_next_3 := dk_seg dksX8_next_2 24 rfl rfl
theorem dksX8_next_4 : cX8_next.data.toList.drop 95 = dktX8_next_4 := dk_seg dksX8_next_3 24 rfl rfl
theorem dksX8_next_5 : cX8_next.data.toList.drop 118 = dktX8_next_5 := dk_seg dksX8_next_4 23 rfl rfl
theorem dksX8_next_6 : cX8_next.data.toList.drop 142 = dktX8_next_6 := dk_seg dksX8_next_5 24 rfl rfl
theorem dksX8_next_7 : cX8_next.data.toList.drop 165 = dktX8_next_7 := dk_seg dksX8_next_6 23 rfl rfl
theorem dksX8_next_8 : cX8_next.data.toList.drop 187 = dktX8_next_8 := dk_seg dksX8_next_7 22 rfl rfl
theorem dksX8_next_9 : cX8_next.data.toList.drop 209 = dktX8_next_9 := dk_seg dksX8_next_8 22 rfl rfl
theorem dksX8_next_10 : cX8_next.data.toList.drop 232 = dktX8_next_10 := dk_seg dksX8_next_9 23 rfl rfl
theorem dksX8_next_11 : cX8_next.data.toList.drop 255 = dktX8_next_11 := dk_seg dksX8_next_10 23 rfl rfl
theorem dksX8_next_12 : cX8_next.data.toList.drop 279 = dktX8_next_12 := dk_seg dksX8_next_11 24 rfl rfl
theorem dksX8_next_13 : cX8_next.data.toList.drop 302 = dktX8_next_13 := dk_seg dksX8_next_12 23 rfl rfl
theorem dX8_next_0 : decode cX8_next 0 = .ok (.aload_n 0, 1) := dk_42 (dk_at dksX8_next_0 0 rfl rfl)
theorem dX8_next_1 : decode cX8_next 1 = .ok (.aload_n 0, 1) := dk_42 (dk_at dksX8_next_0 1 rfl rfl)
theorem dX8_next_2 : decode cX8_next 2 = .ok (.getfield 135, 3) := dk_180 0 135 (dk_at dksX8_next_0 2 rfl rfl)
theorem dX8_next_5 : decode cX8_next 5 = .ok (.invokevirtual 138, 3) := dk_182 0 138 (dk_at dksX8_next_0 5 rfl rfl)
theorem dX8_next_8 : decode cX8_next 8 = .ok (.bipush 32, 2) := dk_16 32 (dk_at dksX8_next_0 8 rfl rfl)
theorem dX8_next_10 : decode cX8_next 10 = .ok (.if_icmp .eq 16, 3) := dk_159 0 16 (dk_at dksX8_next_0 10 rfl rfl)
theorem dX8_next_13 : decode cX8_next 13 = .ok (.aload_n 0, 1) := dk_42 (dk_at dksX8_next_0 13 rfl rfl)
theorem dX8_next_14 : decode cX8_next 14 = .ok (.aload_n 0, 1) := dk_42 (dk_at dksX8_next_0 14 rfl rfl)
theorem dX8_next_15 : decode cX8_next 15 = .ok (.getfield 135, 3) := dk_180 0 135 (dk_at dksX8_next_0 15 rfl rfl)
theorem dX8_next_18 : decode cX8_next 18 = .ok (.invokevirtual 138, 3) := dk_182 0 138 (dk_at dksX8_next_0 18 rfl rfl)
theorem dX8_next_21 : decode cX8_next 21 = .ok (.bipush 10, 2) := dk_16 10 (dk_at dksX8_next_0 21 rfl rfl)
theorem dX8_next_23 : decode cX8_next 23 = .ok (.if_icmp .ne 16, 3) := dk_160 0 16 (dk_at dksX8_next_1 0 rfl rfl)
theorem dX8_next_26 : decode cX8_next 26 = .ok (.aload_n 0, 1) := dk_42 (dk_at dksX8_next_1 3 rfl rfl)
theorem dX8_next_27 : decode cX8_next 27 = .ok (.dup, 1) := dk_89 (dk_at dksX8_next_1 4 rfl rfl)
theorem dX8_next_28 : decode cX8_next 28 = .ok (.getfield 135, 3) := dk_180 0 135 (dk_at dksX8_next_1 5 rfl rfl)
theorem dX8_next_31 : decode cX8_next 31 = .ok (.iconst 1, 1) := dk_4 (dk_at dksX8_next_1 8 rfl rfl)
theorem dX8_next_32 : decode cX8_next 32 = .ok (.iadd, 1) := dk_96 (dk_at dksX8_next_1 9 rfl rfl)
theorem dX8_next_33 : decode cX8_next 33 = .ok (.putfield 135, 3) := dk_181 0 135 (dk_at dksX8_next_1 10 rfl rfl)
theorem dX8_next_36 : decode cX8_next 36 = .ok (.goto (-36), 3) := dk_167 255 220 (dk_at dksX8_next_1 13 rfl rfl)
theorem dX8_next_39 : decode cX8_next 39 = .ok (.aload_n 0, 1) := dk_42 (dk_at dksX8_next_1 16 rfl rfl)
theorem dX8_next_40 : decode cX8_next 40 = .ok (.aload_n 0, 1) := dk_42 (dk_at dksX8_next_1 17 rfl rfl)
theorem dX8_next_41 : decode cX8_next 41 = .ok (.getfield 135, 3) := dk_180 0 135 (dk_at dksX8_next_1 18 rfl rfl)
theorem dX8_next_44 : decode cX8_next 44 = .ok (.putfield 141, 3) := dk_181 0 141 (dk_at dksX8_next_1 21 rfl rfl)
theorem dX8_next_47 : decode cX8_next 47 = .ok (.aload_n 0, 1) := dk_42 (dk_at dksX8_next_2 0 rfl rfl)
theorem dX8_next_48 : decode cX8_next 48 = .ok (.aload_n 0, 1) := dk_42 (dk_at dksX8_next_2 1 rfl rfl)
theorem dX8_next_49 : decode cX8_next 49 = .ok (.getfield 135, 3) := dk_180 0 135 (dk_at dksX8_next_2 2 rfl rfl)
theorem dX8_next_52 : decode cX8_next 52 = .ok (.invokevirtual 138, 3) := dk_182 0 138 (dk_at dksX8_next_2 5 rfl rfl)
theorem dX8_next_55 : decode cX8_next 55 = .ok (.istore_n 1, 1) := dk_60 (dk_at dksX8_next_2 8 rfl rfl)
theorem dX8_next_56 : decode cX8_next 56 = .ok (.aload_n 0, 1) := dk_42 (dk_at dksX8_next_2 9 rfl rfl)
theorem dX8_next_57 : decode cX8_next 57 = .ok (.iconst 4, 1) := dk_7 (dk_at dksX8_next_2 10 rfl rfl)
theorem dX8_next_58 : decode cX8_next 58 = .ok (.putfield 144, 3) := dk_181 0 144 (dk_at dksX8_next_2 11 rfl rfl)
theorem dX8_next_61 : decode cX8_next 61 = .ok (.iload_n 1, 1) := dk_27 (dk_at dksX8_next_2 14 rfl rfl)
theorem dX8_next_62 : decode cX8_next 62 = .ok (.ifCond .ge 19, 3) := dk_156 0 19 (dk_at dksX8_next_2 15 rfl rfl)
theorem dX8_next_65 : decode cX8_next 65 = .ok (.aload_n 0, 1) := dk_42 (dk_at dksX8_next_2 18 rfl rfl)
theorem dX8_next_66 : decode cX8_next 66 = .ok (.iconst 0, 1) := dk_3 (dk_at dksX8_next_2 19 rfl rfl)
theorem dX8_next_67 : decode cX8_next 67 = .ok (.putfield 144, 3) := dk_181 0 144 (dk_at dksX8_next_2 20 rfl rfl)
theorem dX8_next_70 : decode cX8_next 70 = .ok (.aload_n 0, 1) := dk_42 (dk_at dksX8_next_2 23 rfl rfl)
theorem dX8_next_71 : decode cX8_next 71 = .ok (.aload_n 0, 1) := dk_42 (dk_at dksX8_next_3 0 rfl rfl)
theorem dX8_next_72 : decode cX8_next 72 = .ok (.getfield 129, 3) := dk_180 0 129 (dk_at dksX8_next_3 1 rfl rfl)
theorem dX8_next_75 : decode cX8_next 75 = .ok (.putfield 141, 3) := dk_181 0 141 (dk_at dksX8_next_3 4 rfl rfl)
theorem dX8_next_78 : decode cX8_next 78 = .ok (.goto 243, 3) := dk_167 0 243 (dk_at dksX8_next_3 7 rfl rfl)
theorem dX8_next_81 : decode cX8_next 81 = .ok (.iload_n 1, 1) := dk_27 (dk_at dksX8_next_3 10 rfl rfl)
theorem dX8_next_82 : decode cX8_next 82 = .ok (.i2l, 1) := dk_133 (dk_at dksX8_next_3 11 rfl rfl)
theorem dX8_next_83 : decode cX8_next 83 = .ok (.ldc2_w 147, 3) := dk_20 0 147 (dk_at dksX8_next_3 12 rfl rfl)
theorem dX8_next_86 : decode cX8_next 86 = .ok (.ldc2_w 149, 3) := dk_20 0 149 (dk_at dksX8_next_3 15 rfl rfl)
theorem dX8_next_89 : decode cX8_next 89 = .ok (.invokestatic 82, 3) := dk_184 0 82 (dk_at dksX8_next_3 18 rfl rfl)
theorem dX8_next_92 : decode cX8_next 92 = .ok (.ifCond .eq 42, 3) := dk_153 0 42 (dk_at dksX8_next_3 21 rfl rfl)
theorem dX8_next_95 : decode cX8_next 95 = .ok (.aload_n 0, 1) := dk_42 (dk_at dksX8_next_4 0 rfl rfl)
theorem dX8_next_96 : decode cX8_next 96 = .ok (.iconst 1, 1) := dk_4 (dk_at dksX8_next_4 1 rfl rfl)
theorem dX8_next_97 : decode cX8_next 97 = .ok (.putfield 144, 3) := dk_181 0 144 (dk_at dksX8_next_4 2 rfl rfl)
theorem dX8_next_100 : decode cX8_next 100 = .ok (.aload_n 0, 1) := dk_42 (dk_at dksX8_next_4 5 rfl rfl)
theorem dX8_next_101 : decode cX8_next 101 = .ok (.aload_n 0, 1) := dk_42 (dk_at dksX8_next_4 6 rfl rfl)
theorem dX8_next_102 : decode cX8_next 102 = .ok (.getfield 135, 3) := dk_180 0 135 (dk_at dksX8_next_4 7 rfl rfl)
theorem dX8_next_105 : decode cX8_next 105 = .ok (.invokevirtual 138, 3) := dk_182 0 138 (dk_at dksX8_next_4 10 rfl rfl)
theorem dX8_next_108 : decode cX8_next 108 = .ok (.i2l, 1) := dk_133 (dk_at dksX8_next_4 13 rfl rfl)
theorem dX8_next_109 : decode cX8_next 109 = .ok (.ldc2_w 147, 3) := dk_20 0 147 (dk_at dksX8_next_4 14 rfl rfl)
theorem dX8_next_112 : decode cX8_next 112 = .ok (.ldc2_w 149, 3) := dk_20 0 149 (dk_at dksX8_next_4 17 rfl rfl)
theorem dX8_next_115 : decode cX8_next 115 = .ok (.invokestatic 82, 3) := dk_184 0 82 (dk_at dksX8_next_4 20 rfl rfl)
theorem dX8_next_118 : decode cX8_next 118 = .ok (.ifCond .eq 203, 3) := dk_153 0 203 (dk_at dksX8_next_5 0 rfl rfl)
theorem dX8_next_121 : decode cX8_next 121 = .ok (.aload_n 0, 1) := dk_42 (dk_at dksX8_next_5 3 rfl rfl)
theorem dX8_next_122 : decode cX8_next 122 = .ok (.dup, 1) := dk_89 (dk_at dksX8_next_5 4 rfl rfl)
theorem dX8_next_123 : decode cX8_next 123 = .ok (.getfield 135, 3) := dk_180 0 135 (dk_at dksX8_next_5 5 rfl rfl)
theorem dX8_next_126 : decode cX8_next 126 = .ok (.iconst 1, 1) := dk_4 (dk_at dksX8_next_5 8 rfl rfl)
theorem dX8_next_127 : decode cX8_next 127 = .ok (.iadd, 1) := dk_96 (dk_at dksX8_next_5 9 rfl rfl)
theorem dX8_next_128 : decode cX8_next 128 = .ok (.putfield 135, 3) := dk_181 0 135 (dk_at dksX8_next_5 10 rfl rfl)
theorem dX8_next_131 : decode cX8_next 131 = .ok (.goto (-31), 3) := dk_167 255 225 (dk_at dksX8_next_5 13 rfl rfl)
theorem dX8_next_134 : decode cX8_next 134 = .ok (.iload_n 1, 1) := dk_27 (dk_at dksX8_next_5 16 rfl rfl)
theorem dX8_next_135 : decode cX8_next 135 = .ok (.i2l, 1) := dk_133 (dk_at dksX8_next_5 17 rfl rfl)
theorem dX8_next_136 : decode cX8_next 136 = .ok (.ldc2_w 151, 3) := dk_20 0 151 (dk_at dksX8_next_5 18 rfl rfl)
theorem dX8_next_139 : decode cX8_next 139 = .ok (.ldc2_w 153, 3) := dk_20 0 153 (dk_at dksX8_next_5 21 rfl rfl)
theorem dX8_next_142 : decode cX8_next 142 = .ok (.invokestatic 82, 3) := dk_184 0 82 (dk_at dksX8_next_6 0 rfl rfl)
theorem dX8_next_145 : decode cX8_next 145 = .ok (.ifCond .eq 107, 3) := dk_153 0 107 (dk_at dksX8_next_6 3 rfl rfl)
theorem dX8_next_148 : decode cX8_next 148 = .ok (.aload_n 0, 1) := dk_42 (dk_at dksX8_next_6 6 rfl rfl)
theorem dX8_next_149 : decode cX8_next 149 = .ok (.iconst 2, 1) := dk_5 (dk_at dksX8_next_6 7 rfl rfl)
theorem dX8_next_150 : decode cX8_next 150 = .ok (.putfield 144, 3) := dk_181 0 144 (dk_at dksX8_next_6 8 rfl rfl)
theorem dX8_next_153 : decode cX8_next 153 = .ok (.aload_n 0, 1) := dk_42 (dk_at dksX8_next_6 11 rfl rfl)
theorem dX8_next_154 : decode cX8_next 154 = .ok (.lconst 0, 1) := dk_9 (dk_at dksX8_next_6 12 rfl rfl)
theorem dX8_next_155 : decode cX8_next 155 = .ok (.putfield 155, 3) := dk_181 0 155 (dk_at dksX8_next_6 13 rfl rfl)
theorem dX8_next_158 : decode cX8_next 158 = .ok (.iconst 0, 1) := dk_3 (dk_at dksX8_next_6 16 rfl rfl)
theorem dX8_next_159 : decode cX8_next 159 = .ok (.istore_n 2, 1) := dk_61 (dk_at dksX8_next_6 17 rfl rfl)
theorem dX8_next_160 : decode cX8_next 160 = .ok (.aload_n 0, 1) := dk_42 (dk_at dksX8_next_6 18 rfl rfl)
theorem dX8_next_161 : decode cX8_next 161 = .ok (.aload_n 0, 1) := dk_42 (dk_at dksX8_next_6 19 rfl rfl)
theorem dX8_next_162 : decode cX8_next 162 = .ok (.getfield 135, 3) := dk_180 0 135 (dk_at dksX8_next_6 20 rfl rfl)
theorem dX8_next_165 : decode cX8_next 165 = .ok (.invokevirtual 138, 3) := dk_182 0 138 (dk_at dksX8_next_7 0 rfl rfl)
theorem dX8_next_168 : decode cX8_next 168 = .ok (.i2l, 1) := dk_133 (dk_at dksX8_next_7 3 rfl rfl)
theorem dX8_next_169 : decode cX8_next 169 = .ok (.ldc2_w 151, 3) := dk_20 0 151 (dk_at dksX8_next_7 4 rfl rfl)
theorem dX8_next_172 : decode cX8_next 172 = .ok (.ldc2_w 153, 3) := dk_20 0 153 (dk_at dksX8_next_7 7 rfl rfl)
theorem dX8_next_175 : decode cX8_next 175 = .ok (.invokestatic 82, 3) := dk_184 0 82 (dk_at dksX8_next_7 10 rfl rfl)
theorem dX8_next_178 : decode cX8_next 178 = .ok (.ifCond .eq 57, 3) := dk_153 0 57 (dk_at dksX8_next_7 13 rfl rfl)
theorem dX8_next_181 : decode cX8_next 181 = .ok (.aload_n 0, 1) := dk_42 (dk_at dksX8_next_7 16 rfl rfl)
theorem dX8_next_182 : decode cX8_next 182 = .ok (.iload_n 2, 1) := dk_28 (dk_at dksX8_next_7 17 rfl rfl)
theorem dX8_next_183 : decode cX8_next 183 = .ok (.iconst 4, 1) := dk_7 (dk_at dksX8_next_7 18 rfl rfl)
theorem dX8_next_184 : decode cX8_next 184 = .ok (.if_icmp .ge 28, 3) := dk_162 0 28 (dk_at dksX8_next_7 19 rfl rfl)
theorem dX8_next_187 : decode cX8_next 187 = .ok (.ldc2_w 159, 3) := dk_20 0 159 (dk_at dksX8_next_8 0 rfl rfl)
theorem dX8_next_190 : decode cX8_next 190 = .ok (.aload_n 0, 1) := dk_42 (dk_at dksX8_next_8 3 rfl rfl)
theorem dX8_next_191 : decode cX8_next 191 = .ok (.getfield 155, 3) := dk_180 0 155 (dk_at dksX8_next_8 4 rfl rfl)
theorem dX8_next_194 : decode cX8_next 194 = .ok (.lmul, 1) := dk_105 (dk_at dksX8_next_8 7 rfl rfl)
theorem dX8_next_195 : decode cX8_next 195 = .ok (.aload_n 0, 1) := dk_42 (dk_at dksX8_next_8 8 rfl rfl)
theorem dX8_next_196 : decode cX8_next 196 = .ok (.aload_n 0, 1) := dk_42 (dk_at dksX8_next_8 9 rfl rfl)
theorem dX8_next_197 : decode cX8_next 197 = .ok (.getfield 135, 3) := dk_180 0 135 (dk_at dksX8_next_8 10 rfl rfl)
theorem dX8_next_200 : decode cX8_next 200 = .ok (.invokevirtual 138, 3) := dk_182 0 138 (dk_at dksX8_next_8 13 rfl rfl)
theorem dX8_next_203 : decode cX8_next 203 = .ok (.i2l, 1) := dk_133 (dk_at dksX8_next_8 16 rfl rfl)
theorem dX8_next_204 : decode cX8_next 204 = .ok (.ladd, 1) := dk_97 (dk_at dksX8_next_8 17 rfl rfl)
theorem dX8_next_205 : decode cX8_next 205 = .ok (.ldc2_w 151, 3) := dk_20 0 151 (dk_at dksX8_next_8 18 rfl rfl)
theorem dX8_next_208 : decode cX8_next 208 = .ok (.lsub, 1) := dk_101 (dk_at dksX8_next_8 21 rfl rfl)
theorem dX8_next_209 : decode cX8_next 209 = .ok (.goto 7, 3) := dk_167 0 7 (dk_at dksX8_next_9 0 rfl rfl)
theorem dX8_next_212 : decode cX8_next 212 = .ok (.aload_n 0, 1) := dk_42 (dk_at dksX8_next_9 3 rfl rfl)
theorem dX8_next_213 : decode cX8_next 213 = .ok (.getfield 155, 3) := dk_180 0 155 (dk_at dksX8_next_9 4 rfl rfl)
theorem dX8_next_216 : decode cX8_next 216 = .ok (.putfield 155, 3) := dk_181 0 155 (dk_at dksX8_next_9 7 rfl rfl)
theorem dX8_next_219 : decode cX8_next 219 = .ok (.iinc 2 1, 3) := dk_132 2 1 (dk_at dksX8_next_9 10 rfl rfl)
theorem dX8_next_222 : decode cX8_next 222 = .ok (.aload_n 0, 1) := dk_42 (dk_at dksX8_next_9 13 rfl rfl)
theorem dX8_next_223 : decode cX8_next 223 = .ok (.dup, 1) := dk_89 (dk_at dksX8_next_9 14 rfl rfl)
theorem dX8_next_224 : decode cX8_next 224 = .ok (.getfield 135, 3) := dk_180 0 135 (dk_at dksX8_next_9 15 rfl rfl)
theorem dX8_next_227 : decode cX8_next 227 = .ok (.iconst 1, 1) := dk_4 (dk_at dksX8_next_9 18 rfl rfl)
theorem dX8_next_228 : decode cX8_next 228 = .ok (.iadd, 1) := dk_96 (dk_at dksX8_next_9 19 rfl rfl)
theorem dX8_next_229 : decode cX8_next 229 = .ok (.putfield 135, 3) := dk_181 0 135 (dk_at dksX8_next_9 20 rfl rfl)
theorem dX8_next_232 : decode cX8_next 232 = .ok (.goto (-72), 3) := dk_167 255 184 (dk_at dksX8_next_10 0 rfl rfl)
theorem dX8_next_235 : decode cX8_next 235 = .ok (.aload_n 0, 1) := dk_42 (dk_at dksX8_next_10 3 rfl rfl)
theorem dX8_next_236 : decode cX8_next 236 = .ok (.iload_n 2, 1) := dk_28 (dk_at dksX8_next_10 4 rfl rfl)
theorem dX8_next_237 : decode cX8_next 237 = .ok (.iconst 4, 1) := dk_7 (dk_at dksX8_next_10 5 rfl rfl)
theorem dX8_next_238 : decode cX8_next 238 = .ok (.if_icmp .le 7, 3) := dk_164 0 7 (dk_at dksX8_next_10 6 rfl rfl)
theorem dX8_next_241 : decode cX8_next 241 = .ok (.iconst 4, 1) := dk_7 (dk_at dksX8_next_10 9 rfl rfl)
theorem dX8_next_242 : decode cX8_next 242 = .ok (.goto 4, 3) := dk_167 0 4 (dk_at dksX8_next_10 10 rfl rfl)
theorem dX8_next_245 : decode cX8_next 245 = .ok (.iconst 2, 1) := dk_5 (dk_at dksX8_next_10 13 rfl rfl)
theorem dX8_next_246 : decode cX8_next 246 = .ok (.putfield 144, 3) := dk_181 0 144 (dk_at dksX8_next_10 14 rfl rfl)
theorem dX8_next_249 : decode cX8_next 249 = .ok (.goto 72, 3) := dk_167 0 72 (dk_at dksX8_next_10 17 rfl rfl)
theorem dX8_next_252 : decode cX8_next 252 = .ok (.iload_n 1, 1) := dk_27 (dk_at dksX8_next_10 20 rfl rfl)
theorem dX8_next_253 : decode cX8_next 253 = .ok (.bipush 40, 2) := dk_16 40 (dk_at dksX8_next_10 21 rfl rfl)
theorem dX8_next_255 : decode cX8_next 255 = .ok (.if_icmp .eq 45, 3) := dk_159 0 45 (dk_at dksX8_next_11 0 rfl rfl)
theorem dX8_next_258 : decode cX8_next 258 = .ok (.iload_n 1, 1) := dk_27 (dk_at dksX8_next_11 3 rfl rfl)
theorem dX8_next_259 : decode cX8_next 259 = .ok (.bipush 41, 2) := dk_16 41 (dk_at dksX8_next_11 4 rfl rfl)
theorem dX8_next_261 : decode cX8_next 261 = .ok (.if_icmp .eq 39, 3) := dk_159 0 39 (dk_at dksX8_next_11 6 rfl rfl)
theorem dX8_next_264 : decode cX8_next 264 = .ok (.iload_n 1, 1) := dk_27 (dk_at dksX8_next_11 9 rfl rfl)
theorem dX8_next_265 : decode cX8_next 265 = .ok (.bipush 59, 2) := dk_16 59 (dk_at dksX8_next_11 10 rfl rfl)
theorem dX8_next_267 : decode cX8_next 267 = .ok (.if_icmp .eq 33, 3) := dk_159 0 33 (dk_at dksX8_next_11 12 rfl rfl)
theorem dX8_next_270 : decode cX8_next 270 = .ok (.iload_n 1, 1) := dk_27 (dk_at dksX8_next_11 15 rfl rfl)
theorem dX8_next_271 : decode cX8_next 271 = .ok (.bipush 43, 2) := dk_16 43 (dk_at dksX8_next_11 16 rfl rfl)
theorem dX8_next_273 : decode cX8_next 273 = .ok (.if_icmp .eq 27, 3) := dk_159 0 27 (dk_at dksX8_next_11 18 rfl rfl)
theorem dX8_next_276 : decode cX8_next 276 = .ok (.iload_n 1, 1) := dk_27 (dk_at dksX8_next_11 21 rfl rfl)
theorem dX8_next_277 : decode cX8_next 277 = .ok (.bipush 45, 2) := dk_16 45 (dk_at dksX8_next_11 22 rfl rfl)
theorem dX8_next_279 : decode cX8_next 279 = .ok (.if_icmp .eq 21, 3) := dk_159 0 21 (dk_at dksX8_next_12 0 rfl rfl)
theorem dX8_next_282 : decode cX8_next 282 = .ok (.iload_n 1, 1) := dk_27 (dk_at dksX8_next_12 3 rfl rfl)
theorem dX8_next_283 : decode cX8_next 283 = .ok (.bipush 42, 2) := dk_16 42 (dk_at dksX8_next_12 4 rfl rfl)
theorem dX8_next_285 : decode cX8_next 285 = .ok (.if_icmp .eq 15, 3) := dk_159 0 15 (dk_at dksX8_next_12 6 rfl rfl)
theorem dX8_next_288 : decode cX8_next 288 = .ok (.iload_n 1, 1) := dk_27 (dk_at dksX8_next_12 9 rfl rfl)
theorem dX8_next_289 : decode cX8_next 289 = .ok (.bipush 60, 2) := dk_16 60 (dk_at dksX8_next_12 10 rfl rfl)
theorem dX8_next_291 : decode cX8_next 291 = .ok (.if_icmp .eq 9, 3) := dk_159 0 9 (dk_at dksX8_next_12 12 rfl rfl)
theorem dX8_next_294 : decode cX8_next 294 = .ok (.iload_n 1, 1) := dk_27 (dk_at dksX8_next_12 15 rfl rfl)
theorem dX8_next_295 : decode cX8_next 295 = .ok (.bipush 61, 2) := dk_16 61 (dk_at dksX8_next_12 16 rfl rfl)
theorem dX8_next_297 : decode cX8_next 297 = .ok (.if_icmp .ne 24, 3) := dk_160 0 24 (dk_at dksX8_next_12 18 rfl rfl)
theorem dX8_next_300 : decode cX8_next 300 = .ok (.aload_n 0, 1) := dk_42 (dk_at dksX8_next_12 21 rfl rfl)
theorem dX8_next_301 : decode cX8_next 301 = .ok (.iconst 3, 1) := dk_6 (dk_at dksX8_next_12 22 rfl rfl)
theorem dX8_next_302 : decode cX8_next 302 = .ok (.putfield 144, 3) := dk_181 0 144 (dk_at dksX8_next_13 0 rfl rfl)
theorem dX8_next_305 : decode cX8_next 305 = .ok (.aload_n 0, 1) := dk_42 (dk_at dksX8_next_13 3 rfl rfl)
theorem dX8_next_306 : decode cX8_next 306 = .ok (.iload_n 1, 1) := dk_27 (dk_at dksX8_next_13 4 rfl rfl)
theorem dX8_next_307 : decode cX8_next 307 = .ok (.i2l, 1) := dk_133 (dk_at dksX8_next_13 5 rfl rfl)
theorem dX8_next_308 : decode cX8_next 308 = .ok (.putfield 155, 3) := dk_181 0 155 (dk_at dksX8_next_13 6 rfl rfl)
theorem dX8_next_311 : decode cX8_next 311 = .ok (.aload_n 0, 1) := dk_42 (dk_at dksX8_next_13 9 rfl rfl)
theorem dX8_next_312 : decode cX8_next 312 = .ok (.dup, 1) := dk_89 (dk_at dksX8_next_13 10 rfl rfl)
theorem dX8_next_313 : decode cX8_next 313 = .ok (.getfield 135, 3) := dk_180 0 135 (dk_at dksX8_next_13 11 rfl rfl)
theorem dX8_next_316 : decode cX8_next 316 = .ok (.iconst 1, 1) := dk_4 (dk_at dksX8_next_13 14 rfl rfl)
theorem dX8_next_317 : decode cX8_next 317 = .ok (.iadd, 1) := dk_96 (dk_at dksX8_next_13 15 rfl rfl)
theorem dX8_next_318 : decode cX8_next 318 = .ok (.putfield 135, 3) := dk_181 0 135 (dk_at dksX8_next_13 16 rfl rfl)
theorem dX8_next_321 : decode cX8_next 321 = .ok (.return_, 1) := dk_177 (dk_at dksX8_next_13 19 rfl rfl)
abbrev cX8_byteAt : ByteArray := prog_16_method_18_code
def yX8_byteAt : MethodName := ⟨RX8, "byteAt", "(I)I"⟩
def dkwX8_byteAt_0 : List UInt8 := [27, 42, 180, 0, 129, 162, 0, 17, 42, 180, 0, 13, 42, 180, 0, 132, 27, 96, 46, 167, 0, 4, 2, 172]
abbrev dktX8_byteAt_0 : List UInt8 := dkwX8_byteAt_0 ++ []
theorem dksX8_byteAt_0 : cX8_byteAt.data.toList.drop 0 = dktX8_byteAt_0 := by decide +kernel
theorem dX8_byteAt_0 : decode cX8_byteAt 0 = .ok (.iload_n 1, 1) := dk_27 (dk_at dksX8_byteAt_0 0 rfl rfl)
theorem dX8_byteAt_1 : decode cX8_byteAt 1 = .ok (.aload_n 0, 1) := dk_42 (dk_at dksX8_byteAt_0 1 rfl rfl)
theorem dX8_byteAt_2 : decode cX8_byteAt 2 = .ok (.getfield 129, 3) := dk_180 0 129 (dk_at dksX8_byteAt_0 2 rfl rfl)
theorem dX8_byteAt_5 : decode cX8_byteAt 5 = .ok (.if_icmp .ge 17, 3) := dk_162 0 17 (dk_at dksX8_byteAt_0 5 rfl rfl)
theorem dX8_byteAt_8 : decode cX8_byteAt 8 = .ok (.aload_n 0, 1) := dk_42 (dk_at dksX8_byteAt_0 8 rfl rfl)
theorem dX8_byteAt_9 : decode cX8_byteAt 9 = .ok (.getfield 13, 3) := dk_180 0 13 (dk_at dksX8_byteAt_0 9 rfl rfl)
theorem dX8_byteAt_12 : decode cX8_byteAt 12 = .ok (.aload_n 0, 1) := dk_42 (dk_at dksX8_byteAt_0 12 rfl rfl)
theorem dX8_byteAt_13 : decode cX8_byteAt 13 = .ok (.getfield 132, 3) := dk_180 0 132 (dk_at dksX8_byteAt_0 13 rfl rfl)
theorem dX8_byteAt_16 : decode cX8_byteAt 16 = .ok (.iload_n 1, 1) := dk_27 (dk_at dksX8_byteAt_0 16 rfl rfl)
theorem dX8_byteAt_17 : decode cX8_byteAt 17 = .ok (.iadd, 1) := dk_96 (dk_at dksX8_byteAt_0 17 rfl rfl)
theorem dX8_byteAt_18 : decode cX8_byteAt 18 = .ok (.iaload, 1) := dk_46 (dk_at dksX8_byteAt_0 18 rfl rfl)
theorem dX8_byteAt_19 : decode cX8_byteAt 19 = .ok (.goto 4, 3) := dk_167 0 4 (dk_at dksX8_byteAt_0 19 rfl rfl)
theorem dX8_byteAt_22 : decode cX8_byteAt 22 = .ok (.iconst (-1), 1) := dk_2 (dk_at dksX8_byteAt_0 22 rfl rfl)
theorem dX8_byteAt_23 : decode cX8_byteAt 23 = .ok (.ireturn, 1) := dk_172 (dk_at dksX8_byteAt_0 23 rfl rfl)
abbrev cX8_isWord : ByteArray := prog_16_method_22_code
def yX8_isWord : MethodName := ⟨RX8, "isWord", "(IIIIIIII)Z"⟩
def dkwX8_isWord_4 : List UInt8 := [153, 0, 18, 42, 16, 7, 21, 8, 182, 0, 168, 153, 0, 7, 4, 167, 0, 4, 3, 172]
abbrev dktX8_isWord_4 : List UInt8 := dkwX8_isWord_4 ++ []
def dkwX8_isWord_3 : List UInt8 := [182, 0, 168, 153, 0, 39, 42, 8, 21, 6, 182, 0, 168, 153, 0, 29, 42, 16, 6, 21, 7, 182, 0, 168]
abbrev dktX8_isWord_3 : List UInt8 := dkwX8_isWord_3 ++ dktX8_isWord_4
def dkwX8_isWord_2 : List UInt8 := [42, 5, 29, 182, 0, 168, 153, 0, 59, 42, 6, 21, 4, 182, 0, 168, 153, 0, 49, 42, 7, 21, 5]
abbrev dktX8_isWord_2 : List UInt8 := dkwX8_isWord_2 ++ dktX8_isWord_3
def dkwX8_isWord_1 : List UInt8 := [16, 8, 96, 163, 0, 86, 42, 3, 27, 182, 0, 168, 153, 0, 77, 42, 4, 28, 182, 0, 168, 153, 0, 68]
abbrev dktX8_isWord_1 : List UInt8 := dkwX8_isWord_1 ++ dktX8_isWord_2
def dkwX8_isWord_0 : List UInt8 := [42, 180, 0, 161, 154, 0, 108, 42, 180, 0, 144, 4, 160, 0, 100, 42, 180, 0, 135, 42, 180, 0, 141]
abbrev dktX8_isWord_0 : List UInt8 := dkwX8_isWord_0 ++ dktX8_isWord_1
theorem dksX8_isWord_0 : cX8_isWord.data.toList.drop 0 = dktX8_isWord_0 := by decide +kernel
theorem dksX8_isWord_1 : cX8_isWord.data.toList.drop 23 = dktX8_isWord_1 := dk_seg dksX8_isWord_0 23 rfl rfl
theorem dksX8_isWord_2 : cX8_isWord.data.toList.drop 47 = dktX8_isWord_2 := dk_seg dksX8_isWord_1 24 rfl rfl
theorem dksX8_isWord_3 : cX8_isWord.data.toList.drop 70 = dktX8_isWord_3 := dk_seg dksX8_isWord_2 23 rfl rfl
theorem dksX8_isWord_4 : cX8_isWord.data.toList.drop 94 = dktX8_isWord_4 := dk_seg dksX8_isWord_3 24 rfl rfl
theorem dX8_isWord_0 : decode cX8_isWord 0 = .ok (.aload_n 0, 1) := dk_42 (dk_at dksX8_isWord_0 0 rfl rfl)
theorem dX8_isWord_1 : decode cX8_isWord 1 = .ok (.getfield 161, 3) := dk_180 0 161 (dk_at dksX8_isWord_0 1 rfl rfl)
theorem dX8_isWord_4 : decode cX8_isWord 4 = .ok (.ifCond .ne 108, 3) := dk_154 0 108 (dk_at dksX8_isWord_0 4 rfl rfl)
theorem dX8_isWord_7 : decode cX8_isWord 7 = .ok (.aload_n 0, 1) := dk_42 (dk_at dksX8_isWord_0 7 rfl rfl)
theorem dX8_isWord_8 : decode cX8_isWord 8 = .ok (.getfield 144, 3) := dk_180 0 144 (dk_at dksX8_isWord_0 8 rfl rfl)
theorem dX8_isWord_11 : decode cX8_isWord 11 = .ok (.iconst 1, 1) := dk_4 (dk_at dksX8_isWord_0 11 rfl rfl)
theorem dX8_isWord_12 : decode cX8_isWord 12 = .ok (.if_icmp .ne 100, 3) := dk_160 0 100 (dk_at dksX8_isWord_0 12 rfl rfl)
theorem dX8_isWord_15 : decode cX8_isWord 15 = .ok (.aload_n 0, 1) := dk_42 (dk_at dksX8_isWord_0 15 rfl rfl)
theorem dX8_isWord_16 : decode cX8_isWord 16 = .ok (.getfield 135, 3) := dk_180 0 135 (dk_at dksX8_isWord_0 16 rfl rfl)
theorem dX8_isWord_19 : decode cX8_isWord 19 = .ok (.aload_n 0, 1) := dk_42 (dk_at dksX8_isWord_0 19 rfl rfl)
theorem dX8_isWord_20 : decode cX8_isWord 20 = .ok (.getfield 141, 3) := dk_180 0 141 (dk_at dksX8_isWord_0 20 rfl rfl)
theorem dX8_isWord_23 : decode cX8_isWord 23 = .ok (.bipush 8, 2) := dk_16 8 (dk_at dksX8_isWord_1 0 rfl rfl)
theorem dX8_isWord_25 : decode cX8_isWord 25 = .ok (.iadd, 1) := dk_96 (dk_at dksX8_isWord_1 2 rfl rfl)
theorem dX8_isWord_26 : decode cX8_isWord 26 = .ok (.if_icmp .gt 86, 3) := dk_163 0 86 (dk_at dksX8_isWord_1 3 rfl rfl)
theorem dX8_isWord_29 : decode cX8_isWord 29 = .ok (.aload_n 0, 1) := dk_42 (dk_at dksX8_isWord_1 6 rfl rfl)
theorem dX8_isWord_30 : decode cX8_isWord 30 = .ok (.iconst 0, 1) := dk_3 (dk_at dksX8_isWord_1 7 rfl rfl)
theorem dX8_isWord_31 : decode cX8_isWord 31 = .ok (.iload_n 1, 1) := dk_27 (dk_at dksX8_isWord_1 8 rfl rfl)
theorem dX8_isWord_32 : decode cX8_isWord 32 = .ok (.invokevirtual 168, 3) := dk_182 0 168 (dk_at dksX8_isWord_1 9 rfl rfl)
theorem dX8_isWord_35 : decode cX8_isWord 35 = .ok (.ifCond .eq 77, 3) := dk_153 0 77 (dk_at dksX8_isWord_1 12 rfl rfl)
theorem dX8_isWord_38 : decode cX8_isWord 38 = .ok (.aload_n 0, 1) := dk_42 (dk_at dksX8_isWord_1 15 rfl rfl)
theorem dX8_isWord_39 : decode cX8_isWord 39 = .ok (.iconst 1, 1) := dk_4 (dk_at dksX8_isWord_1 16 rfl rfl)
theorem dX8_isWord_40 : decode cX8_isWord 40 = .ok (.iload_n 2, 1) := dk_28 (dk_at dksX8_isWord_1 17 rfl rfl)
theorem dX8_isWord_41 : decode cX8_isWord 41 = .ok (.invokevirtual 168, 3) := dk_182 0 168 (dk_at dksX8_isWord_1 18 rfl rfl)
theorem dX8_isWord_44 : decode cX8_isWord 44 = .ok (.ifCond .eq 68, 3) := dk_153 0 68 (dk_at dksX8_isWord_1 21 rfl rfl)
theorem dX8_isWord_47 : decode cX8_isWord 47 = .ok (.aload_n 0, 1) := dk_42 (dk_at dksX8_isWord_2 0 rfl rfl)
theorem dX8_isWord_48 : decode cX8_isWord 48 = .ok (.iconst 2, 1) := dk_5 (dk_at dksX8_isWord_2 1 rfl rfl)
theorem dX8_isWord_49 : decode cX8_isWord 49 = .ok (.iload_n 3, 1) := dk_29 (dk_at dksX8_isWord_2 2 rfl rfl)
theorem dX8_isWord_50 : decode cX8_isWord 50 = .ok (.invokevirtual 168, 3) := dk_182 0 168 (dk_at dksX8_isWord_2 3 rfl rfl)
theorem dX8_isWord_53 : decode cX8_isWord 53 = .ok (.ifCond .eq 59, 3) := dk_153 0 59 (dk_at dksX8_isWord_2 6 rfl rfl)
theorem dX8_isWord_56 : decode cX8_isWord 56 = .ok (.aload_n 0, 1) := dk_42 (dk_at dksX8_isWord_2 9 rfl rfl)
theorem dX8_isWord_57 : decode cX8_isWord 57 = .ok (.iconst 3, 1) := dk_6 (dk_at dksX8_isWord_2 10 rfl rfl)
theorem dX8_isWord_58 : decode cX8_isWord 58 = .ok (.iload 4, 2) := dk_21 4 (dk_at dksX8_isWord_2 11 rfl rfl)
theorem dX8_isWord_60 : decode cX8_isWord 60 = .ok (.invokevirtual 168, 3) := dk_182 0 168 (dk_at dksX8_isWord_2 13 rfl rfl)
theorem dX8_isWord_63 : decode cX8_isWord 63 = .ok (.ifCond .eq 49, 3) := dk_153 0 49 (dk_at dksX8_isWord_2 16 rfl rfl)
theorem dX8_isWord_66 : decode cX8_isWord 66 = .ok (.aload_n 0, 1) := dk_42 (dk_at dksX8_isWord_2 19 rfl rfl)
theorem dX8_isWord_67 : decode cX8_isWord 67 = .ok (.iconst 4, 1) := dk_7 (dk_at dksX8_isWord_2 20 rfl rfl)
theorem dX8_isWord_68 : decode cX8_isWord 68 = .ok (.iload 5, 2) := dk_21 5 (dk_at dksX8_isWord_2 21 rfl rfl)
theorem dX8_isWord_70 : decode cX8_isWord 70 = .ok (.invokevirtual 168, 3) := dk_182 0 168 (dk_at dksX8_isWord_3 0 rfl rfl)
theorem dX8_isWord_73 : decode cX8_isWord 73 = .ok (.ifCond .eq 39, 3) := dk_153 0 39 (dk_at dksX8_isWord_3 3 rfl rfl)
theorem dX8_isWord_76 : decode cX8_isWord 76 = .ok (.aload_n 0, 1) := dk_42 (dk_at dksX8_isWord_3 6 rfl rfl)
theorem dX8_isWord_77 : decode cX8_isWord 77 = .ok (.iconst 5, 1) := dk_8 (dk_at dksX8_isWord_3 7 rfl rfl)
theorem dX8_isWord_78 : decode cX8_isWord 78 = .ok (.iload 6, 2) := dk_21 6 (dk_at dksX8_isWord_3 8 rfl rfl)
theorem dX8_isWord_80 : decode cX8_isWord 80 = .ok (.invokevirtual 168, 3) := dk_182 0 168 (dk_at dksX8_isWord_3 10 rfl rfl)
theorem dX8_isWord_83 : decode cX8_isWord 83 = .ok (.ifCond .eq 29, 3) := dk_153 0 29 (dk_at dksX8_isWord_3 13 rfl rfl)
theorem dX8_isWord_86 : decode cX8_isWord 86 = .ok (.aload_n 0, 1) := dk_42 (dk_at dksX8_isWord_3 16 rfl rfl)
theorem dX8_isWord_87 : decode cX8_isWord 87 = .ok (.bipush 6, 2) := dk_16 6 (dk_at dksX8_isWord_3 17 rfl rfl)
theorem dX8_isWord_89 : decode cX8_isWord 89 = .ok (.iload 7, 2) := dk_21 7 (dk_at dksX8_isWord_3 19 rfl rfl)
theorem dX8_isWord_91 : decode cX8_isWord 91 = .ok (.invokevirtual 168, 3) := dk_182 0 168 (dk_at dksX8_isWord_3 21 rfl rfl)
theorem dX8_isWord_94 : decode cX8_isWord 94 = .ok (.ifCond .eq 18, 3) := dk_153 0 18 (dk_at dksX8_isWord_4 0 rfl rfl)
theorem dX8_isWord_97 : decode cX8_isWord 97 = .ok (.aload_n 0, 1) := dk_42 (dk_at dksX8_isWord_4 3 rfl rfl)
theorem dX8_isWord_98 : decode cX8_isWord 98 = .ok (.bipush 7, 2) := dk_16 7 (dk_at dksX8_isWord_4 4 rfl rfl)
theorem dX8_isWord_100 : decode cX8_isWord 100 = .ok (.iload 8, 2) := dk_21 8 (dk_at dksX8_isWord_4 6 rfl rfl)
theorem dX8_isWord_102 : decode cX8_isWord 102 = .ok (.invokevirtual 168, 3) := dk_182 0 168 (dk_at dksX8_isWord_4 8 rfl rfl)
theorem dX8_isWord_105 : decode cX8_isWord 105 = .ok (.ifCond .eq 7, 3) := dk_153 0 7 (dk_at dksX8_isWord_4 11 rfl rfl)
theorem dX8_isWord_108 : decode cX8_isWord 108 = .ok (.iconst 1, 1) := dk_4 (dk_at dksX8_isWord_4 14 rfl rfl)
theorem dX8_isWord_109 : decode cX8_isWord 109 = .ok (.goto 4, 3) := dk_167 0 4 (dk_at dksX8_isWord_4 15 rfl rfl)
theorem dX8_isWord_112 : decode cX8_isWord 112 = .ok (.iconst 0, 1) := dk_3 (dk_at dksX8_isWord_4 18 rfl rfl)
theorem dX8_isWord_113 : decode cX8_isWord 113 = .ok (.ireturn, 1) := dk_172 (dk_at dksX8_isWord_4 19 rfl rfl)
abbrev cX8_isLetter : ByteArray := prog_16_method_21_code
def yX8_isLetter : MethodName := ⟨RX8, "isLetter", "(II)Z"⟩
def dkwX8_isLetter_1 : List UInt8 := [160, 0, 7, 4, 167, 0, 16, 3, 167, 0, 12, 28, 154, 0, 7, 4, 167, 0, 4, 3, 172]
abbrev dktX8_isLetter_1 : List UInt8 := dkwX8_isLetter_1 ++ []
def dkwX8_isLetter_0 : List UInt8 := [42, 180, 0, 141, 27, 96, 42, 180, 0, 135, 162, 0, 25, 42, 42, 180, 0, 141, 27, 96, 182, 0, 138, 28]
abbrev dktX8_isLetter_0 : List UInt8 := dkwX8_isLetter_0 ++ dktX8_isLetter_1
theorem dksX8_isLetter_0 : cX8_isLetter.data.toList.drop 0 = dktX8_isLetter_0 := by decide +kernel
theorem dksX8_isLetter_1 : cX8_isLetter.data.toList.drop 24 = dktX8_isLetter_1 := dk_seg dksX8_isLetter_0 24 rfl rfl
theorem dX8_isLetter_0 : decode cX8_isLetter 0 = .ok (.aload_n 0, 1) := dk_42 (dk_at dksX8_isLetter_0 0 rfl rfl)
theorem dX8_isLetter_1 : decode cX8_isLetter 1 = .ok (.getfield 141, 3) := dk_180 0 141 (dk_at dksX8_isLetter_0 1 rfl rfl)
theorem dX8_isLetter_4 : decode cX8_isLetter 4 = .ok (.iload_n 1, 1) := dk_27 (dk_at dksX8_isLetter_0 4 rfl rfl)
theorem dX8_isLetter_5 : decode cX8_isLetter 5 = .ok (.iadd, 1) := dk_96 (dk_at dksX8_isLetter_0 5 rfl rfl)
theorem dX8_isLetter_6 : decode cX8_isLetter 6 = .ok (.aload_n 0, 1) := dk_42 (dk_at dksX8_isLetter_0 6 rfl rfl)
theorem dX8_isLetter_7 : decode cX8_isLetter 7 = .ok (.getfield 135, 3) := dk_180 0 135 (dk_at dksX8_isLetter_0 7 rfl rfl)
theorem dX8_isLetter_10 : decode cX8_isLetter 10 = .ok (.if_icmp .ge 25, 3) := dk_162 0 25 (dk_at dksX8_isLetter_0 10 rfl rfl)
theorem dX8_isLetter_13 : decode cX8_isLetter 13 = .ok (.aload_n 0, 1) := dk_42 (dk_at dksX8_isLetter_0 13 rfl rfl)
theorem dX8_isLetter_14 : decode cX8_isLetter 14 = .ok (.aload_n 0, 1) := dk_42 (dk_at dksX8_isLetter_0 14 rfl rfl)
theorem dX8_isLetter_15 : decode cX8_isLetter 15 = .ok (.getfield 141, 3) := dk_180 0 141 (dk_at dksX8_isLetter_0 15 rfl rfl)
theorem dX8_isLetter_18 : decode cX8_isLetter 18 = .ok (.iload_n 1, 1) := dk_27 (dk_at dksX8_isLetter_0 18 rfl rfl)
theorem dX8_isLetter_19 : decode cX8_isLetter 19 = .ok (.iadd, 1) := dk_96 (dk_at dksX8_isLetter_0 19 rfl rfl)
theorem dX8_isLetter_20 : decode cX8_isLetter 20 = .ok (.invokevirtual 138, 3) := dk_182 0 138 (dk_at dksX8_isLetter_0 20 rfl rfl)
theorem dX8_isLetter_23 : decode cX8_isLetter 23 = .ok (.iload_n 2, 1) := dk_28 (dk_at dksX8_isLetter_0 23 rfl rfl)
theorem dX8_isLetter_24 : decode cX8_isLetter 24 = .ok (.if_icmp .ne 7, 3) := dk_160 0 7 (dk_at dksX8_isLetter_1 0 rfl rfl)
theorem dX8_isLetter_27 : decode cX8_isLetter 27 = .ok (.iconst 1, 1) := dk_4 (dk_at dksX8_isLetter_1 3 rfl rfl)
theorem dX8_isLetter_28 : decode cX8_isLetter 28 = .ok (.goto 16, 3) := dk_167 0 16 (dk_at dksX8_isLetter_1 4 rfl rfl)
theorem dX8_isLetter_31 : decode cX8_isLetter 31 = .ok (.iconst 0, 1) := dk_3 (dk_at dksX8_isLetter_1 7 rfl rfl)
theorem dX8_isLetter_32 : decode cX8_isLetter 32 = .ok (.goto 12, 3) := dk_167 0 12 (dk_at dksX8_isLetter_1 8 rfl rfl)
theorem dX8_isLetter_35 : decode cX8_isLetter 35 = .ok (.iload_n 2, 1) := dk_28 (dk_at dksX8_isLetter_1 11 rfl rfl)
theorem dX8_isLetter_36 : decode cX8_isLetter 36 = .ok (.ifCond .ne 7, 3) := dk_154 0 7 (dk_at dksX8_isLetter_1 12 rfl rfl)
theorem dX8_isLetter_39 : decode cX8_isLetter 39 = .ok (.iconst 1, 1) := dk_4 (dk_at dksX8_isLetter_1 15 rfl rfl)
theorem dX8_isLetter_40 : decode cX8_isLetter 40 = .ok (.goto 4, 3) := dk_167 0 4 (dk_at dksX8_isLetter_1 16 rfl rfl)
theorem dX8_isLetter_43 : decode cX8_isLetter 43 = .ok (.iconst 0, 1) := dk_3 (dk_at dksX8_isLetter_1 19 rfl rfl)
theorem dX8_isLetter_44 : decode cX8_isLetter 44 = .ok (.ireturn, 1) := dk_172 (dk_at dksX8_isLetter_1 20 rfl rfl)
abbrev cX8_part : ByteArray := prog_16_method_62_code
def yX8_part : MethodName := ⟨RX8, "part", "(Z)I"⟩
def dkwX8_part_2 : List UInt8 := [182, 0, 175, 42, 180, 0, 161, 154, 0, 7, 42, 182, 0, 178, 28, 172]
abbrev dktX8_part_2 : List UInt8 := dkwX8_part_2 ++ []
def dkwX8_part_1 : List UInt8 := [153, 0, 7, 3, 167, 0, 7, 42, 182, 1, 67, 61, 42, 16, 59, 182, 0, 203, 154, 0, 7, 42]
abbrev dktX8_part_1 : List UInt8 := dkwX8_part_1 ++ dktX8_part_2
def dkwX8_part_0 : List UInt8 := [27, 154, 0, 7, 42, 182, 0, 175, 42, 180, 0, 161, 154, 0, 7, 42, 182, 0, 178, 42, 180, 0, 161]
abbrev dktX8_part_0 : List UInt8 := dkwX8_part_0 ++ dktX8_part_1
theorem dksX8_part_0 : cX8_part.data.toList.drop 0 = dktX8_part_0 := by decide +kernel
theorem dksX8_part_1 : cX8_part.data.toList.drop 23 = dktX8_part_1 := dk_seg dksX8_part_0 23 rfl rfl
theorem dksX8_part_2 : cX8_part.data.toList.drop 45 = dktX8_part_2 := dk_seg dksX8_part_1 22 rfl rfl
theorem dX8_part_0 : decode cX8_part 0 = .ok (.iload_n 1, 1) := dk_27 (dk_at dksX8_part_0 0 rfl rfl)
theorem dX8_part_1 : decode cX8_part 1 = .ok (.ifCond .ne 7, 3) := dk_154 0 7 (dk_at dksX8_part_0 1 rfl rfl)
theorem dX8_part_4 : decode cX8_part 4 = .ok (.aload_n 0, 1) := dk_42 (dk_at dksX8_part_0 4 rfl rfl)
theorem dX8_part_5 : decode cX8_part 5 = .ok (.invokevirtual 175, 3) := dk_182 0 175 (dk_at dksX8_part_0 5 rfl rfl)
theorem dX8_part_8 : decode cX8_part 8 = .ok (.aload_n 0, 1) := dk_42 (dk_at dksX8_part_0 8 rfl rfl)
theorem dX8_part_9 : decode cX8_part 9 = .ok (.getfield 161, 3) := dk_180 0 161 (dk_at dksX8_part_0 9 rfl rfl)
theorem dX8_part_12 : decode cX8_part 12 = .ok (.ifCond .ne 7, 3) := dk_154 0 7 (dk_at dksX8_part_0 12 rfl rfl)
theorem dX8_part_15 : decode cX8_part 15 = .ok (.aload_n 0, 1) := dk_42 (dk_at dksX8_part_0 15 rfl rfl)
theorem dX8_part_16 : decode cX8_part 16 = .ok (.invokevirtual 178, 3) := dk_182 0 178 (dk_at dksX8_part_0 16 rfl rfl)
theorem dX8_part_19 : decode cX8_part 19 = .ok (.aload_n 0, 1) := dk_42 (dk_at dksX8_part_0 19 rfl rfl)
theorem dX8_part_20 : decode cX8_part 20 = .ok (.getfield 161, 3) := dk_180 0 161 (dk_at dksX8_part_0 20 rfl rfl)
theorem dX8_part_23 : decode cX8_part 23 = .ok (.ifCond .eq 7, 3) := dk_153 0 7 (dk_at dksX8_part_1 0 rfl rfl)
theorem dX8_part_26 : decode cX8_part 26 = .ok (.iconst 0, 1) := dk_3 (dk_at dksX8_part_1 3 rfl rfl)
theorem dX8_part_27 : decode cX8_part 27 = .ok (.goto 7, 3) := dk_167 0 7 (dk_at dksX8_part_1 4 rfl rfl)
theorem dX8_part_30 : decode cX8_part 30 = .ok (.aload_n 0, 1) := dk_42 (dk_at dksX8_part_1 7 rfl rfl)
theorem dX8_part_31 : decode cX8_part 31 = .ok (.invokevirtual 323, 3) := dk_182 1 67 (dk_at dksX8_part_1 8 rfl rfl)
theorem dX8_part_34 : decode cX8_part 34 = .ok (.istore_n 2, 1) := dk_61 (dk_at dksX8_part_1 11 rfl rfl)
theorem dX8_part_35 : decode cX8_part 35 = .ok (.aload_n 0, 1) := dk_42 (dk_at dksX8_part_1 12 rfl rfl)
theorem dX8_part_36 : decode cX8_part 36 = .ok (.bipush 59, 2) := dk_16 59 (dk_at dksX8_part_1 13 rfl rfl)
theorem dX8_part_38 : decode cX8_part 38 = .ok (.invokevirtual 203, 3) := dk_182 0 203 (dk_at dksX8_part_1 15 rfl rfl)
theorem dX8_part_41 : decode cX8_part 41 = .ok (.ifCond .ne 7, 3) := dk_154 0 7 (dk_at dksX8_part_1 18 rfl rfl)
theorem dX8_part_44 : decode cX8_part 44 = .ok (.aload_n 0, 1) := dk_42 (dk_at dksX8_part_1 21 rfl rfl)
theorem dX8_part_45 : decode cX8_part 45 = .ok (.invokevirtual 175, 3) := dk_182 0 175 (dk_at dksX8_part_2 0 rfl rfl)
theorem dX8_part_48 : decode cX8_part 48 = .ok (.aload_n 0, 1) := dk_42 (dk_at dksX8_part_2 3 rfl rfl)
theorem dX8_part_49 : decode cX8_part 49 = .ok (.getfield 161, 3) := dk_180 0 161 (dk_at dksX8_part_2 4 rfl rfl)
theorem dX8_part_52 : decode cX8_part 52 = .ok (.ifCond .ne 7, 3) := dk_154 0 7 (dk_at dksX8_part_2 7 rfl rfl)
theorem dX8_part_55 : decode cX8_part 55 = .ok (.aload_n 0, 1) := dk_42 (dk_at dksX8_part_2 10 rfl rfl)
theorem dX8_part_56 : decode cX8_part 56 = .ok (.invokevirtual 178, 3) := dk_182 0 178 (dk_at dksX8_part_2 11 rfl rfl)
theorem dX8_part_59 : decode cX8_part 59 = .ok (.iload_n 2, 1) := dk_28 (dk_at dksX8_part_2 14 rfl rfl)
theorem dX8_part_60 : decode cX8_part 60 = .ok (.ireturn, 1) := dk_172 (dk_at dksX8_part_2 15 rfl rfl)
abbrev cX8_fail : ByteArray := prog_16_method_20_code
def yX8_fail : MethodName := ⟨RX8, "fail", "()V"⟩
def dkwX8_fail_0 : List UInt8 := [42, 180, 0, 161, 154, 0, 16, 42, 4, 181, 0, 161, 42, 42, 180, 0, 141, 181, 0, 165, 177]
abbrev dktX8_fail_0 : List UInt8 := dkwX8_fail_0 ++ []
theorem dksX8_fail_0 : cX8_fail.data.toList.drop 0 = dktX8_fail_0 := by decide +kernel
theorem dX8_fail_0 : decode cX8_fail 0 = .ok (.aload_n 0, 1) := dk_42 (dk_at dksX8_fail_0 0 rfl rfl)
theorem dX8_fail_1 : decode cX8_fail 1 = .ok (.getfield 161, 3) := dk_180 0 161 (dk_at dksX8_fail_0 1 rfl rfl)
theorem dX8_fail_4 : decode cX8_fail 4 = .ok (.ifCond .ne 16, 3) := dk_154 0 16 (dk_at dksX8_fail_0 4 rfl rfl)
theorem dX8_fail_7 : decode cX8_fail 7 = .ok (.aload_n 0, 1) := dk_42 (dk_at dksX8_fail_0 7 rfl rfl)
theorem dX8_fail_8 : decode cX8_fail 8 = .ok (.iconst 1, 1) := dk_4 (dk_at dksX8_fail_0 8 rfl rfl)
theorem dX8_fail_9 : decode cX8_fail 9 = .ok (.putfield 161, 3) := dk_181 0 161 (dk_at dksX8_fail_0 9 rfl rfl)
theorem dX8_fail_12 : decode cX8_fail 12 = .ok (.aload_n 0, 1) := dk_42 (dk_at dksX8_fail_0 12 rfl rfl)
theorem dX8_fail_13 : decode cX8_fail 13 = .ok (.aload_n 0, 1) := dk_42 (dk_at dksX8_fail_0 13 rfl rfl)
theorem dX8_fail_14 : decode cX8_fail 14 = .ok (.getfield 141, 3) := dk_180 0 141 (dk_at dksX8_fail_0 14 rfl rfl)
theorem dX8_fail_17 : decode cX8_fail 17 = .ok (.putfield 165, 3) := dk_181 0 165 (dk_at dksX8_fail_0 17 rfl rfl)
theorem dX8_fail_20 : decode cX8_fail 20 = .ok (.return_, 1) := dk_177 (dk_at dksX8_fail_0 20 rfl rfl)
abbrev cX8_either0 : ByteArray := prog_16_method_61_code
def yX8_either0 : MethodName := ⟨RX8, "either0", "()I"⟩
def dkwX8_either0_2 : List UInt8 := [167, 255, 216, 27, 172]
abbrev dktX8_either0_2 : List UInt8 := dkwX8_either0_2 ++ []
def dkwX8_either0_1 : List UInt8 := [182, 0, 178, 42, 182, 1, 64, 61, 27, 154, 0, 7, 28, 153, 0, 7, 4, 167, 0, 4, 3, 60]
abbrev dktX8_either0_1 : List UInt8 := dkwX8_either0_1 ++ dktX8_either0_2
def dkwX8_either0_0 : List UInt8 := [42, 182, 1, 64, 60, 42, 16, 111, 16, 114, 3, 3, 3, 3, 3, 3, 182, 0, 181, 153, 0, 29, 42]
abbrev dktX8_either0_0 : List UInt8 := dkwX8_either0_0 ++ dktX8_either0_1
theorem dksX8_either0_0 : cX8_either0.data.toList.drop 0 = dktX8_either0_0 := by decide +kernel
theorem dksX8_either0_1 : cX8_either0.data.toList.drop 23 = dktX8_either0_1 := dk_seg dksX8_either0_0 23 rfl rfl
theorem dksX8_either0_2 : cX8_either0.data.toList.drop 45 = dktX8_either0_2 := dk_seg dksX8_either0_1 22 rfl rfl
theorem dX8_either0_0 : decode cX8_either0 0 = .ok (.aload_n 0, 1) := dk_42 (dk_at dksX8_either0_0 0 rfl rfl)
theorem dX8_either0_1 : decode cX8_either0 1 = .ok (.invokevirtual 320, 3) := dk_182 1 64 (dk_at dksX8_either0_0 1 rfl rfl)
theorem dX8_either0_4 : decode cX8_either0 4 = .ok (.istore_n 1, 1) := dk_60 (dk_at dksX8_either0_0 4 rfl rfl)
theorem dX8_either0_5 : decode cX8_either0 5 = .ok (.aload_n 0, 1) := dk_42 (dk_at dksX8_either0_0 5 rfl rfl)
theorem dX8_either0_6 : decode cX8_either0 6 = .ok (.bipush 111, 2) := dk_16 111 (dk_at dksX8_either0_0 6 rfl rfl)
theorem dX8_either0_8 : decode cX8_either0 8 = .ok (.bipush 114, 2) := dk_16 114 (dk_at dksX8_either0_0 8 rfl rfl)
theorem dX8_either0_10 : decode cX8_either0 10 = .ok (.iconst 0, 1) := dk_3 (dk_at dksX8_either0_0 10 rfl rfl)
theorem dX8_either0_11 : decode cX8_either0 11 = .ok (.iconst 0, 1) := dk_3 (dk_at dksX8_either0_0 11 rfl rfl)
theorem dX8_either0_12 : decode cX8_either0 12 = .ok (.iconst 0, 1) := dk_3 (dk_at dksX8_either0_0 12 rfl rfl)
theorem dX8_either0_13 : decode cX8_either0 13 = .ok (.iconst 0, 1) := dk_3 (dk_at dksX8_either0_0 13 rfl rfl)
theorem dX8_either0_14 : decode cX8_either0 14 = .ok (.iconst 0, 1) := dk_3 (dk_at dksX8_either0_0 14 rfl rfl)
theorem dX8_either0_15 : decode cX8_either0 15 = .ok (.iconst 0, 1) := dk_3 (dk_at dksX8_either0_0 15 rfl rfl)
theorem dX8_either0_16 : decode cX8_either0 16 = .ok (.invokevirtual 181, 3) := dk_182 0 181 (dk_at dksX8_either0_0 16 rfl rfl)
theorem dX8_either0_19 : decode cX8_either0 19 = .ok (.ifCond .eq 29, 3) := dk_153 0 29 (dk_at dksX8_either0_0 19 rfl rfl)
theorem dX8_either0_22 : decode cX8_either0 22 = .ok (.aload_n 0, 1) := dk_42 (dk_at dksX8_either0_0 22 rfl rfl)
theorem dX8_either0_23 : decode cX8_either0 23 = .ok (.invokevirtual 178, 3) := dk_182 0 178 (dk_at dksX8_either0_1 0 rfl rfl)
theorem dX8_either0_26 : decode cX8_either0 26 = .ok (.aload_n 0, 1) := dk_42 (dk_at dksX8_either0_1 3 rfl rfl)
theorem dX8_either0_27 : decode cX8_either0 27 = .ok (.invokevirtual 320, 3) := dk_182 1 64 (dk_at dksX8_either0_1 4 rfl rfl)
theorem dX8_either0_30 : decode cX8_either0 30 = .ok (.istore_n 2, 1) := dk_61 (dk_at dksX8_either0_1 7 rfl rfl)
theorem dX8_either0_31 : decode cX8_either0 31 = .ok (.iload_n 1, 1) := dk_27 (dk_at dksX8_either0_1 8 rfl rfl)
theorem dX8_either0_32 : decode cX8_either0 32 = .ok (.ifCond .ne 7, 3) := dk_154 0 7 (dk_at dksX8_either0_1 9 rfl rfl)
theorem dX8_either0_35 : decode cX8_either0 35 = .ok (.iload_n 2, 1) := dk_28 (dk_at dksX8_either0_1 12 rfl rfl)
theorem dX8_either0_36 : decode cX8_either0 36 = .ok (.ifCond .eq 7, 3) := dk_153 0 7 (dk_at dksX8_either0_1 13 rfl rfl)
theorem dX8_either0_39 : decode cX8_either0 39 = .ok (.iconst 1, 1) := dk_4 (dk_at dksX8_either0_1 16 rfl rfl)
theorem dX8_either0_40 : decode cX8_either0 40 = .ok (.goto 4, 3) := dk_167 0 4 (dk_at dksX8_either0_1 17 rfl rfl)
theorem dX8_either0_43 : decode cX8_either0 43 = .ok (.iconst 0, 1) := dk_3 (dk_at dksX8_either0_1 20 rfl rfl)
theorem dX8_either0_44 : decode cX8_either0 44 = .ok (.istore_n 1, 1) := dk_60 (dk_at dksX8_either0_1 21 rfl rfl)
theorem dX8_either0_45 : decode cX8_either0 45 = .ok (.goto (-40), 3) := dk_167 255 216 (dk_at dksX8_either0_2 0 rfl rfl)
theorem dX8_either0_48 : decode cX8_either0 48 = .ok (.iload_n 1, 1) := dk_27 (dk_at dksX8_either0_2 3 rfl rfl)
theorem dX8_either0_49 : decode cX8_either0 49 = .ok (.ireturn, 1) := dk_172 (dk_at dksX8_either0_2 4 rfl rfl)
abbrev cX8_both0 : ByteArray := prog_16_method_60_code
def yX8_both0 : MethodName := ⟨RX8, "both0", "()I"⟩
def dkwX8_both0_2 : List UInt8 := [167, 255, 215, 27, 172]
abbrev dktX8_both0_2 : List UInt8 := dkwX8_both0_2 ++ []
def dkwX8_both0_1 : List UInt8 := [182, 0, 178, 42, 182, 1, 61, 61, 27, 153, 0, 11, 28, 153, 0, 7, 4, 167, 0, 4, 3, 60]
abbrev dktX8_both0_1 : List UInt8 := dkwX8_both0_1 ++ dktX8_both0_2
def dkwX8_both0_0 : List UInt8 := [42, 182, 1, 61, 60, 42, 16, 97, 16, 110, 16, 100, 3, 3, 3, 3, 3, 182, 0, 181, 153, 0, 29, 42]
abbrev dktX8_both0_0 : List UInt8 := dkwX8_both0_0 ++ dktX8_both0_1
theorem dksX8_both0_0 : cX8_both0.data.toList.drop 0 = dktX8_both0_0 := by decide +kernel
theorem dksX8_both0_1 : cX8_both0.data.toList.drop 24 = dktX8_both0_1 := dk_seg dksX8_both0_0 24 rfl rfl
theorem dksX8_both0_2 : cX8_both0.data.toList.drop 46 = dktX8_both0_2 := dk_seg dksX8_both0_1 22 rfl rfl
theorem dX8_both0_0 : decode cX8_both0 0 = .ok (.aload_n 0, 1) := dk_42 (dk_at dksX8_both0_0 0 rfl rfl)
theorem dX8_both0_1 : decode cX8_both0 1 = .ok (.invokevirtual 317, 3) := dk_182 1 61 (dk_at dksX8_both0_0 1 rfl rfl)
theorem dX8_both0_4 : decode cX8_both0 4 = .ok (.istore_n 1, 1) := dk_60 (dk_at dksX8_both0_0 4 rfl rfl)
theorem dX8_both0_5 : decode cX8_both0 5 = .ok (.aload_n 0, 1) := dk_42 (dk_at dksX8_both0_0 5 rfl rfl)
theorem dX8_both0_6 : decode cX8_both0 6 = .ok (.bipush 97, 2) := dk_16 97 (dk_at dksX8_both0_0 6 rfl rfl)
theorem dX8_both0_8 : decode cX8_both0 8 = .ok (.bipush 110, 2) := dk_16 110 (dk_at dksX8_both0_0 8 rfl rfl)
theorem dX8_both0_10 : decode cX8_both0 10 = .ok (.bipush 100, 2) := dk_16 100 (dk_at dksX8_both0_0 10 rfl rfl)
theorem dX8_both0_12 : decode cX8_both0 12 = .ok (.iconst 0, 1) := dk_3 (dk_at dksX8_both0_0 12 rfl rfl)
theorem dX8_both0_13 : decode cX8_both0 13 = .ok (.iconst 0, 1) := dk_3 (dk_at dksX8_both0_0 13 rfl rfl)
theorem dX8_both0_14 : decode cX8_both0 14 = .ok (.iconst 0, 1) := dk_3 (dk_at dksX8_both0_0 14 rfl rfl)
theorem dX8_both0_15 : decode cX8_both0 15 = .ok (.iconst 0, 1) := dk_3 (dk_at dksX8_both0_0 15 rfl rfl)
theorem dX8_both0_16 : decode cX8_both0 16 = .ok (.iconst 0, 1) := dk_3 (dk_at dksX8_both0_0 16 rfl rfl)
theorem dX8_both0_17 : decode cX8_both0 17 = .ok (.invokevirtual 181, 3) := dk_182 0 181 (dk_at dksX8_both0_0 17 rfl rfl)
theorem dX8_both0_20 : decode cX8_both0 20 = .ok (.ifCond .eq 29, 3) := dk_153 0 29 (dk_at dksX8_both0_0 20 rfl rfl)
theorem dX8_both0_23 : decode cX8_both0 23 = .ok (.aload_n 0, 1) := dk_42 (dk_at dksX8_both0_0 23 rfl rfl)
theorem dX8_both0_24 : decode cX8_both0 24 = .ok (.invokevirtual 178, 3) := dk_182 0 178 (dk_at dksX8_both0_1 0 rfl rfl)
theorem dX8_both0_27 : decode cX8_both0 27 = .ok (.aload_n 0, 1) := dk_42 (dk_at dksX8_both0_1 3 rfl rfl)
theorem dX8_both0_28 : decode cX8_both0 28 = .ok (.invokevirtual 317, 3) := dk_182 1 61 (dk_at dksX8_both0_1 4 rfl rfl)
theorem dX8_both0_31 : decode cX8_both0 31 = .ok (.istore_n 2, 1) := dk_61 (dk_at dksX8_both0_1 7 rfl rfl)
theorem dX8_both0_32 : decode cX8_both0 32 = .ok (.iload_n 1, 1) := dk_27 (dk_at dksX8_both0_1 8 rfl rfl)
theorem dX8_both0_33 : decode cX8_both0 33 = .ok (.ifCond .eq 11, 3) := dk_153 0 11 (dk_at dksX8_both0_1 9 rfl rfl)
theorem dX8_both0_36 : decode cX8_both0 36 = .ok (.iload_n 2, 1) := dk_28 (dk_at dksX8_both0_1 12 rfl rfl)
theorem dX8_both0_37 : decode cX8_both0 37 = .ok (.ifCond .eq 7, 3) := dk_153 0 7 (dk_at dksX8_both0_1 13 rfl rfl)
theorem dX8_both0_40 : decode cX8_both0 40 = .ok (.iconst 1, 1) := dk_4 (dk_at dksX8_both0_1 16 rfl rfl)
theorem dX8_both0_41 : decode cX8_both0 41 = .ok (.goto 4, 3) := dk_167 0 4 (dk_at dksX8_both0_1 17 rfl rfl)
theorem dX8_both0_44 : decode cX8_both0 44 = .ok (.iconst 0, 1) := dk_3 (dk_at dksX8_both0_1 20 rfl rfl)
theorem dX8_both0_45 : decode cX8_both0 45 = .ok (.istore_n 1, 1) := dk_60 (dk_at dksX8_both0_1 21 rfl rfl)
theorem dX8_both0_46 : decode cX8_both0 46 = .ok (.goto (-41), 3) := dk_167 255 215 (dk_at dksX8_both0_2 0 rfl rfl)
theorem dX8_both0_49 : decode cX8_both0 49 = .ok (.iload_n 1, 1) := dk_27 (dk_at dksX8_both0_2 3 rfl rfl)
theorem dX8_both0_50 : decode cX8_both0 50 = .ok (.ireturn, 1) := dk_172 (dk_at dksX8_both0_2 4 rfl rfl)
abbrev cX8_not0 : ByteArray := prog_16_method_59_code
def yX8_not0 : MethodName := ⟨RX8, "not0", "()I"⟩
def dkwX8_not0_5 : List UInt8 := [160, 0, 7, 4, 167, 0, 4, 3, 172]
abbrev dktX8_not0_5 : List UInt8 := dkwX8_not0_5 ++ []
def dkwX8_not0_4 : List UInt8 := [61, 42, 182, 0, 178, 42, 182, 1, 58, 62, 28, 153, 0, 11, 27, 29, 162, 0, 15, 167, 0, 8, 27, 29]
abbrev dktX8_not0_4 : List UInt8 := dkwX8_not0_4 ++ dktX8_not0_5
def dkwX8_not0_3 : List UInt8 := [182, 0, 203, 154, 0, 5, 27, 172, 42, 180, 0, 155, 20, 0, 225, 148, 154, 0, 7, 4, 167, 0, 4, 3]
abbrev dktX8_not0_3 : List UInt8 := dkwX8_not0_3 ++ dktX8_not0_4
def dkwX8_not0_2 : List UInt8 := [4, 167, 0, 4, 3, 172, 42, 182, 1, 58, 60, 42, 16, 60, 182, 0, 203, 154, 0, 14, 42, 16, 61]
abbrev dktX8_not0_2 : List UInt8 := dkwX8_not0_2 ++ dktX8_not0_3
def dkwX8_not0_1 : List UInt8 := [154, 0, 5, 3, 172, 42, 182, 1, 43, 60, 42, 89, 180, 0, 172, 4, 100, 181, 0, 172, 27, 154, 0, 7]
abbrev dktX8_not0_1 : List UInt8 := dkwX8_not0_1 ++ dktX8_not0_2
def dkwX8_not0_0 : List UInt8 := [42, 16, 110, 16, 111, 16, 116, 3, 3, 3, 3, 3, 182, 0, 181, 153, 0, 37, 42, 182, 0, 206]
abbrev dktX8_not0_0 : List UInt8 := dkwX8_not0_0 ++ dktX8_not0_1
theorem dksX8_not0_0 : cX8_not0.data.toList.drop 0 = dktX8_not0_0 := by decide +kernel
theorem dksX8_not0_1 : cX8_not0.data.toList.drop 22 = dktX8_not0_1 := dk_seg dksX8_not0_0 22 rfl rfl
theorem dksX8_not0_2 : cX8_not0.data.toList.drop 46 = dktX8_not0_2 := dk_seg dksX8_not0_1 24 rfl rfl
theorem dksX8_not0_3 : cX8_not0.data.toList.drop 69 = dktX8_not0_3 := dk_seg dksX8_not0_2 23 rfl rfl
theorem dksX8_not0_4 : cX8_not0.data.toList.drop 93 = dktX8_not0_4 := dk_seg dksX8_not0_3 24 rfl rfl
theorem dksX8_not0_5 : cX8_not0.data.toList.drop 117 = dktX8_not0_5 := dk_seg dksX8_not0_4 24 rfl rfl
theorem dX8_not0_0 : decode cX8_not0 0 = .ok (.aload_n 0, 1) := dk_42 (dk_at dksX8_not0_0 0 rfl rfl)
theorem dX8_not0_1 : decode cX8_not0 1 = .ok (.bipush 110, 2) := dk_16 110 (dk_at dksX8_not0_0 1 rfl rfl)
theorem dX8_not0_3 : decode cX8_not0 3 = .ok (.bipush 111, 2) := dk_16 111 (dk_at dksX8_not0_0 3 rfl rfl)
theorem dX8_not0_5 : decode cX8_not0 5 = .ok (.bipush 116, 2) := dk_16 116 (dk_at dksX8_not0_0 5 rfl rfl)
theorem dX8_not0_7 : decode cX8_not0 7 = .ok (.iconst 0, 1) := dk_3 (dk_at dksX8_not0_0 7 rfl rfl)
theorem dX8_not0_8 : decode cX8_not0 8 = .ok (.iconst 0, 1) := dk_3 (dk_at dksX8_not0_0 8 rfl rfl)
theorem dX8_not0_9 : decode cX8_not0 9 = .ok (.iconst 0, 1) := dk_3 (dk_at dksX8_not0_0 9 rfl rfl)
theorem dX8_not0_10 : decode cX8_not0 10 = .ok (.iconst 0, 1) := dk_3 (dk_at dksX8_not0_0 10 rfl rfl)
theorem dX8_not0_11 : decode cX8_not0 11 = .ok (.iconst 0, 1) := dk_3 (dk_at dksX8_not0_0 11 rfl rfl)
theorem dX8_not0_12 : decode cX8_not0 12 = .ok (.invokevirtual 181, 3) := dk_182 0 181 (dk_at dksX8_not0_0 12 rfl rfl)
theorem dX8_not0_15 : decode cX8_not0 15 = .ok (.ifCond .eq 37, 3) := dk_153 0 37 (dk_at dksX8_not0_0 15 rfl rfl)
theorem dX8_not0_18 : decode cX8_not0 18 = .ok (.aload_n 0, 1) := dk_42 (dk_at dksX8_not0_0 18 rfl rfl)
theorem dX8_not0_19 : decode cX8_not0 19 = .ok (.invokevirtual 206, 3) := dk_182 0 206 (dk_at dksX8_not0_0 19 rfl rfl)
theorem dX8_not0_22 : decode cX8_not0 22 = .ok (.ifCond .ne 5, 3) := dk_154 0 5 (dk_at dksX8_not0_1 0 rfl rfl)
theorem dX8_not0_25 : decode cX8_not0 25 = .ok (.iconst 0, 1) := dk_3 (dk_at dksX8_not0_1 3 rfl rfl)
theorem dX8_not0_26 : decode cX8_not0 26 = .ok (.ireturn, 1) := dk_172 (dk_at dksX8_not0_1 4 rfl rfl)
theorem dX8_not0_27 : decode cX8_not0 27 = .ok (.aload_n 0, 1) := dk_42 (dk_at dksX8_not0_1 5 rfl rfl)
theorem dX8_not0_28 : decode cX8_not0 28 = .ok (.invokevirtual 299, 3) := dk_182 1 43 (dk_at dksX8_not0_1 6 rfl rfl)
theorem dX8_not0_31 : decode cX8_not0 31 = .ok (.istore_n 1, 1) := dk_60 (dk_at dksX8_not0_1 9 rfl rfl)
theorem dX8_not0_32 : decode cX8_not0 32 = .ok (.aload_n 0, 1) := dk_42 (dk_at dksX8_not0_1 10 rfl rfl)
theorem dX8_not0_33 : decode cX8_not0 33 = .ok (.dup, 1) := dk_89 (dk_at dksX8_not0_1 11 rfl rfl)
theorem dX8_not0_34 : decode cX8_not0 34 = .ok (.getfield 172, 3) := dk_180 0 172 (dk_at dksX8_not0_1 12 rfl rfl)
theorem dX8_not0_37 : decode cX8_not0 37 = .ok (.iconst 1, 1) := dk_4 (dk_at dksX8_not0_1 15 rfl rfl)
theorem dX8_not0_38 : decode cX8_not0 38 = .ok (.isub, 1) := dk_100 (dk_at dksX8_not0_1 16 rfl rfl)
theorem dX8_not0_39 : decode cX8_not0 39 = .ok (.putfield 172, 3) := dk_181 0 172 (dk_at dksX8_not0_1 17 rfl rfl)
theorem dX8_not0_42 : decode cX8_not0 42 = .ok (.iload_n 1, 1) := dk_27 (dk_at dksX8_not0_1 20 rfl rfl)
theorem dX8_not0_43 : decode cX8_not0 43 = .ok (.ifCond .ne 7, 3) := dk_154 0 7 (dk_at dksX8_not0_1 21 rfl rfl)
theorem dX8_not0_46 : decode cX8_not0 46 = .ok (.iconst 1, 1) := dk_4 (dk_at dksX8_not0_2 0 rfl rfl)
theorem dX8_not0_47 : decode cX8_not0 47 = .ok (.goto 4, 3) := dk_167 0 4 (dk_at dksX8_not0_2 1 rfl rfl)
theorem dX8_not0_50 : decode cX8_not0 50 = .ok (.iconst 0, 1) := dk_3 (dk_at dksX8_not0_2 4 rfl rfl)
theorem dX8_not0_51 : decode cX8_not0 51 = .ok (.ireturn, 1) := dk_172 (dk_at dksX8_not0_2 5 rfl rfl)
theorem dX8_not0_52 : decode cX8_not0 52 = .ok (.aload_n 0, 1) := dk_42 (dk_at dksX8_not0_2 6 rfl rfl)
theorem dX8_not0_53 : decode cX8_not0 53 = .ok (.invokevirtual 314, 3) := dk_182 1 58 (dk_at dksX8_not0_2 7 rfl rfl)
theorem dX8_not0_56 : decode cX8_not0 56 = .ok (.istore_n 1, 1) := dk_60 (dk_at dksX8_not0_2 10 rfl rfl)
theorem dX8_not0_57 : decode cX8_not0 57 = .ok (.aload_n 0, 1) := dk_42 (dk_at dksX8_not0_2 11 rfl rfl)
theorem dX8_not0_58 : decode cX8_not0 58 = .ok (.bipush 60, 2) := dk_16 60 (dk_at dksX8_not0_2 12 rfl rfl)
theorem dX8_not0_60 : decode cX8_not0 60 = .ok (.invokevirtual 203, 3) := dk_182 0 203 (dk_at dksX8_not0_2 14 rfl rfl)
theorem dX8_not0_63 : decode cX8_not0 63 = .ok (.ifCond .ne 14, 3) := dk_154 0 14 (dk_at dksX8_not0_2 17 rfl rfl)
theorem dX8_not0_66 : decode cX8_not0 66 = .ok (.aload_n 0, 1) := dk_42 (dk_at dksX8_not0_2 20 rfl rfl)
theorem dX8_not0_67 : decode cX8_not0 67 = .ok (.bipush 61, 2) := dk_16 61 (dk_at dksX8_not0_2 21 rfl rfl)
theorem dX8_not0_69 : decode cX8_not0 69 = .ok (.invokevirtual 203, 3) := dk_182 0 203 (dk_at dksX8_not0_3 0 rfl rfl)
theorem dX8_not0_72 : decode cX8_not0 72 = .ok (.ifCond .ne 5, 3) := dk_154 0 5 (dk_at dksX8_not0_3 3 rfl rfl)
theorem dX8_not0_75 : decode cX8_not0 75 = .ok (.iload_n 1, 1) := dk_27 (dk_at dksX8_not0_3 6 rfl rfl)
theorem dX8_not0_76 : decode cX8_not0 76 = .ok (.ireturn, 1) := dk_172 (dk_at dksX8_not0_3 7 rfl rfl)
theorem dX8_not0_77 : decode cX8_not0 77 = .ok (.aload_n 0, 1) := dk_42 (dk_at dksX8_not0_3 8 rfl rfl)
theorem dX8_not0_78 : decode cX8_not0 78 = .ok (.getfield 155, 3) := dk_180 0 155 (dk_at dksX8_not0_3 9 rfl rfl)
theorem dX8_not0_81 : decode cX8_not0 81 = .ok (.ldc2_w 225, 3) := dk_20 0 225 (dk_at dksX8_not0_3 12 rfl rfl)
theorem dX8_not0_84 : decode cX8_not0 84 = .ok (.lcmp, 1) := dk_148 (dk_at dksX8_not0_3 15 rfl rfl)
theorem dX8_not0_85 : decode cX8_not0 85 = .ok (.ifCond .ne 7, 3) := dk_154 0 7 (dk_at dksX8_not0_3 16 rfl rfl)
theorem dX8_not0_88 : decode cX8_not0 88 = .ok (.iconst 1, 1) := dk_4 (dk_at dksX8_not0_3 19 rfl rfl)
theorem dX8_not0_89 : decode cX8_not0 89 = .ok (.goto 4, 3) := dk_167 0 4 (dk_at dksX8_not0_3 20 rfl rfl)
theorem dX8_not0_92 : decode cX8_not0 92 = .ok (.iconst 0, 1) := dk_3 (dk_at dksX8_not0_3 23 rfl rfl)
theorem dX8_not0_93 : decode cX8_not0 93 = .ok (.istore_n 2, 1) := dk_61 (dk_at dksX8_not0_4 0 rfl rfl)
theorem dX8_not0_94 : decode cX8_not0 94 = .ok (.aload_n 0, 1) := dk_42 (dk_at dksX8_not0_4 1 rfl rfl)
theorem dX8_not0_95 : decode cX8_not0 95 = .ok (.invokevirtual 178, 3) := dk_182 0 178 (dk_at dksX8_not0_4 2 rfl rfl)
theorem dX8_not0_98 : decode cX8_not0 98 = .ok (.aload_n 0, 1) := dk_42 (dk_at dksX8_not0_4 5 rfl rfl)
theorem dX8_not0_99 : decode cX8_not0 99 = .ok (.invokevirtual 314, 3) := dk_182 1 58 (dk_at dksX8_not0_4 6 rfl rfl)
theorem dX8_not0_102 : decode cX8_not0 102 = .ok (.istore_n 3, 1) := dk_62 (dk_at dksX8_not0_4 9 rfl rfl)
theorem dX8_not0_103 : decode cX8_not0 103 = .ok (.iload_n 2, 1) := dk_28 (dk_at dksX8_not0_4 10 rfl rfl)
theorem dX8_not0_104 : decode cX8_not0 104 = .ok (.ifCond .eq 11, 3) := dk_153 0 11 (dk_at dksX8_not0_4 11 rfl rfl)
theorem dX8_not0_107 : decode cX8_not0 107 = .ok (.iload_n 1, 1) := dk_27 (dk_at dksX8_not0_4 14 rfl rfl)
theorem dX8_not0_108 : decode cX8_not0 108 = .ok (.iload_n 3, 1) := dk_29 (dk_at dksX8_not0_4 15 rfl rfl)
theorem dX8_not0_109 : decode cX8_not0 109 = .ok (.if_icmp .ge 15, 3) := dk_162 0 15 (dk_at dksX8_not0_4 16 rfl rfl)
theorem dX8_not0_112 : decode cX8_not0 112 = .ok (.goto 8, 3) := dk_167 0 8 (dk_at dksX8_not0_4 19 rfl rfl)
theorem dX8_not0_115 : decode cX8_not0 115 = .ok (.iload_n 1, 1) := dk_27 (dk_at dksX8_not0_4 22 rfl rfl)
theorem dX8_not0_116 : decode cX8_not0 116 = .ok (.iload_n 3, 1) := dk_29 (dk_at dksX8_not0_4 23 rfl rfl)
theorem dX8_not0_117 : decode cX8_not0 117 = .ok (.if_icmp .ne 7, 3) := dk_160 0 7 (dk_at dksX8_not0_5 0 rfl rfl)
theorem dX8_not0_120 : decode cX8_not0 120 = .ok (.iconst 1, 1) := dk_4 (dk_at dksX8_not0_5 3 rfl rfl)
theorem dX8_not0_121 : decode cX8_not0 121 = .ok (.goto 4, 3) := dk_167 0 4 (dk_at dksX8_not0_5 4 rfl rfl)
theorem dX8_not0_124 : decode cX8_not0 124 = .ok (.iconst 0, 1) := dk_3 (dk_at dksX8_not0_5 7 rfl rfl)
theorem dX8_not0_125 : decode cX8_not0 125 = .ok (.ireturn, 1) := dk_172 (dk_at dksX8_not0_5 8 rfl rfl)
abbrev cX8_opens : ByteArray := prog_16_method_24_code
def yX8_opens : MethodName := ⟨RX8, "opens", "()Z"⟩
def dkwX8_opens_1 : List UInt8 := [42, 182, 0, 178, 4, 172]
abbrev dktX8_opens_1 : List UInt8 := dkwX8_opens_1 ++ []
def dkwX8_opens_0 : List UInt8 := [42, 180, 0, 172, 8, 160, 0, 9, 42, 182, 0, 175, 3, 172, 42, 89, 180, 0, 172, 4, 96, 181, 0, 172]
abbrev dktX8_opens_0 : List UInt8 := dkwX8_opens_0 ++ dktX8_opens_1
theorem dksX8_opens_0 : cX8_opens.data.toList.drop 0 = dktX8_opens_0 := by decide +kernel
theorem dksX8_opens_1 : cX8_opens.data.toList.drop 24 = dktX8_opens_1 := dk_seg dksX8_opens_0 24 rfl rfl
theorem dX8_opens_0 : decode cX8_opens 0 = .ok (.aload_n 0, 1) := dk_42 (dk_at dksX8_opens_0 0 rfl rfl)
theorem dX8_opens_1 : decode cX8_opens 1 = .ok (.getfield 172, 3) := dk_180 0 172 (dk_at dksX8_opens_0 1 rfl rfl)
theorem dX8_opens_4 : decode cX8_opens 4 = .ok (.iconst 5, 1) := dk_8 (dk_at dksX8_opens_0 4 rfl rfl)
theorem dX8_opens_5 : decode cX8_opens 5 = .ok (.if_icmp .ne 9, 3) := dk_160 0 9 (dk_at dksX8_opens_0 5 rfl rfl)
theorem dX8_opens_8 : decode cX8_opens 8 = .ok (.aload_n 0, 1) := dk_42 (dk_at dksX8_opens_0 8 rfl rfl)
theorem dX8_opens_9 : decode cX8_opens 9 = .ok (.invokevirtual 175, 3) := dk_182 0 175 (dk_at dksX8_opens_0 9 rfl rfl)
theorem dX8_opens_12 : decode cX8_opens 12 = .ok (.iconst 0, 1) := dk_3 (dk_at dksX8_opens_0 12 rfl rfl)
theorem dX8_opens_13 : decode cX8_opens 13 = .ok (.ireturn, 1) := dk_172 (dk_at dksX8_opens_0 13 rfl rfl)
theorem dX8_opens_14 : decode cX8_opens 14 = .ok (.aload_n 0, 1) := dk_42 (dk_at dksX8_opens_0 14 rfl rfl)
theorem dX8_opens_15 : decode cX8_opens 15 = .ok (.dup, 1) := dk_89 (dk_at dksX8_opens_0 15 rfl rfl)
theorem dX8_opens_16 : decode cX8_opens 16 = .ok (.getfield 172, 3) := dk_180 0 172 (dk_at dksX8_opens_0 16 rfl rfl)
theorem dX8_opens_19 : decode cX8_opens 19 = .ok (.iconst 1, 1) := dk_4 (dk_at dksX8_opens_0 19 rfl rfl)
theorem dX8_opens_20 : decode cX8_opens 20 = .ok (.iadd, 1) := dk_96 (dk_at dksX8_opens_0 20 rfl rfl)
theorem dX8_opens_21 : decode cX8_opens 21 = .ok (.putfield 172, 3) := dk_181 0 172 (dk_at dksX8_opens_0 21 rfl rfl)
theorem dX8_opens_24 : decode cX8_opens 24 = .ok (.aload_n 0, 1) := dk_42 (dk_at dksX8_opens_1 0 rfl rfl)
theorem dX8_opens_25 : decode cX8_opens 25 = .ok (.invokevirtual 178, 3) := dk_182 0 178 (dk_at dksX8_opens_1 1 rfl rfl)
theorem dX8_opens_28 : decode cX8_opens 28 = .ok (.iconst 1, 1) := dk_4 (dk_at dksX8_opens_1 4 rfl rfl)
theorem dX8_opens_29 : decode cX8_opens 29 = .ok (.ireturn, 1) := dk_172 (dk_at dksX8_opens_1 5 rfl rfl)
abbrev cX8_not1 : ByteArray := prog_16_method_53_code
def yX8_not1 : MethodName := ⟨RX8, "not1", "()I"⟩
def dkwX8_not1_5 : List UInt8 := [160, 0, 7, 4, 167, 0, 4, 3, 172]
abbrev dktX8_not1_5 : List UInt8 := dkwX8_not1_5 ++ []
def dkwX8_not1_4 : List UInt8 := [61, 42, 182, 0, 178, 42, 182, 1, 40, 62, 28, 153, 0, 11, 27, 29, 162, 0, 15, 167, 0, 8, 27, 29]
abbrev dktX8_not1_4 : List UInt8 := dkwX8_not1_4 ++ dktX8_not1_5
def dkwX8_not1_3 : List UInt8 := [182, 0, 203, 154, 0, 5, 27, 172, 42, 180, 0, 155, 20, 0, 225, 148, 154, 0, 7, 4, 167, 0, 4, 3]
abbrev dktX8_not1_3 : List UInt8 := dkwX8_not1_3 ++ dktX8_not1_4
def dkwX8_not1_2 : List UInt8 := [4, 167, 0, 4, 3, 172, 42, 182, 1, 40, 60, 42, 16, 60, 182, 0, 203, 154, 0, 14, 42, 16, 61]
abbrev dktX8_not1_2 : List UInt8 := dkwX8_not1_2 ++ dktX8_not1_3
def dkwX8_not1_1 : List UInt8 := [154, 0, 5, 3, 172, 42, 182, 1, 25, 60, 42, 89, 180, 0, 172, 4, 100, 181, 0, 172, 27, 154, 0, 7]
abbrev dktX8_not1_1 : List UInt8 := dkwX8_not1_1 ++ dktX8_not1_2
def dkwX8_not1_0 : List UInt8 := [42, 16, 110, 16, 111, 16, 116, 3, 3, 3, 3, 3, 182, 0, 181, 153, 0, 37, 42, 182, 0, 206]
abbrev dktX8_not1_0 : List UInt8 := dkwX8_not1_0 ++ dktX8_not1_1
theorem dksX8_not1_0 : cX8_not1.data.toList.drop 0 = dktX8_not1_0 := by decide +kernel
theorem dksX8_not1_1 : cX8_not1.data.toList.drop 22 = dktX8_not1_1 := dk_seg dksX8_not1_0 22 rfl rfl
theorem dksX8_not1_2 : cX8_not1.data.toList.drop 46 = dktX8_not1_2 := dk_seg dksX8_not1_1 24 rfl rfl
theorem dksX8_not1_3 : cX8_not1.data.toList.drop 69 = dktX8_not1_3 := dk_seg dksX8_not1_2 23 rfl rfl
theorem dksX8_not1_4 : cX8_not1.data.toList.drop 93 = dktX8_not1_4 := dk_seg dksX8_not1_3 24 rfl rfl
theorem dksX8_not1_5 : cX8_not1.data.toList.drop 117 = dktX8_not1_5 := dk_seg dksX8_not1_4 24 rfl rfl
theorem dX8_not1_0 : decode cX8_not1 0 = .ok (.aload_n 0, 1) := dk_42 (dk_at dksX8_not1_0 0 rfl rfl)
theorem dX8_not1_1 : decode cX8_not1 1 = .ok (.bipush 110, 2) := dk_16 110 (dk_at dksX8_not1_0 1 rfl rfl)
theorem dX8_not1_3 : decode cX8_not1 3 = .ok (.bipush 111, 2) := dk_16 111 (dk_at dksX8_not1_0 3 rfl rfl)
theorem dX8_not1_5 : decode cX8_not1 5 = .ok (.bipush 116, 2) := dk_16 116 (dk_at dksX8_not1_0 5 rfl rfl)
theorem dX8_not1_7 : decode cX8_not1 7 = .ok (.iconst 0, 1) := dk_3 (dk_at dksX8_not1_0 7 rfl rfl)
theorem dX8_not1_8 : decode cX8_not1 8 = .ok (.iconst 0, 1) := dk_3 (dk_at dksX8_not1_0 8 rfl rfl)
theorem dX8_not1_9 : decode cX8_not1 9 = .ok (.iconst 0, 1) := dk_3 (dk_at dksX8_not1_0 9 rfl rfl)
theorem dX8_not1_10 : decode cX8_not1 10 = .ok (.iconst 0, 1) := dk_3 (dk_at dksX8_not1_0 10 rfl rfl)
theorem dX8_not1_11 : decode cX8_not1 11 = .ok (.iconst 0, 1) := dk_3 (dk_at dksX8_not1_0 11 rfl rfl)
theorem dX8_not1_12 : decode cX8_not1 12 = .ok (.invokevirtual 181, 3) := dk_182 0 181 (dk_at dksX8_not1_0 12 rfl rfl)
theorem dX8_not1_15 : decode cX8_not1 15 = .ok (.ifCond .eq 37, 3) := dk_153 0 37 (dk_at dksX8_not1_0 15 rfl rfl)
theorem dX8_not1_18 : decode cX8_not1 18 = .ok (.aload_n 0, 1) := dk_42 (dk_at dksX8_not1_0 18 rfl rfl)
theorem dX8_not1_19 : decode cX8_not1 19 = .ok (.invokevirtual 206, 3) := dk_182 0 206 (dk_at dksX8_not1_0 19 rfl rfl)
theorem dX8_not1_22 : decode cX8_not1 22 = .ok (.ifCond .ne 5, 3) := dk_154 0 5 (dk_at dksX8_not1_1 0 rfl rfl)
theorem dX8_not1_25 : decode cX8_not1 25 = .ok (.iconst 0, 1) := dk_3 (dk_at dksX8_not1_1 3 rfl rfl)
theorem dX8_not1_26 : decode cX8_not1 26 = .ok (.ireturn, 1) := dk_172 (dk_at dksX8_not1_1 4 rfl rfl)
theorem dX8_not1_27 : decode cX8_not1 27 = .ok (.aload_n 0, 1) := dk_42 (dk_at dksX8_not1_1 5 rfl rfl)
theorem dX8_not1_28 : decode cX8_not1 28 = .ok (.invokevirtual 281, 3) := dk_182 1 25 (dk_at dksX8_not1_1 6 rfl rfl)
theorem dX8_not1_31 : decode cX8_not1 31 = .ok (.istore_n 1, 1) := dk_60 (dk_at dksX8_not1_1 9 rfl rfl)
theorem dX8_not1_32 : decode cX8_not1 32 = .ok (.aload_n 0, 1) := dk_42 (dk_at dksX8_not1_1 10 rfl rfl)
theorem dX8_not1_33 : decode cX8_not1 33 = .ok (.dup, 1) := dk_89 (dk_at dksX8_not1_1 11 rfl rfl)
theorem dX8_not1_34 : decode cX8_not1 34 = .ok (.getfield 172, 3) := dk_180 0 172 (dk_at dksX8_not1_1 12 rfl rfl)
theorem dX8_not1_37 : decode cX8_not1 37 = .ok (.iconst 1, 1) := dk_4 (dk_at dksX8_not1_1 15 rfl rfl)
theorem dX8_not1_38 : decode cX8_not1 38 = .ok (.isub, 1) := dk_100 (dk_at dksX8_not1_1 16 rfl rfl)
theorem dX8_not1_39 : decode cX8_not1 39 = .ok (.putfield 172, 3) := dk_181 0 172 (dk_at dksX8_not1_1 17 rfl rfl)
theorem dX8_not1_42 : decode cX8_not1 42 = .ok (.iload_n 1, 1) := dk_27 (dk_at dksX8_not1_1 20 rfl rfl)
theorem dX8_not1_43 : decode cX8_not1 43 = .ok (.ifCond .ne 7, 3) := dk_154 0 7 (dk_at dksX8_not1_1 21 rfl rfl)
theorem dX8_not1_46 : decode cX8_not1 46 = .ok (.iconst 1, 1) := dk_4 (dk_at dksX8_not1_2 0 rfl rfl)
theorem dX8_not1_47 : decode cX8_not1 47 = .ok (.goto 4, 3) := dk_167 0 4 (dk_at dksX8_not1_2 1 rfl rfl)
theorem dX8_not1_50 : decode cX8_not1 50 = .ok (.iconst 0, 1) := dk_3 (dk_at dksX8_not1_2 4 rfl rfl)
theorem dX8_not1_51 : decode cX8_not1 51 = .ok (.ireturn, 1) := dk_172 (dk_at dksX8_not1_2 5 rfl rfl)
theorem dX8_not1_52 : decode cX8_not1 52 = .ok (.aload_n 0, 1) := dk_42 (dk_at dksX8_not1_2 6 rfl rfl)
theorem dX8_not1_53 : decode cX8_not1 53 = .ok (.invokevirtual 296, 3) := dk_182 1 40 (dk_at dksX8_not1_2 7 rfl rfl)
theorem dX8_not1_56 : decode cX8_not1 56 = .ok (.istore_n 1, 1) := dk_60 (dk_at dksX8_not1_2 10 rfl rfl)
theorem dX8_not1_57 : decode cX8_not1 57 = .ok (.aload_n 0, 1) := dk_42 (dk_at dksX8_not1_2 11 rfl rfl)
theorem dX8_not1_58 : decode cX8_not1 58 = .ok (.bipush 60, 2) := dk_16 60 (dk_at dksX8_not1_2 12 rfl rfl)
theorem dX8_not1_60 : decode cX8_not1 60 = .ok (.invokevirtual 203, 3) := dk_182 0 203 (dk_at dksX8_not1_2 14 rfl rfl)
theorem dX8_not1_63 : decode cX8_not1 63 = .ok (.ifCond .ne 14, 3) := dk_154 0 14 (dk_at dksX8_not1_2 17 rfl rfl)
theorem dX8_not1_66 : decode cX8_not1 66 = .ok (.aload_n 0, 1) := dk_42 (dk_at dksX8_not1_2 20 rfl rfl)
theorem dX8_not1_67 : decode cX8_not1 67 = .ok (.bipush 61, 2) := dk_16 61 (dk_at dksX8_not1_2 21 rfl rfl)
theorem dX8_not1_69 : decode cX8_not1 69 = .ok (.invokevirtual 203, 3) := dk_182 0 203 (dk_at dksX8_not1_3 0 rfl rfl)
theorem dX8_not1_72 : decode cX8_not1 72 = .ok (.ifCond .ne 5, 3) := dk_154 0 5 (dk_at dksX8_not1_3 3 rfl rfl)
theorem dX8_not1_75 : decode cX8_not1 75 = .ok (.iload_n 1, 1) := dk_27 (dk_at dksX8_not1_3 6 rfl rfl)
theorem dX8_not1_76 : decode cX8_not1 76 = .ok (.ireturn, 1) := dk_172 (dk_at dksX8_not1_3 7 rfl rfl)
theorem dX8_not1_77 : decode cX8_not1 77 = .ok (.aload_n 0, 1) := dk_42 (dk_at dksX8_not1_3 8 rfl rfl)
theorem dX8_not1_78 : decode cX8_not1 78 = .ok (.getfield 155, 3) := dk_180 0 155 (dk_at dksX8_not1_3 9 rfl rfl)
theorem dX8_not1_81 : decode cX8_not1 81 = .ok (.ldc2_w 225, 3) := dk_20 0 225 (dk_at dksX8_not1_3 12 rfl rfl)
theorem dX8_not1_84 : decode cX8_not1 84 = .ok (.lcmp, 1) := dk_148 (dk_at dksX8_not1_3 15 rfl rfl)
theorem dX8_not1_85 : decode cX8_not1 85 = .ok (.ifCond .ne 7, 3) := dk_154 0 7 (dk_at dksX8_not1_3 16 rfl rfl)
theorem dX8_not1_88 : decode cX8_not1 88 = .ok (.iconst 1, 1) := dk_4 (dk_at dksX8_not1_3 19 rfl rfl)
theorem dX8_not1_89 : decode cX8_not1 89 = .ok (.goto 4, 3) := dk_167 0 4 (dk_at dksX8_not1_3 20 rfl rfl)
theorem dX8_not1_92 : decode cX8_not1 92 = .ok (.iconst 0, 1) := dk_3 (dk_at dksX8_not1_3 23 rfl rfl)
theorem dX8_not1_93 : decode cX8_not1 93 = .ok (.istore_n 2, 1) := dk_61 (dk_at dksX8_not1_4 0 rfl rfl)
theorem dX8_not1_94 : decode cX8_not1 94 = .ok (.aload_n 0, 1) := dk_42 (dk_at dksX8_not1_4 1 rfl rfl)
theorem dX8_not1_95 : decode cX8_not1 95 = .ok (.invokevirtual 178, 3) := dk_182 0 178 (dk_at dksX8_not1_4 2 rfl rfl)
theorem dX8_not1_98 : decode cX8_not1 98 = .ok (.aload_n 0, 1) := dk_42 (dk_at dksX8_not1_4 5 rfl rfl)
theorem dX8_not1_99 : decode cX8_not1 99 = .ok (.invokevirtual 296, 3) := dk_182 1 40 (dk_at dksX8_not1_4 6 rfl rfl)
theorem dX8_not1_102 : decode cX8_not1 102 = .ok (.istore_n 3, 1) := dk_62 (dk_at dksX8_not1_4 9 rfl rfl)
theorem dX8_not1_103 : decode cX8_not1 103 = .ok (.iload_n 2, 1) := dk_28 (dk_at dksX8_not1_4 10 rfl rfl)
theorem dX8_not1_104 : decode cX8_not1 104 = .ok (.ifCond .eq 11, 3) := dk_153 0 11 (dk_at dksX8_not1_4 11 rfl rfl)
theorem dX8_not1_107 : decode cX8_not1 107 = .ok (.iload_n 1, 1) := dk_27 (dk_at dksX8_not1_4 14 rfl rfl)
theorem dX8_not1_108 : decode cX8_not1 108 = .ok (.iload_n 3, 1) := dk_29 (dk_at dksX8_not1_4 15 rfl rfl)
theorem dX8_not1_109 : decode cX8_not1 109 = .ok (.if_icmp .ge 15, 3) := dk_162 0 15 (dk_at dksX8_not1_4 16 rfl rfl)
theorem dX8_not1_112 : decode cX8_not1 112 = .ok (.goto 8, 3) := dk_167 0 8 (dk_at dksX8_not1_4 19 rfl rfl)
theorem dX8_not1_115 : decode cX8_not1 115 = .ok (.iload_n 1, 1) := dk_27 (dk_at dksX8_not1_4 22 rfl rfl)
theorem dX8_not1_116 : decode cX8_not1 116 = .ok (.iload_n 3, 1) := dk_29 (dk_at dksX8_not1_4 23 rfl rfl)
theorem dX8_not1_117 : decode cX8_not1 117 = .ok (.if_icmp .ne 7, 3) := dk_160 0 7 (dk_at dksX8_not1_5 0 rfl rfl)
theorem dX8_not1_120 : decode cX8_not1 120 = .ok (.iconst 1, 1) := dk_4 (dk_at dksX8_not1_5 3 rfl rfl)
theorem dX8_not1_121 : decode cX8_not1 121 = .ok (.goto 4, 3) := dk_167 0 4 (dk_at dksX8_not1_5 4 rfl rfl)
theorem dX8_not1_124 : decode cX8_not1 124 = .ok (.iconst 0, 1) := dk_3 (dk_at dksX8_not1_5 7 rfl rfl)
theorem dX8_not1_125 : decode cX8_not1 125 = .ok (.ireturn, 1) := dk_172 (dk_at dksX8_not1_5 8 rfl rfl)
abbrev cX8_not2 : ByteArray := prog_16_method_47_code
def yX8_not2 : MethodName := ⟨RX8, "not2", "()I"⟩
def dkwX8_not2_5 : List UInt8 := [160, 0, 7, 4, 167, 0, 4, 3, 172]
abbrev dktX8_not2_5 : List UInt8 := dkwX8_not2_5 ++ []
def dkwX8_not2_4 : List UInt8 := [61, 42, 182, 0, 178, 42, 182, 1, 22, 62, 28, 153, 0, 11, 27, 29, 162, 0, 15, 167, 0, 8, 27, 29]
abbrev dktX8_not2_4 : List UInt8 := dkwX8_not2_4 ++ dktX8_not2_5
def dkwX8_not2_3 : List UInt8 := [182, 0, 203, 154, 0, 5, 27, 172, 42, 180, 0, 155, 20, 0, 225, 148, 154, 0, 7, 4, 167, 0, 4, 3]
abbrev dktX8_not2_3 : List UInt8 := dkwX8_not2_3 ++ dktX8_not2_4
def dkwX8_not2_2 : List UInt8 := [4, 167, 0, 4, 3, 172, 42, 182, 1, 22, 60, 42, 16, 60, 182, 0, 203, 154, 0, 14, 42, 16, 61]
abbrev dktX8_not2_2 : List UInt8 := dkwX8_not2_2 ++ dktX8_not2_3
def dkwX8_not2_1 : List UInt8 := [154, 0, 5, 3, 172, 42, 182, 1, 7, 60, 42, 89, 180, 0, 172, 4, 100, 181, 0, 172, 27, 154, 0, 7]
abbrev dktX8_not2_1 : List UInt8 := dkwX8_not2_1 ++ dktX8_not2_2
def dkwX8_not2_0 : List UInt8 := [42, 16, 110, 16, 111, 16, 116, 3, 3, 3, 3, 3, 182, 0, 181, 153, 0, 37, 42, 182, 0, 206]
abbrev dktX8_not2_0 : List UInt8 := dkwX8_not2_0 ++ dktX8_not2_1
theorem dksX8_not2_0 : cX8_not2.data.toList.drop 0 = dktX8_not2_0 := by decide +kernel
theorem dksX8_not2_1 : cX8_not2.data.toList.drop 22 = dktX8_not2_1 := dk_seg dksX8_not2_0 22 rfl rfl
theorem dksX8_not2_2 : cX8_not2.data.toList.drop 46 = dktX8_not2_2 := dk_seg dksX8_not2_1 24 rfl rfl
theorem dksX8_not2_3 : cX8_not2.data.toList.drop 69 = dktX8_not2_3 := dk_seg dksX8_not2_2 23 rfl rfl
theorem dksX8_not2_4 : cX8_not2.data.toList.drop 93 = dktX8_not2_4 := dk_seg dksX8_not2_3 24 rfl rfl
theorem dksX8_not2_5 : cX8_not2.data.toList.drop 117 = dktX8_not2_5 := dk_seg dksX8_not2_4 24 rfl rfl
theorem dX8_not2_0 : decode cX8_not2 0 = .ok (.aload_n 0, 1) := dk_42 (dk_at dksX8_not2_0 0 rfl rfl)
theorem dX8_not2_1 : decode cX8_not2 1 = .ok (.bipush 110, 2) := dk_16 110 (dk_at dksX8_not2_0 1 rfl rfl)
theorem dX8_not2_3 : decode cX8_not2 3 = .ok (.bipush 111, 2) := dk_16 111 (dk_at dksX8_not2_0 3 rfl rfl)
theorem dX8_not2_5 : decode cX8_not2 5 = .ok (.bipush 116, 2) := dk_16 116 (dk_at dksX8_not2_0 5 rfl rfl)
theorem dX8_not2_7 : decode cX8_not2 7 = .ok (.iconst 0, 1) := dk_3 (dk_at dksX8_not2_0 7 rfl rfl)
theorem dX8_not2_8 : decode cX8_not2 8 = .ok (.iconst 0, 1) := dk_3 (dk_at dksX8_not2_0 8 rfl rfl)
theorem dX8_not2_9 : decode cX8_not2 9 = .ok (.iconst 0, 1) := dk_3 (dk_at dksX8_not2_0 9 rfl rfl)
theorem dX8_not2_10 : decode cX8_not2 10 = .ok (.iconst 0, 1) := dk_3 (dk_at dksX8_not2_0 10 rfl rfl)
theorem dX8_not2_11 : decode cX8_not2 11 = .ok (.iconst 0, 1) := dk_3 (dk_at dksX8_not2_0 11 rfl rfl)
theorem dX8_not2_12 : decode cX8_not2 12 = .ok (.invokevirtual 181, 3) := dk_182 0 181 (dk_at dksX8_not2_0 12 rfl rfl)
theorem dX8_not2_15 : decode cX8_not2 15 = .ok (.ifCond .eq 37, 3) := dk_153 0 37 (dk_at dksX8_not2_0 15 rfl rfl)
theorem dX8_not2_18 : decode cX8_not2 18 = .ok (.aload_n 0, 1) := dk_42 (dk_at dksX8_not2_0 18 rfl rfl)
theorem dX8_not2_19 : decode cX8_not2 19 = .ok (.invokevirtual 206, 3) := dk_182 0 206 (dk_at dksX8_not2_0 19 rfl rfl)
theorem dX8_not2_22 : decode cX8_not2 22 = .ok (.ifCond .ne 5, 3) := dk_154 0 5 (dk_at dksX8_not2_1 0 rfl rfl)
theorem dX8_not2_25 : decode cX8_not2 25 = .ok (.iconst 0, 1) := dk_3 (dk_at dksX8_not2_1 3 rfl rfl)
theorem dX8_not2_26 : decode cX8_not2 26 = .ok (.ireturn, 1) := dk_172 (dk_at dksX8_not2_1 4 rfl rfl)
theorem dX8_not2_27 : decode cX8_not2 27 = .ok (.aload_n 0, 1) := dk_42 (dk_at dksX8_not2_1 5 rfl rfl)
theorem dX8_not2_28 : decode cX8_not2 28 = .ok (.invokevirtual 263, 3) := dk_182 1 7 (dk_at dksX8_not2_1 6 rfl rfl)
theorem dX8_not2_31 : decode cX8_not2 31 = .ok (.istore_n 1, 1) := dk_60 (dk_at dksX8_not2_1 9 rfl rfl)
theorem dX8_not2_32 : decode cX8_not2 32 = .ok (.aload_n 0, 1) := dk_42 (dk_at dksX8_not2_1 10 rfl rfl)
theorem dX8_not2_33 : decode cX8_not2 33 = .ok (.dup, 1) := dk_89 (dk_at dksX8_not2_1 11 rfl rfl)
theorem dX8_not2_34 : decode cX8_not2 34 = .ok (.getfield 172, 3) := dk_180 0 172 (dk_at dksX8_not2_1 12 rfl rfl)
theorem dX8_not2_37 : decode cX8_not2 37 = .ok (.iconst 1, 1) := dk_4 (dk_at dksX8_not2_1 15 rfl rfl)
theorem dX8_not2_38 : decode cX8_not2 38 = .ok (.isub, 1) := dk_100 (dk_at dksX8_not2_1 16 rfl rfl)
theorem dX8_not2_39 : decode cX8_not2 39 = .ok (.putfield 172, 3) := dk_181 0 172 (dk_at dksX8_not2_1 17 rfl rfl)
theorem dX8_not2_42 : decode cX8_not2 42 = .ok (.iload_n 1, 1) := dk_27 (dk_at dksX8_not2_1 20 rfl rfl)
theorem dX8_not2_43 : decode cX8_not2 43 = .ok (.ifCond .ne 7, 3) := dk_154 0 7 (dk_at dksX8_not2_1 21 rfl rfl)
theorem dX8_not2_46 : decode cX8_not2 46 = .ok (.iconst 1, 1) := dk_4 (dk_at dksX8_not2_2 0 rfl rfl)
theorem dX8_not2_47 : decode cX8_not2 47 = .ok (.goto 4, 3) := dk_167 0 4 (dk_at dksX8_not2_2 1 rfl rfl)
theorem dX8_not2_50 : decode cX8_not2 50 = .ok (.iconst 0, 1) := dk_3 (dk_at dksX8_not2_2 4 rfl rfl)
theorem dX8_not2_51 : decode cX8_not2 51 = .ok (.ireturn, 1) := dk_172 (dk_at dksX8_not2_2 5 rfl rfl)
theorem dX8_not2_52 : decode cX8_not2 52 = .ok (.aload_n 0, 1) := dk_42 (dk_at dksX8_not2_2 6 rfl rfl)
theorem dX8_not2_53 : decode cX8_not2 53 = .ok (.invokevirtual 278, 3) := dk_182 1 22 (dk_at dksX8_not2_2 7 rfl rfl)
theorem dX8_not2_56 : decode cX8_not2 56 = .ok (.istore_n 1, 1) := dk_60 (dk_at dksX8_not2_2 10 rfl rfl)
theorem dX8_not2_57 : decode cX8_not2 57 = .ok (.aload_n 0, 1) := dk_42 (dk_at dksX8_not2_2 11 rfl rfl)
theorem dX8_not2_58 : decode cX8_not2 58 = .ok (.bipush 60, 2) := dk_16 60 (dk_at dksX8_not2_2 12 rfl rfl)
theorem dX8_not2_60 : decode cX8_not2 60 = .ok (.invokevirtual 203, 3) := dk_182 0 203 (dk_at dksX8_not2_2 14 rfl rfl)
theorem dX8_not2_63 : decode cX8_not2 63 = .ok (.ifCond .ne 14, 3) := dk_154 0 14 (dk_at dksX8_not2_2 17 rfl rfl)
theorem dX8_not2_66 : decode cX8_not2 66 = .ok (.aload_n 0, 1) := dk_42 (dk_at dksX8_not2_2 20 rfl rfl)
theorem dX8_not2_67 : decode cX8_not2 67 = .ok (.bipush 61, 2) := dk_16 61 (dk_at dksX8_not2_2 21 rfl rfl)
theorem dX8_not2_69 : decode cX8_not2 69 = .ok (.invokevirtual 203, 3) := dk_182 0 203 (dk_at dksX8_not2_3 0 rfl rfl)
theorem dX8_not2_72 : decode cX8_not2 72 = .ok (.ifCond .ne 5, 3) := dk_154 0 5 (dk_at dksX8_not2_3 3 rfl rfl)
theorem dX8_not2_75 : decode cX8_not2 75 = .ok (.iload_n 1, 1) := dk_27 (dk_at dksX8_not2_3 6 rfl rfl)
theorem dX8_not2_76 : decode cX8_not2 76 = .ok (.ireturn, 1) := dk_172 (dk_at dksX8_not2_3 7 rfl rfl)
theorem dX8_not2_77 : decode cX8_not2 77 = .ok (.aload_n 0, 1) := dk_42 (dk_at dksX8_not2_3 8 rfl rfl)
theorem dX8_not2_78 : decode cX8_not2 78 = .ok (.getfield 155, 3) := dk_180 0 155 (dk_at dksX8_not2_3 9 rfl rfl)
theorem dX8_not2_81 : decode cX8_not2 81 = .ok (.ldc2_w 225, 3) := dk_20 0 225 (dk_at dksX8_not2_3 12 rfl rfl)
theorem dX8_not2_84 : decode cX8_not2 84 = .ok (.lcmp, 1) := dk_148 (dk_at dksX8_not2_3 15 rfl rfl)
theorem dX8_not2_85 : decode cX8_not2 85 = .ok (.ifCond .ne 7, 3) := dk_154 0 7 (dk_at dksX8_not2_3 16 rfl rfl)
theorem dX8_not2_88 : decode cX8_not2 88 = .ok (.iconst 1, 1) := dk_4 (dk_at dksX8_not2_3 19 rfl rfl)
theorem dX8_not2_89 : decode cX8_not2 89 = .ok (.goto 4, 3) := dk_167 0 4 (dk_at dksX8_not2_3 20 rfl rfl)
theorem dX8_not2_92 : decode cX8_not2 92 = .ok (.iconst 0, 1) := dk_3 (dk_at dksX8_not2_3 23 rfl rfl)
theorem dX8_not2_93 : decode cX8_not2 93 = .ok (.istore_n 2, 1) := dk_61 (dk_at dksX8_not2_4 0 rfl rfl)
theorem dX8_not2_94 : decode cX8_not2 94 = .ok (.aload_n 0, 1) := dk_42 (dk_at dksX8_not2_4 1 rfl rfl)
theorem dX8_not2_95 : decode cX8_not2 95 = .ok (.invokevirtual 178, 3) := dk_182 0 178 (dk_at dksX8_not2_4 2 rfl rfl)
theorem dX8_not2_98 : decode cX8_not2 98 = .ok (.aload_n 0, 1) := dk_42 (dk_at dksX8_not2_4 5 rfl rfl)
theorem dX8_not2_99 : decode cX8_not2 99 = .ok (.invokevirtual 278, 3) := dk_182 1 22 (dk_at dksX8_not2_4 6 rfl rfl)
theorem dX8_not2_102 : decode cX8_not2 102 = .ok (.istore_n 3, 1) := dk_62 (dk_at dksX8_not2_4 9 rfl rfl)
theorem dX8_not2_103 : decode cX8_not2 103 = .ok (.iload_n 2, 1) := dk_28 (dk_at dksX8_not2_4 10 rfl rfl)
theorem dX8_not2_104 : decode cX8_not2 104 = .ok (.ifCond .eq 11, 3) := dk_153 0 11 (dk_at dksX8_not2_4 11 rfl rfl)
theorem dX8_not2_107 : decode cX8_not2 107 = .ok (.iload_n 1, 1) := dk_27 (dk_at dksX8_not2_4 14 rfl rfl)
theorem dX8_not2_108 : decode cX8_not2 108 = .ok (.iload_n 3, 1) := dk_29 (dk_at dksX8_not2_4 15 rfl rfl)
theorem dX8_not2_109 : decode cX8_not2 109 = .ok (.if_icmp .ge 15, 3) := dk_162 0 15 (dk_at dksX8_not2_4 16 rfl rfl)
theorem dX8_not2_112 : decode cX8_not2 112 = .ok (.goto 8, 3) := dk_167 0 8 (dk_at dksX8_not2_4 19 rfl rfl)
theorem dX8_not2_115 : decode cX8_not2 115 = .ok (.iload_n 1, 1) := dk_27 (dk_at dksX8_not2_4 22 rfl rfl)
theorem dX8_not2_116 : decode cX8_not2 116 = .ok (.iload_n 3, 1) := dk_29 (dk_at dksX8_not2_4 23 rfl rfl)
theorem dX8_not2_117 : decode cX8_not2 117 = .ok (.if_icmp .ne 7, 3) := dk_160 0 7 (dk_at dksX8_not2_5 0 rfl rfl)
theorem dX8_not2_120 : decode cX8_not2 120 = .ok (.iconst 1, 1) := dk_4 (dk_at dksX8_not2_5 3 rfl rfl)
theorem dX8_not2_121 : decode cX8_not2 121 = .ok (.goto 4, 3) := dk_167 0 4 (dk_at dksX8_not2_5 4 rfl rfl)
theorem dX8_not2_124 : decode cX8_not2 124 = .ok (.iconst 0, 1) := dk_3 (dk_at dksX8_not2_5 7 rfl rfl)
theorem dX8_not2_125 : decode cX8_not2 125 = .ok (.ireturn, 1) := dk_172 (dk_at dksX8_not2_5 8 rfl rfl)
abbrev cX8_not3 : ByteArray := prog_16_method_41_code
def yX8_not3 : MethodName := ⟨RX8, "not3", "()I"⟩
def dkwX8_not3_5 : List UInt8 := [160, 0, 7, 4, 167, 0, 4, 3, 172]
abbrev dktX8_not3_5 : List UInt8 := dkwX8_not3_5 ++ []
def dkwX8_not3_4 : List UInt8 := [61, 42, 182, 0, 178, 42, 182, 1, 4, 62, 28, 153, 0, 11, 27, 29, 162, 0, 15, 167, 0, 8, 27, 29]
abbrev dktX8_not3_4 : List UInt8 := dkwX8_not3_4 ++ dktX8_not3_5
def dkwX8_not3_3 : List UInt8 := [182, 0, 203, 154, 0, 5, 27, 172, 42, 180, 0, 155, 20, 0, 225, 148, 154, 0, 7, 4, 167, 0, 4, 3]
abbrev dktX8_not3_3 : List UInt8 := dkwX8_not3_3 ++ dktX8_not3_4
def dkwX8_not3_2 : List UInt8 := [4, 167, 0, 4, 3, 172, 42, 182, 1, 4, 60, 42, 16, 60, 182, 0, 203, 154, 0, 14, 42, 16, 61]
abbrev dktX8_not3_2 : List UInt8 := dkwX8_not3_2 ++ dktX8_not3_3
def dkwX8_not3_1 : List UInt8 := [154, 0, 5, 3, 172, 42, 182, 0, 245, 60, 42, 89, 180, 0, 172, 4, 100, 181, 0, 172, 27, 154, 0, 7]
abbrev dktX8_not3_1 : List UInt8 := dkwX8_not3_1 ++ dktX8_not3_2
def dkwX8_not3_0 : List UInt8 := [42, 16, 110, 16, 111, 16, 116, 3, 3, 3, 3, 3, 182, 0, 181, 153, 0, 37, 42, 182, 0, 206]
abbrev dktX8_not3_0 : List UInt8 := dkwX8_not3_0 ++ dktX8_not3_1
theorem dksX8_not3_0 : cX8_not3.data.toList.drop 0 = dktX8_not3_0 := by decide +kernel
theorem dksX8_not3_1 : cX8_not3.data.toList.drop 22 = dktX8_not3_1 := dk_seg dksX8_not3_0 22 rfl rfl
theorem dksX8_not3_2 : cX8_not3.data.toList.drop 46 = dktX8_not3_2 := dk_seg dksX8_not3_1 24 rfl rfl
theorem dksX8_not3_3 : cX8_not3.data.toList.drop 69 = dktX8_not3_3 := dk_seg dksX8_not3_2 23 rfl rfl
theorem dksX8_not3_4 : cX8_not3.data.toList.drop 93 = dktX8_not3_4 := dk_seg dksX8_not3_3 24 rfl rfl
theorem dksX8_not3_5 : cX8_not3.data.toList.drop 117 = dktX8_not3_5 := dk_seg dksX8_not3_4 24 rfl rfl
theorem dX8_not3_0 : decode cX8_not3 0 = .ok (.aload_n 0, 1) := dk_42 (dk_at dksX8_not3_0 0 rfl rfl)
theorem dX8_not3_1 : decode cX8_not3 1 = .ok (.bipush 110, 2) := dk_16 110 (dk_at dksX8_not3_0 1 rfl rfl)
theorem dX8_not3_3 : decode cX8_not3 3 = .ok (.bipush 111, 2) := dk_16 111 (dk_at dksX8_not3_0 3 rfl rfl)
theorem dX8_not3_5 : decode cX8_not3 5 = .ok (.bipush 116, 2) := dk_16 116 (dk_at dksX8_not3_0 5 rfl rfl)
theorem dX8_not3_7 : decode cX8_not3 7 = .ok (.iconst 0, 1) := dk_3 (dk_at dksX8_not3_0 7 rfl rfl)
theorem dX8_not3_8 : decode cX8_not3 8 = .ok (.iconst 0, 1) := dk_3 (dk_at dksX8_not3_0 8 rfl rfl)
theorem dX8_not3_9 : decode cX8_not3 9 = .ok (.iconst 0, 1) := dk_3 (dk_at dksX8_not3_0 9 rfl rfl)
theorem dX8_not3_10 : decode cX8_not3 10 = .ok (.iconst 0, 1) := dk_3 (dk_at dksX8_not3_0 10 rfl rfl)
theorem dX8_not3_11 : decode cX8_not3 11 = .ok (.iconst 0, 1) := dk_3 (dk_at dksX8_not3_0 11 rfl rfl)
theorem dX8_not3_12 : decode cX8_not3 12 = .ok (.invokevirtual 181, 3) := dk_182 0 181 (dk_at dksX8_not3_0 12 rfl rfl)
theorem dX8_not3_15 : decode cX8_not3 15 = .ok (.ifCond .eq 37, 3) := dk_153 0 37 (dk_at dksX8_not3_0 15 rfl rfl)
theorem dX8_not3_18 : decode cX8_not3 18 = .ok (.aload_n 0, 1) := dk_42 (dk_at dksX8_not3_0 18 rfl rfl)
theorem dX8_not3_19 : decode cX8_not3 19 = .ok (.invokevirtual 206, 3) := dk_182 0 206 (dk_at dksX8_not3_0 19 rfl rfl)
theorem dX8_not3_22 : decode cX8_not3 22 = .ok (.ifCond .ne 5, 3) := dk_154 0 5 (dk_at dksX8_not3_1 0 rfl rfl)
theorem dX8_not3_25 : decode cX8_not3 25 = .ok (.iconst 0, 1) := dk_3 (dk_at dksX8_not3_1 3 rfl rfl)
theorem dX8_not3_26 : decode cX8_not3 26 = .ok (.ireturn, 1) := dk_172 (dk_at dksX8_not3_1 4 rfl rfl)
theorem dX8_not3_27 : decode cX8_not3 27 = .ok (.aload_n 0, 1) := dk_42 (dk_at dksX8_not3_1 5 rfl rfl)
theorem dX8_not3_28 : decode cX8_not3 28 = .ok (.invokevirtual 245, 3) := dk_182 0 245 (dk_at dksX8_not3_1 6 rfl rfl)
theorem dX8_not3_31 : decode cX8_not3 31 = .ok (.istore_n 1, 1) := dk_60 (dk_at dksX8_not3_1 9 rfl rfl)
theorem dX8_not3_32 : decode cX8_not3 32 = .ok (.aload_n 0, 1) := dk_42 (dk_at dksX8_not3_1 10 rfl rfl)
theorem dX8_not3_33 : decode cX8_not3 33 = .ok (.dup, 1) := dk_89 (dk_at dksX8_not3_1 11 rfl rfl)
theorem dX8_not3_34 : decode cX8_not3 34 = .ok (.getfield 172, 3) := dk_180 0 172 (dk_at dksX8_not3_1 12 rfl rfl)
theorem dX8_not3_37 : decode cX8_not3 37 = .ok (.iconst 1, 1) := dk_4 (dk_at dksX8_not3_1 15 rfl rfl)
theorem dX8_not3_38 : decode cX8_not3 38 = .ok (.isub, 1) := dk_100 (dk_at dksX8_not3_1 16 rfl rfl)
theorem dX8_not3_39 : decode cX8_not3 39 = .ok (.putfield 172, 3) := dk_181 0 172 (dk_at dksX8_not3_1 17 rfl rfl)
theorem dX8_not3_42 : decode cX8_not3 42 = .ok (.iload_n 1, 1) := dk_27 (dk_at dksX8_not3_1 20 rfl rfl)
theorem dX8_not3_43 : decode cX8_not3 43 = .ok (.ifCond .ne 7, 3) := dk_154 0 7 (dk_at dksX8_not3_1 21 rfl rfl)
theorem dX8_not3_46 : decode cX8_not3 46 = .ok (.iconst 1, 1) := dk_4 (dk_at dksX8_not3_2 0 rfl rfl)
theorem dX8_not3_47 : decode cX8_not3 47 = .ok (.goto 4, 3) := dk_167 0 4 (dk_at dksX8_not3_2 1 rfl rfl)
theorem dX8_not3_50 : decode cX8_not3 50 = .ok (.iconst 0, 1) := dk_3 (dk_at dksX8_not3_2 4 rfl rfl)
theorem dX8_not3_51 : decode cX8_not3 51 = .ok (.ireturn, 1) := dk_172 (dk_at dksX8_not3_2 5 rfl rfl)
theorem dX8_not3_52 : decode cX8_not3 52 = .ok (.aload_n 0, 1) := dk_42 (dk_at dksX8_not3_2 6 rfl rfl)
theorem dX8_not3_53 : decode cX8_not3 53 = .ok (.invokevirtual 260, 3) := dk_182 1 4 (dk_at dksX8_not3_2 7 rfl rfl)
theorem dX8_not3_56 : decode cX8_not3 56 = .ok (.istore_n 1, 1) := dk_60 (dk_at dksX8_not3_2 10 rfl rfl)
theorem dX8_not3_57 : decode cX8_not3 57 = .ok (.aload_n 0, 1) := dk_42 (dk_at dksX8_not3_2 11 rfl rfl)
theorem dX8_not3_58 : decode cX8_not3 58 = .ok (.bipush 60, 2) := dk_16 60 (dk_at dksX8_not3_2 12 rfl rfl)
theorem dX8_not3_60 : decode cX8_not3 60 = .ok (.invokevirtual 203, 3) := dk_182 0 203 (dk_at dksX8_not3_2 14 rfl rfl)
theorem dX8_not3_63 : decode cX8_not3 63 = .ok (.ifCond .ne 14, 3) := dk_154 0 14 (dk_at dksX8_not3_2 17 rfl rfl)
theorem dX8_not3_66 : decode cX8_not3 66 = .ok (.aload_n 0, 1) := dk_42 (dk_at dksX8_not3_2 20 rfl rfl)
theorem dX8_not3_67 : decode cX8_not3 67 = .ok (.bipush 61, 2) := dk_16 61 (dk_at dksX8_not3_2 21 rfl rfl)
theorem dX8_not3_69 : decode cX8_not3 69 = .ok (.invokevirtual 203, 3) := dk_182 0 203 (dk_at dksX8_not3_3 0 rfl rfl)
theorem dX8_not3_72 : decode cX8_not3 72 = .ok (.ifCond .ne 5, 3) := dk_154 0 5 (dk_at dksX8_not3_3 3 rfl rfl)
theorem dX8_not3_75 : decode cX8_not3 75 = .ok (.iload_n 1, 1) := dk_27 (dk_at dksX8_not3_3 6 rfl rfl)
theorem dX8_not3_76 : decode cX8_not3 76 = .ok (.ireturn, 1) := dk_172 (dk_at dksX8_not3_3 7 rfl rfl)
theorem dX8_not3_77 : decode cX8_not3 77 = .ok (.aload_n 0, 1) := dk_42 (dk_at dksX8_not3_3 8 rfl rfl)
theorem dX8_not3_78 : decode cX8_not3 78 = .ok (.getfield 155, 3) := dk_180 0 155 (dk_at dksX8_not3_3 9 rfl rfl)
theorem dX8_not3_81 : decode cX8_not3 81 = .ok (.ldc2_w 225, 3) := dk_20 0 225 (dk_at dksX8_not3_3 12 rfl rfl)
theorem dX8_not3_84 : decode cX8_not3 84 = .ok (.lcmp, 1) := dk_148 (dk_at dksX8_not3_3 15 rfl rfl)
theorem dX8_not3_85 : decode cX8_not3 85 = .ok (.ifCond .ne 7, 3) := dk_154 0 7 (dk_at dksX8_not3_3 16 rfl rfl)
theorem dX8_not3_88 : decode cX8_not3 88 = .ok (.iconst 1, 1) := dk_4 (dk_at dksX8_not3_3 19 rfl rfl)
theorem dX8_not3_89 : decode cX8_not3 89 = .ok (.goto 4, 3) := dk_167 0 4 (dk_at dksX8_not3_3 20 rfl rfl)
theorem dX8_not3_92 : decode cX8_not3 92 = .ok (.iconst 0, 1) := dk_3 (dk_at dksX8_not3_3 23 rfl rfl)
theorem dX8_not3_93 : decode cX8_not3 93 = .ok (.istore_n 2, 1) := dk_61 (dk_at dksX8_not3_4 0 rfl rfl)
theorem dX8_not3_94 : decode cX8_not3 94 = .ok (.aload_n 0, 1) := dk_42 (dk_at dksX8_not3_4 1 rfl rfl)
theorem dX8_not3_95 : decode cX8_not3 95 = .ok (.invokevirtual 178, 3) := dk_182 0 178 (dk_at dksX8_not3_4 2 rfl rfl)
theorem dX8_not3_98 : decode cX8_not3 98 = .ok (.aload_n 0, 1) := dk_42 (dk_at dksX8_not3_4 5 rfl rfl)
theorem dX8_not3_99 : decode cX8_not3 99 = .ok (.invokevirtual 260, 3) := dk_182 1 4 (dk_at dksX8_not3_4 6 rfl rfl)
theorem dX8_not3_102 : decode cX8_not3 102 = .ok (.istore_n 3, 1) := dk_62 (dk_at dksX8_not3_4 9 rfl rfl)
theorem dX8_not3_103 : decode cX8_not3 103 = .ok (.iload_n 2, 1) := dk_28 (dk_at dksX8_not3_4 10 rfl rfl)
theorem dX8_not3_104 : decode cX8_not3 104 = .ok (.ifCond .eq 11, 3) := dk_153 0 11 (dk_at dksX8_not3_4 11 rfl rfl)
theorem dX8_not3_107 : decode cX8_not3 107 = .ok (.iload_n 1, 1) := dk_27 (dk_at dksX8_not3_4 14 rfl rfl)
theorem dX8_not3_108 : decode cX8_not3 108 = .ok (.iload_n 3, 1) := dk_29 (dk_at dksX8_not3_4 15 rfl rfl)
theorem dX8_not3_109 : decode cX8_not3 109 = .ok (.if_icmp .ge 15, 3) := dk_162 0 15 (dk_at dksX8_not3_4 16 rfl rfl)
theorem dX8_not3_112 : decode cX8_not3 112 = .ok (.goto 8, 3) := dk_167 0 8 (dk_at dksX8_not3_4 19 rfl rfl)
theorem dX8_not3_115 : decode cX8_not3 115 = .ok (.iload_n 1, 1) := dk_27 (dk_at dksX8_not3_4 22 rfl rfl)
theorem dX8_not3_116 : decode cX8_not3 116 = .ok (.iload_n 3, 1) := dk_29 (dk_at dksX8_not3_4 23 rfl rfl)
theorem dX8_not3_117 : decode cX8_not3 117 = .ok (.if_icmp .ne 7, 3) := dk_160 0 7 (dk_at dksX8_not3_5 0 rfl rfl)
theorem dX8_not3_120 : decode cX8_not3 120 = .ok (.iconst 1, 1) := dk_4 (dk_at dksX8_not3_5 3 rfl rfl)
theorem dX8_not3_121 : decode cX8_not3 121 = .ok (.goto 4, 3) := dk_167 0 4 (dk_at dksX8_not3_5 4 rfl rfl)
theorem dX8_not3_124 : decode cX8_not3 124 = .ok (.iconst 0, 1) := dk_3 (dk_at dksX8_not3_5 7 rfl rfl)
theorem dX8_not3_125 : decode cX8_not3 125 = .ok (.ireturn, 1) := dk_172 (dk_at dksX8_not3_5 8 rfl rfl)
abbrev cX8_not4 : ByteArray := prog_16_method_35_code
def yX8_not4 : MethodName := ⟨RX8, "not4", "()I"⟩
def dkwX8_not4_5 : List UInt8 := [160, 0, 7, 4, 167, 0, 4, 3, 172]
abbrev dktX8_not4_5 : List UInt8 := dkwX8_not4_5 ++ []
def dkwX8_not4_4 : List UInt8 := [61, 42, 182, 0, 178, 42, 182, 0, 242, 62, 28, 153, 0, 11, 27, 29, 162, 0, 15, 167, 0, 8, 27, 29]
abbrev dktX8_not4_4 : List UInt8 := dkwX8_not4_4 ++ dktX8_not4_5
def dkwX8_not4_3 : List UInt8 := [182, 0, 203, 154, 0, 5, 27, 172, 42, 180, 0, 155, 20, 0, 225, 148, 154, 0, 7, 4, 167, 0, 4, 3]
abbrev dktX8_not4_3 : List UInt8 := dkwX8_not4_3 ++ dktX8_not4_4
def dkwX8_not4_2 : List UInt8 := [4, 167, 0, 4, 3, 172, 42, 182, 0, 242, 60, 42, 16, 60, 182, 0, 203, 154, 0, 14, 42, 16, 61]
abbrev dktX8_not4_2 : List UInt8 := dkwX8_not4_2 ++ dktX8_not4_3
def dkwX8_not4_1 : List UInt8 := [154, 0, 5, 3, 172, 42, 182, 0, 227, 60, 42, 89, 180, 0, 172, 4, 100, 181, 0, 172, 27, 154, 0, 7]
abbrev dktX8_not4_1 : List UInt8 := dkwX8_not4_1 ++ dktX8_not4_2
def dkwX8_not4_0 : List UInt8 := [42, 16, 110, 16, 111, 16, 116, 3, 3, 3, 3, 3, 182, 0, 181, 153, 0, 37, 42, 182, 0, 206]
abbrev dktX8_not4_0 : List UInt8 := dkwX8_not4_0 ++ dktX8_not4_1
theorem dksX8_not4_0 : cX8_not4.data.toList.drop 0 = dktX8_not4_0 := by decide +kernel
theorem dksX8_not4_1 : cX8_not4.data.toList.drop 22 = dktX8_not4_1 := dk_seg dksX8_not4_0 22 rfl rfl
theorem dksX8_not4_2 : cX8_not4.data.toList.drop 46 = dktX8_not4_2 := dk_seg dksX8_not4_1 24 rfl rfl
theorem dksX8_not4_3 : cX8_not4.data.toList.drop 69 = dktX8_not4_3 := dk_seg dksX8_not4_2 23 rfl rfl
theorem dksX8_not4_4 : cX8_not4.data.toList.drop 93 = dktX8_not4_4 := dk_seg dksX8_not4_3 24 rfl rfl
theorem dksX8_not4_5 : cX8_not4.data.toList.drop 117 = dktX8_not4_5 := dk_seg dksX8_not4_4 24 rfl rfl
theorem dX8_not4_0 : decode cX8_not4 0 = .ok (.aload_n 0, 1) := dk_42 (dk_at dksX8_not4_0 0 rfl rfl)
theorem dX8_not4_1 : decode cX8_not4 1 = .ok (.bipush 110, 2) := dk_16 110 (dk_at dksX8_not4_0 1 rfl rfl)
theorem dX8_not4_3 : decode cX8_not4 3 = .ok (.bipush 111, 2) := dk_16 111 (dk_at dksX8_not4_0 3 rfl rfl)
theorem dX8_not4_5 : decode cX8_not4 5 = .ok (.bipush 116, 2) := dk_16 116 (dk_at dksX8_not4_0 5 rfl rfl)
theorem dX8_not4_7 : decode cX8_not4 7 = .ok (.iconst 0, 1) := dk_3 (dk_at dksX8_not4_0 7 rfl rfl)
theorem dX8_not4_8 : decode cX8_not4 8 = .ok (.iconst 0, 1) := dk_3 (dk_at dksX8_not4_0 8 rfl rfl)
theorem dX8_not4_9 : decode cX8_not4 9 = .ok (.iconst 0, 1) := dk_3 (dk_at dksX8_not4_0 9 rfl rfl)
theorem dX8_not4_10 : decode cX8_not4 10 = .ok (.iconst 0, 1) := dk_3 (dk_at dksX8_not4_0 10 rfl rfl)
theorem dX8_not4_11 : decode cX8_not4 11 = .ok (.iconst 0, 1) := dk_3 (dk_at dksX8_not4_0 11 rfl rfl)
theorem dX8_not4_12 : decode cX8_not4 12 = .ok (.invokevirtual 181, 3) := dk_182 0 181 (dk_at dksX8_not4_0 12 rfl rfl)
theorem dX8_not4_15 : decode cX8_not4 15 = .ok (.ifCond .eq 37, 3) := dk_153 0 37 (dk_at dksX8_not4_0 15 rfl rfl)
theorem dX8_not4_18 : decode cX8_not4 18 = .ok (.aload_n 0, 1) := dk_42 (dk_at dksX8_not4_0 18 rfl rfl)
theorem dX8_not4_19 : decode cX8_not4 19 = .ok (.invokevirtual 206, 3) := dk_182 0 206 (dk_at dksX8_not4_0 19 rfl rfl)
theorem dX8_not4_22 : decode cX8_not4 22 = .ok (.ifCond .ne 5, 3) := dk_154 0 5 (dk_at dksX8_not4_1 0 rfl rfl)
theorem dX8_not4_25 : decode cX8_not4 25 = .ok (.iconst 0, 1) := dk_3 (dk_at dksX8_not4_1 3 rfl rfl)
theorem dX8_not4_26 : decode cX8_not4 26 = .ok (.ireturn, 1) := dk_172 (dk_at dksX8_not4_1 4 rfl rfl)
theorem dX8_not4_27 : decode cX8_not4 27 = .ok (.aload_n 0, 1) := dk_42 (dk_at dksX8_not4_1 5 rfl rfl)
theorem dX8_not4_28 : decode cX8_not4 28 = .ok (.invokevirtual 227, 3) := dk_182 0 227 (dk_at dksX8_not4_1 6 rfl rfl)
theorem dX8_not4_31 : decode cX8_not4 31 = .ok (.istore_n 1, 1) := dk_60 (dk_at dksX8_not4_1 9 rfl rfl)
theorem dX8_not4_32 : decode cX8_not4 32 = .ok (.aload_n 0, 1) := dk_42 (dk_at dksX8_not4_1 10 rfl rfl)
theorem dX8_not4_33 : decode cX8_not4 33 = .ok (.dup, 1) := dk_89 (dk_at dksX8_not4_1 11 rfl rfl)
theorem dX8_not4_34 : decode cX8_not4 34 = .ok (.getfield 172, 3) := dk_180 0 172 (dk_at dksX8_not4_1 12 rfl rfl)
theorem dX8_not4_37 : decode cX8_not4 37 = .ok (.iconst 1, 1) := dk_4 (dk_at dksX8_not4_1 15 rfl rfl)
theorem dX8_not4_38 : decode cX8_not4 38 = .ok (.isub, 1) := dk_100 (dk_at dksX8_not4_1 16 rfl rfl)
theorem dX8_not4_39 : decode cX8_not4 39 = .ok (.putfield 172, 3) := dk_181 0 172 (dk_at dksX8_not4_1 17 rfl rfl)
theorem dX8_not4_42 : decode cX8_not4 42 = .ok (.iload_n 1, 1) := dk_27 (dk_at dksX8_not4_1 20 rfl rfl)
theorem dX8_not4_43 : decode cX8_not4 43 = .ok (.ifCond .ne 7, 3) := dk_154 0 7 (dk_at dksX8_not4_1 21 rfl rfl)
theorem dX8_not4_46 : decode cX8_not4 46 = .ok (.iconst 1, 1) := dk_4 (dk_at dksX8_not4_2 0 rfl rfl)
theorem dX8_not4_47 : decode cX8_not4 47 = .ok (.goto 4, 3) := dk_167 0 4 (dk_at dksX8_not4_2 1 rfl rfl)
theorem dX8_not4_50 : decode cX8_not4 50 = .ok (.iconst 0, 1) := dk_3 (dk_at dksX8_not4_2 4 rfl rfl)
theorem dX8_not4_51 : decode cX8_not4 51 = .ok (.ireturn, 1) := dk_172 (dk_at dksX8_not4_2 5 rfl rfl)
theorem dX8_not4_52 : decode cX8_not4 52 = .ok (.aload_n 0, 1) := dk_42 (dk_at dksX8_not4_2 6 rfl rfl)
theorem dX8_not4_53 : decode cX8_not4 53 = .ok (.invokevirtual 242, 3) := dk_182 0 242 (dk_at dksX8_not4_2 7 rfl rfl)
theorem dX8_not4_56 : decode cX8_not4 56 = .ok (.istore_n 1, 1) := dk_60 (dk_at dksX8_not4_2 10 rfl rfl)
theorem dX8_not4_57 : decode cX8_not4 57 = .ok (.aload_n 0, 1) := dk_42 (dk_at dksX8_not4_2 11 rfl rfl)
theorem dX8_not4_58 : decode cX8_not4 58 = .ok (.bipush 60, 2) := dk_16 60 (dk_at dksX8_not4_2 12 rfl rfl)
theorem dX8_not4_60 : decode cX8_not4 60 = .ok (.invokevirtual 203, 3) := dk_182 0 203 (dk_at dksX8_not4_2 14 rfl rfl)
theorem dX8_not4_63 : decode cX8_not4 63 = .ok (.ifCond .ne 14, 3) := dk_154 0 14 (dk_at dksX8_not4_2 17 rfl rfl)
theorem dX8_not4_66 : decode cX8_not4 66 = .ok (.aload_n 0, 1) := dk_42 (dk_at dksX8_not4_2 20 rfl rfl)
theorem dX8_not4_67 : decode cX8_not4 67 = .ok (.bipush 61, 2) := dk_16 61 (dk_at dksX8_not4_2 21 rfl rfl)
theorem dX8_not4_69 : decode cX8_not4 69 = .ok (.invokevirtual 203, 3) := dk_182 0 203 (dk_at dksX8_not4_3 0 rfl rfl)
theorem dX8_not4_72 : decode cX8_not4 72 = .ok (.ifCond .ne 5, 3) := dk_154 0 5 (dk_at dksX8_not4_3 3 rfl rfl)
theorem dX8_not4_75 : decode cX8_not4 75 = .ok (.iload_n 1, 1) := dk_27 (dk_at dksX8_not4_3 6 rfl rfl)
theorem dX8_not4_76 : decode cX8_not4 76 = .ok (.ireturn, 1) := dk_172 (dk_at dksX8_not4_3 7 rfl rfl)
theorem dX8_not4_77 : decode cX8_not4 77 = .ok (.aload_n 0, 1) := dk_42 (dk_at dksX8_not4_3 8 rfl rfl)
theorem dX8_not4_78 : decode cX8_not4 78 = .ok (.getfield 155, 3) := dk_180 0 155 (dk_at dksX8_not4_3 9 rfl rfl)
theorem dX8_not4_81 : decode cX8_not4 81 = .ok (.ldc2_w 225, 3) := dk_20 0 225 (dk_at dksX8_not4_3 12 rfl rfl)
theorem dX8_not4_84 : decode cX8_not4 84 = .ok (.lcmp, 1) := dk_148 (dk_at dksX8_not4_3 15 rfl rfl)
theorem dX8_not4_85 : decode cX8_not4 85 = .ok (.ifCond .ne 7, 3) := dk_154 0 7 (dk_at dksX8_not4_3 16 rfl rfl)
theorem dX8_not4_88 : decode cX8_not4 88 = .ok (.iconst 1, 1) := dk_4 (dk_at dksX8_not4_3 19 rfl rfl)
theorem dX8_not4_89 : decode cX8_not4 89 = .ok (.goto 4, 3) := dk_167 0 4 (dk_at dksX8_not4_3 20 rfl rfl)
theorem dX8_not4_92 : decode cX8_not4 92 = .ok (.iconst 0, 1) := dk_3 (dk_at dksX8_not4_3 23 rfl rfl)
theorem dX8_not4_93 : decode cX8_not4 93 = .ok (.istore_n 2, 1) := dk_61 (dk_at dksX8_not4_4 0 rfl rfl)
theorem dX8_not4_94 : decode cX8_not4 94 = .ok (.aload_n 0, 1) := dk_42 (dk_at dksX8_not4_4 1 rfl rfl)
theorem dX8_not4_95 : decode cX8_not4 95 = .ok (.invokevirtual 178, 3) := dk_182 0 178 (dk_at dksX8_not4_4 2 rfl rfl)
theorem dX8_not4_98 : decode cX8_not4 98 = .ok (.aload_n 0, 1) := dk_42 (dk_at dksX8_not4_4 5 rfl rfl)
theorem dX8_not4_99 : decode cX8_not4 99 = .ok (.invokevirtual 242, 3) := dk_182 0 242 (dk_at dksX8_not4_4 6 rfl rfl)
theorem dX8_not4_102 : decode cX8_not4 102 = .ok (.istore_n 3, 1) := dk_62 (dk_at dksX8_not4_4 9 rfl rfl)
theorem dX8_not4_103 : decode cX8_not4 103 = .ok (.iload_n 2, 1) := dk_28 (dk_at dksX8_not4_4 10 rfl rfl)
theorem dX8_not4_104 : decode cX8_not4 104 = .ok (.ifCond .eq 11, 3) := dk_153 0 11 (dk_at dksX8_not4_4 11 rfl rfl)
theorem dX8_not4_107 : decode cX8_not4 107 = .ok (.iload_n 1, 1) := dk_27 (dk_at dksX8_not4_4 14 rfl rfl)
theorem dX8_not4_108 : decode cX8_not4 108 = .ok (.iload_n 3, 1) := dk_29 (dk_at dksX8_not4_4 15 rfl rfl)
theorem dX8_not4_109 : decode cX8_not4 109 = .ok (.if_icmp .ge 15, 3) := dk_162 0 15 (dk_at dksX8_not4_4 16 rfl rfl)
theorem dX8_not4_112 : decode cX8_not4 112 = .ok (.goto 8, 3) := dk_167 0 8 (dk_at dksX8_not4_4 19 rfl rfl)
theorem dX8_not4_115 : decode cX8_not4 115 = .ok (.iload_n 1, 1) := dk_27 (dk_at dksX8_not4_4 22 rfl rfl)
theorem dX8_not4_116 : decode cX8_not4 116 = .ok (.iload_n 3, 1) := dk_29 (dk_at dksX8_not4_4 23 rfl rfl)
theorem dX8_not4_117 : decode cX8_not4 117 = .ok (.if_icmp .ne 7, 3) := dk_160 0 7 (dk_at dksX8_not4_5 0 rfl rfl)
theorem dX8_not4_120 : decode cX8_not4 120 = .ok (.iconst 1, 1) := dk_4 (dk_at dksX8_not4_5 3 rfl rfl)
theorem dX8_not4_121 : decode cX8_not4 121 = .ok (.goto 4, 3) := dk_167 0 4 (dk_at dksX8_not4_5 4 rfl rfl)
theorem dX8_not4_124 : decode cX8_not4 124 = .ok (.iconst 0, 1) := dk_3 (dk_at dksX8_not4_5 7 rfl rfl)
theorem dX8_not4_125 : decode cX8_not4 125 = .ok (.ireturn, 1) := dk_172 (dk_at dksX8_not4_5 8 rfl rfl)
abbrev cX8_not5 : ByteArray := prog_16_method_29_code
def yX8_not5 : MethodName := ⟨RX8, "not5", "()I"⟩
def dkwX8_not5_4 : List UInt8 := [167, 0, 4, 3, 172]
abbrev dktX8_not5_4 : List UInt8 := dkwX8_not5_4 ++ []
def dkwX8_not5_3 : List UInt8 := [182, 0, 222, 62, 28, 153, 0, 11, 27, 29, 162, 0, 15, 167, 0, 8, 27, 29, 160, 0, 7, 4]
abbrev dktX8_not5_3 : List UInt8 := dkwX8_not5_3 ++ dktX8_not5_4
def dkwX8_not5_2 : List UInt8 := [27, 172, 42, 180, 0, 155, 20, 0, 225, 148, 154, 0, 7, 4, 167, 0, 4, 3, 61, 42, 182, 0, 178, 42]
abbrev dktX8_not5_2 : List UInt8 := dkwX8_not5_2 ++ dktX8_not5_3
def dkwX8_not5_1 : List UInt8 := [172, 42, 182, 0, 222, 60, 42, 16, 60, 182, 0, 203, 154, 0, 14, 42, 16, 61, 182, 0, 203, 154, 0, 5]
abbrev dktX8_not5_1 : List UInt8 := dkwX8_not5_1 ++ dktX8_not5_2
def dkwX8_not5_0 : List UInt8 := [42, 16, 110, 16, 111, 16, 116, 3, 3, 3, 3, 3, 182, 0, 181, 153, 0, 10, 42, 182, 0, 206, 87, 3]
abbrev dktX8_not5_0 : List UInt8 := dkwX8_not5_0 ++ dktX8_not5_1
theorem dksX8_not5_0 : cX8_not5.data.toList.drop 0 = dktX8_not5_0 := by decide +kernel
theorem dksX8_not5_1 : cX8_not5.data.toList.drop 24 = dktX8_not5_1 := dk_seg dksX8_not5_0 24 rfl rfl
theorem dksX8_not5_2 : cX8_not5.data.toList.drop 48 = dktX8_not5_2 := dk_seg dksX8_not5_1 24 rfl rfl
theorem dksX8_not5_3 : cX8_not5.data.toList.drop 72 = dktX8_not5_3 := dk_seg dksX8_not5_2 24 rfl rfl
theorem dksX8_not5_4 : cX8_not5.data.toList.drop 94 = dktX8_not5_4 := dk_seg dksX8_not5_3 22 rfl rfl
theorem dX8_not5_0 : decode cX8_not5 0 = .ok (.aload_n 0, 1) := dk_42 (dk_at dksX8_not5_0 0 rfl rfl)
theorem dX8_not5_1 : decode cX8_not5 1 = .ok (.bipush 110, 2) := dk_16 110 (dk_at dksX8_not5_0 1 rfl rfl)
theorem dX8_not5_3 : decode cX8_not5 3 = .ok (.bipush 111, 2) := dk_16 111 (dk_at dksX8_not5_0 3 rfl rfl)
theorem dX8_not5_5 : decode cX8_not5 5 = .ok (.bipush 116, 2) := dk_16 116 (dk_at dksX8_not5_0 5 rfl rfl)
theorem dX8_not5_7 : decode cX8_not5 7 = .ok (.iconst 0, 1) := dk_3 (dk_at dksX8_not5_0 7 rfl rfl)
theorem dX8_not5_8 : decode cX8_not5 8 = .ok (.iconst 0, 1) := dk_3 (dk_at dksX8_not5_0 8 rfl rfl)
theorem dX8_not5_9 : decode cX8_not5 9 = .ok (.iconst 0, 1) := dk_3 (dk_at dksX8_not5_0 9 rfl rfl)
theorem dX8_not5_10 : decode cX8_not5 10 = .ok (.iconst 0, 1) := dk_3 (dk_at dksX8_not5_0 10 rfl rfl)
theorem dX8_not5_11 : decode cX8_not5 11 = .ok (.iconst 0, 1) := dk_3 (dk_at dksX8_not5_0 11 rfl rfl)
theorem dX8_not5_12 : decode cX8_not5 12 = .ok (.invokevirtual 181, 3) := dk_182 0 181 (dk_at dksX8_not5_0 12 rfl rfl)
theorem dX8_not5_15 : decode cX8_not5 15 = .ok (.ifCond .eq 10, 3) := dk_153 0 10 (dk_at dksX8_not5_0 15 rfl rfl)
theorem dX8_not5_18 : decode cX8_not5 18 = .ok (.aload_n 0, 1) := dk_42 (dk_at dksX8_not5_0 18 rfl rfl)
theorem dX8_not5_19 : decode cX8_not5 19 = .ok (.invokevirtual 206, 3) := dk_182 0 206 (dk_at dksX8_not5_0 19 rfl rfl)
theorem dX8_not5_22 : decode cX8_not5 22 = .ok (.pop, 1) := dk_87 (dk_at dksX8_not5_0 22 rfl rfl)
theorem dX8_not5_23 : decode cX8_not5 23 = .ok (.iconst 0, 1) := dk_3 (dk_at dksX8_not5_0 23 rfl rfl)
theorem dX8_not5_24 : decode cX8_not5 24 = .ok (.ireturn, 1) := dk_172 (dk_at dksX8_not5_1 0 rfl rfl)
theorem dX8_not5_25 : decode cX8_not5 25 = .ok (.aload_n 0, 1) := dk_42 (dk_at dksX8_not5_1 1 rfl rfl)
theorem dX8_not5_26 : decode cX8_not5 26 = .ok (.invokevirtual 222, 3) := dk_182 0 222 (dk_at dksX8_not5_1 2 rfl rfl)
theorem dX8_not5_29 : decode cX8_not5 29 = .ok (.istore_n 1, 1) := dk_60 (dk_at dksX8_not5_1 5 rfl rfl)
theorem dX8_not5_30 : decode cX8_not5 30 = .ok (.aload_n 0, 1) := dk_42 (dk_at dksX8_not5_1 6 rfl rfl)
theorem dX8_not5_31 : decode cX8_not5 31 = .ok (.bipush 60, 2) := dk_16 60 (dk_at dksX8_not5_1 7 rfl rfl)
theorem dX8_not5_33 : decode cX8_not5 33 = .ok (.invokevirtual 203, 3) := dk_182 0 203 (dk_at dksX8_not5_1 9 rfl rfl)
theorem dX8_not5_36 : decode cX8_not5 36 = .ok (.ifCond .ne 14, 3) := dk_154 0 14 (dk_at dksX8_not5_1 12 rfl rfl)
theorem dX8_not5_39 : decode cX8_not5 39 = .ok (.aload_n 0, 1) := dk_42 (dk_at dksX8_not5_1 15 rfl rfl)
theorem dX8_not5_40 : decode cX8_not5 40 = .ok (.bipush 61, 2) := dk_16 61 (dk_at dksX8_not5_1 16 rfl rfl)
theorem dX8_not5_42 : decode cX8_not5 42 = .ok (.invokevirtual 203, 3) := dk_182 0 203 (dk_at dksX8_not5_1 18 rfl rfl)
theorem dX8_not5_45 : decode cX8_not5 45 = .ok (.ifCond .ne 5, 3) := dk_154 0 5 (dk_at dksX8_not5_1 21 rfl rfl)
theorem dX8_not5_48 : decode cX8_not5 48 = .ok (.iload_n 1, 1) := dk_27 (dk_at dksX8_not5_2 0 rfl rfl)
theorem dX8_not5_49 : decode cX8_not5 49 = .ok (.ireturn, 1) := dk_172 (dk_at dksX8_not5_2 1 rfl rfl)
theorem dX8_not5_50 : decode cX8_not5 50 = .ok (.aload_n 0, 1) := dk_42 (dk_at dksX8_not5_2 2 rfl rfl)
theorem dX8_not5_51 : decode cX8_not5 51 = .ok (.getfield 155, 3) := dk_180 0 155 (dk_at dksX8_not5_2 3 rfl rfl)
theorem dX8_not5_54 : decode cX8_not5 54 = .ok (.ldc2_w 225, 3) := dk_20 0 225 (dk_at dksX8_not5_2 6 rfl rfl)
theorem dX8_not5_57 : decode cX8_not5 57 = .ok (.lcmp, 1) := dk_148 (dk_at dksX8_not5_2 9 rfl rfl)
theorem dX8_not5_58 : decode cX8_not5 58 = .ok (.ifCond .ne 7, 3) := dk_154 0 7 (dk_at dksX8_not5_2 10 rfl rfl)
theorem dX8_not5_61 : decode cX8_not5 61 = .ok (.iconst 1, 1) := dk_4 (dk_at dksX8_not5_2 13 rfl rfl)
theorem dX8_not5_62 : decode cX8_not5 62 = .ok (.goto 4, 3) := dk_167 0 4 (dk_at dksX8_not5_2 14 rfl rfl)
theorem dX8_not5_65 : decode cX8_not5 65 = .ok (.iconst 0, 1) := dk_3 (dk_at dksX8_not5_2 17 rfl rfl)
theorem dX8_not5_66 : decode cX8_not5 66 = .ok (.istore_n 2, 1) := dk_61 (dk_at dksX8_not5_2 18 rfl rfl)
theorem dX8_not5_67 : decode cX8_not5 67 = .ok (.aload_n 0, 1) := dk_42 (dk_at dksX8_not5_2 19 rfl rfl)
theorem dX8_not5_68 : decode cX8_not5 68 = .ok (.invokevirtual 178, 3) := dk_182 0 178 (dk_at dksX8_not5_2 20 rfl rfl)
theorem dX8_not5_71 : decode cX8_not5 71 = .ok (.aload_n 0, 1) := dk_42 (dk_at dksX8_not5_2 23 rfl rfl)
theorem dX8_not5_72 : decode cX8_not5 72 = .ok (.invokevirtual 222, 3) := dk_182 0 222 (dk_at dksX8_not5_3 0 rfl rfl)
theorem dX8_not5_75 : decode cX8_not5 75 = .ok (.istore_n 3, 1) := dk_62 (dk_at dksX8_not5_3 3 rfl rfl)
theorem dX8_not5_76 : decode cX8_not5 76 = .ok (.iload_n 2, 1) := dk_28 (dk_at dksX8_not5_3 4 rfl rfl)
theorem dX8_not5_77 : decode cX8_not5 77 = .ok (.ifCond .eq 11, 3) := dk_153 0 11 (dk_at dksX8_not5_3 5 rfl rfl)
theorem dX8_not5_80 : decode cX8_not5 80 = .ok (.iload_n 1, 1) := dk_27 (dk_at dksX8_not5_3 8 rfl rfl)
theorem dX8_not5_81 : decode cX8_not5 81 = .ok (.iload_n 3, 1) := dk_29 (dk_at dksX8_not5_3 9 rfl rfl)
theorem dX8_not5_82 : decode cX8_not5 82 = .ok (.if_icmp .ge 15, 3) := dk_162 0 15 (dk_at dksX8_not5_3 10 rfl rfl)
theorem dX8_not5_85 : decode cX8_not5 85 = .ok (.goto 8, 3) := dk_167 0 8 (dk_at dksX8_not5_3 13 rfl rfl)
theorem dX8_not5_88 : decode cX8_not5 88 = .ok (.iload_n 1, 1) := dk_27 (dk_at dksX8_not5_3 16 rfl rfl)
theorem dX8_not5_89 : decode cX8_not5 89 = .ok (.iload_n 3, 1) := dk_29 (dk_at dksX8_not5_3 17 rfl rfl)
theorem dX8_not5_90 : decode cX8_not5 90 = .ok (.if_icmp .ne 7, 3) := dk_160 0 7 (dk_at dksX8_not5_3 18 rfl rfl)
theorem dX8_not5_93 : decode cX8_not5 93 = .ok (.iconst 1, 1) := dk_4 (dk_at dksX8_not5_3 21 rfl rfl)
theorem dX8_not5_94 : decode cX8_not5 94 = .ok (.goto 4, 3) := dk_167 0 4 (dk_at dksX8_not5_4 0 rfl rfl)
theorem dX8_not5_97 : decode cX8_not5 97 = .ok (.iconst 0, 1) := dk_3 (dk_at dksX8_not5_4 3 rfl rfl)
theorem dX8_not5_98 : decode cX8_not5 98 = .ok (.ireturn, 1) := dk_172 (dk_at dksX8_not5_4 4 rfl rfl)
abbrev cX8_added5 : ByteArray := prog_16_method_28_code
def yX8_added5 : MethodName := ⟨RX8, "added5", "()I"⟩
def dkwX8_added5_2 : List UInt8 := [62, 28, 153, 0, 9, 27, 29, 96, 167, 0, 6, 27, 29, 100, 60, 167, 255, 198, 27, 172]
abbrev dktX8_added5_2 : List UInt8 := dkwX8_added5_2 ++ []
def dkwX8_added5_1 : List UInt8 := [180, 0, 155, 20, 0, 220, 148, 154, 0, 7, 4, 167, 0, 4, 3, 61, 42, 182, 0, 178, 42, 182, 0, 217]
abbrev dktX8_added5_1 : List UInt8 := dkwX8_added5_1 ++ dktX8_added5_2
def dkwX8_added5_0 : List UInt8 := [42, 182, 0, 217, 60, 42, 16, 43, 182, 0, 203, 154, 0, 12, 42, 16, 45, 182, 0, 203, 153, 0, 46, 42]
abbrev dktX8_added5_0 : List UInt8 := dkwX8_added5_0 ++ dktX8_added5_1
theorem dksX8_added5_0 : cX8_added5.data.toList.drop 0 = dktX8_added5_0 := by decide +kernel
theorem dksX8_added5_1 : cX8_added5.data.toList.drop 24 = dktX8_added5_1 := dk_seg dksX8_added5_0 24 rfl rfl
theorem dksX8_added5_2 : cX8_added5.data.toList.drop 48 = dktX8_added5_2 := dk_seg dksX8_added5_1 24 rfl rfl
theorem dX8_added5_0 : decode cX8_added5 0 = .ok (.aload_n 0, 1) := dk_42 (dk_at dksX8_added5_0 0 rfl rfl)
theorem dX8_added5_1 : decode cX8_added5 1 = .ok (.invokevirtual 217, 3) := dk_182 0 217 (dk_at dksX8_added5_0 1 rfl rfl)
theorem dX8_added5_4 : decode cX8_added5 4 = .ok (.istore_n 1, 1) := dk_60 (dk_at dksX8_added5_0 4 rfl rfl)
theorem dX8_added5_5 : decode cX8_added5 5 = .ok (.aload_n 0, 1) := dk_42 (dk_at dksX8_added5_0 5 rfl rfl)
theorem dX8_added5_6 : decode cX8_added5 6 = .ok (.bipush 43, 2) := dk_16 43 (dk_at dksX8_added5_0 6 rfl rfl)
theorem dX8_added5_8 : decode cX8_added5 8 = .ok (.invokevirtual 203, 3) := dk_182 0 203 (dk_at dksX8_added5_0 8 rfl rfl)
theorem dX8_added5_11 : decode cX8_added5 11 = .ok (.ifCond .ne 12, 3) := dk_154 0 12 (dk_at dksX8_added5_0 11 rfl rfl)
theorem dX8_added5_14 : decode cX8_added5 14 = .ok (.aload_n 0, 1) := dk_42 (dk_at dksX8_added5_0 14 rfl rfl)
theorem dX8_added5_15 : decode cX8_added5 15 = .ok (.bipush 45, 2) := dk_16 45 (dk_at dksX8_added5_0 15 rfl rfl)
theorem dX8_added5_17 : decode cX8_added5 17 = .ok (.invokevirtual 203, 3) := dk_182 0 203 (dk_at dksX8_added5_0 17 rfl rfl)
theorem dX8_added5_20 : decode cX8_added5 20 = .ok (.ifCond .eq 46, 3) := dk_153 0 46 (dk_at dksX8_added5_0 20 rfl rfl)
theorem dX8_added5_23 : decode cX8_added5 23 = .ok (.aload_n 0, 1) := dk_42 (dk_at dksX8_added5_0 23 rfl rfl)
theorem dX8_added5_24 : decode cX8_added5 24 = .ok (.getfield 155, 3) := dk_180 0 155 (dk_at dksX8_added5_1 0 rfl rfl)
theorem dX8_added5_27 : decode cX8_added5 27 = .ok (.ldc2_w 220, 3) := dk_20 0 220 (dk_at dksX8_added5_1 3 rfl rfl)
theorem dX8_added5_30 : decode cX8_added5 30 = .ok (.lcmp, 1) := dk_148 (dk_at dksX8_added5_1 6 rfl rfl)
theorem dX8_added5_31 : decode cX8_added5 31 = .ok (.ifCond .ne 7, 3) := dk_154 0 7 (dk_at dksX8_added5_1 7 rfl rfl)
theorem dX8_added5_34 : decode cX8_added5 34 = .ok (.iconst 1, 1) := dk_4 (dk_at dksX8_added5_1 10 rfl rfl)
theorem dX8_added5_35 : decode cX8_added5 35 = .ok (.goto 4, 3) := dk_167 0 4 (dk_at dksX8_added5_1 11 rfl rfl)
theorem dX8_added5_38 : decode cX8_added5 38 = .ok (.iconst 0, 1) := dk_3 (dk_at dksX8_added5_1 14 rfl rfl)
theorem dX8_added5_39 : decode cX8_added5 39 = .ok (.istore_n 2, 1) := dk_61 (dk_at dksX8_added5_1 15 rfl rfl)
theorem dX8_added5_40 : decode cX8_added5 40 = .ok (.aload_n 0, 1) := dk_42 (dk_at dksX8_added5_1 16 rfl rfl)
theorem dX8_added5_41 : decode cX8_added5 41 = .ok (.invokevirtual 178, 3) := dk_182 0 178 (dk_at dksX8_added5_1 17 rfl rfl)
theorem dX8_added5_44 : decode cX8_added5 44 = .ok (.aload_n 0, 1) := dk_42 (dk_at dksX8_added5_1 20 rfl rfl)
theorem dX8_added5_45 : decode cX8_added5 45 = .ok (.invokevirtual 217, 3) := dk_182 0 217 (dk_at dksX8_added5_1 21 rfl rfl)
theorem dX8_added5_48 : decode cX8_added5 48 = .ok (.istore_n 3, 1) := dk_62 (dk_at dksX8_added5_2 0 rfl rfl)
theorem dX8_added5_49 : decode cX8_added5 49 = .ok (.iload_n 2, 1) := dk_28 (dk_at dksX8_added5_2 1 rfl rfl)
theorem dX8_added5_50 : decode cX8_added5 50 = .ok (.ifCond .eq 9, 3) := dk_153 0 9 (dk_at dksX8_added5_2 2 rfl rfl)
theorem dX8_added5_53 : decode cX8_added5 53 = .ok (.iload_n 1, 1) := dk_27 (dk_at dksX8_added5_2 5 rfl rfl)
theorem dX8_added5_54 : decode cX8_added5 54 = .ok (.iload_n 3, 1) := dk_29 (dk_at dksX8_added5_2 6 rfl rfl)
theorem dX8_added5_55 : decode cX8_added5 55 = .ok (.iadd, 1) := dk_96 (dk_at dksX8_added5_2 7 rfl rfl)
theorem dX8_added5_56 : decode cX8_added5 56 = .ok (.goto 6, 3) := dk_167 0 6 (dk_at dksX8_added5_2 8 rfl rfl)
theorem dX8_added5_59 : decode cX8_added5 59 = .ok (.iload_n 1, 1) := dk_27 (dk_at dksX8_added5_2 11 rfl rfl)
theorem dX8_added5_60 : decode cX8_added5 60 = .ok (.iload_n 3, 1) := dk_29 (dk_at dksX8_added5_2 12 rfl rfl)
theorem dX8_added5_61 : decode cX8_added5 61 = .ok (.isub, 1) := dk_100 (dk_at dksX8_added5_2 13 rfl rfl)
theorem dX8_added5_62 : decode cX8_added5 62 = .ok (.istore_n 1, 1) := dk_60 (dk_at dksX8_added5_2 14 rfl rfl)
theorem dX8_added5_63 : decode cX8_added5 63 = .ok (.goto (-58), 3) := dk_167 255 198 (dk_at dksX8_added5_2 15 rfl rfl)
theorem dX8_added5_66 : decode cX8_added5 66 = .ok (.iload_n 1, 1) := dk_27 (dk_at dksX8_added5_2 18 rfl rfl)
theorem dX8_added5_67 : decode cX8_added5 67 = .ok (.ireturn, 1) := dk_172 (dk_at dksX8_added5_2 19 rfl rfl)
abbrev cX8_term5 : ByteArray := prog_16_method_27_code
def yX8_term5 : MethodName := ⟨RX8, "term5", "()I"⟩
def dkwX8_term5_1 : List UInt8 := [60, 167, 255, 236, 27, 172]
abbrev dktX8_term5_1 : List UInt8 := dkwX8_term5_1 ++ []
def dkwX8_term5_0 : List UInt8 := [42, 182, 0, 214, 60, 42, 16, 42, 182, 0, 203, 153, 0, 17, 42, 182, 0, 178, 27, 42, 182, 0, 214, 104]
abbrev dktX8_term5_0 : List UInt8 := dkwX8_term5_0 ++ dktX8_term5_1
theorem dksX8_term5_0 : cX8_term5.data.toList.drop 0 = dktX8_term5_0 := by decide +kernel
theorem dksX8_term5_1 : cX8_term5.data.toList.drop 24 = dktX8_term5_1 := dk_seg dksX8_term5_0 24 rfl rfl
theorem dX8_term5_0 : decode cX8_term5 0 = .ok (.aload_n 0, 1) := dk_42 (dk_at dksX8_term5_0 0 rfl rfl)
theorem dX8_term5_1 : decode cX8_term5 1 = .ok (.invokevirtual 214, 3) := dk_182 0 214 (dk_at dksX8_term5_0 1 rfl rfl)
theorem dX8_term5_4 : decode cX8_term5 4 = .ok (.istore_n 1, 1) := dk_60 (dk_at dksX8_term5_0 4 rfl rfl)
theorem dX8_term5_5 : decode cX8_term5 5 = .ok (.aload_n 0, 1) := dk_42 (dk_at dksX8_term5_0 5 rfl rfl)
theorem dX8_term5_6 : decode cX8_term5 6 = .ok (.bipush 42, 2) := dk_16 42 (dk_at dksX8_term5_0 6 rfl rfl)
theorem dX8_term5_8 : decode cX8_term5 8 = .ok (.invokevirtual 203, 3) := dk_182 0 203 (dk_at dksX8_term5_0 8 rfl rfl)
theorem dX8_term5_11 : decode cX8_term5 11 = .ok (.ifCond .eq 17, 3) := dk_153 0 17 (dk_at dksX8_term5_0 11 rfl rfl)
theorem dX8_term5_14 : decode cX8_term5 14 = .ok (.aload_n 0, 1) := dk_42 (dk_at dksX8_term5_0 14 rfl rfl)
theorem dX8_term5_15 : decode cX8_term5 15 = .ok (.invokevirtual 178, 3) := dk_182 0 178 (dk_at dksX8_term5_0 15 rfl rfl)
theorem dX8_term5_18 : decode cX8_term5 18 = .ok (.iload_n 1, 1) := dk_27 (dk_at dksX8_term5_0 18 rfl rfl)
theorem dX8_term5_19 : decode cX8_term5 19 = .ok (.aload_n 0, 1) := dk_42 (dk_at dksX8_term5_0 19 rfl rfl)
theorem dX8_term5_20 : decode cX8_term5 20 = .ok (.invokevirtual 214, 3) := dk_182 0 214 (dk_at dksX8_term5_0 20 rfl rfl)
theorem dX8_term5_23 : decode cX8_term5 23 = .ok (.imul, 1) := dk_104 (dk_at dksX8_term5_0 23 rfl rfl)
theorem dX8_term5_24 : decode cX8_term5 24 = .ok (.istore_n 1, 1) := dk_60 (dk_at dksX8_term5_1 0 rfl rfl)
theorem dX8_term5_25 : decode cX8_term5 25 = .ok (.goto (-20), 3) := dk_167 255 236 (dk_at dksX8_term5_1 1 rfl rfl)
theorem dX8_term5_28 : decode cX8_term5 28 = .ok (.iload_n 1, 1) := dk_27 (dk_at dksX8_term5_1 4 rfl rfl)
theorem dX8_term5_29 : decode cX8_term5 29 = .ok (.ireturn, 1) := dk_172 (dk_at dksX8_term5_1 5 rfl rfl)
abbrev cX8_atom5 : ByteArray := prog_16_method_26_code
def yX8_atom5 : MethodName := ⟨RX8, "atom5", "()I"⟩
def dkwX8_atom5_4 : List UInt8 := [182, 0, 178, 167, 0, 7, 42, 182, 0, 175, 27, 172]
abbrev dktX8_atom5_4 : List UInt8 := dkwX8_atom5_4 ++ []
def dkwX8_atom5_3 : List UInt8 := [154, 0, 30, 42, 180, 0, 144, 4, 160, 0, 22, 42, 182, 0, 210, 60, 42, 180, 0, 161, 154, 0, 14, 42]
abbrev dktX8_atom5_3 : List UInt8 := dkwX8_atom5_3 ++ dktX8_atom5_4
def dkwX8_atom5_2 : List UInt8 := [180, 0, 144, 5, 160, 0, 16, 42, 180, 0, 155, 136, 60, 42, 182, 0, 178, 167, 0, 41, 42, 180, 0, 161]
abbrev dktX8_atom5_2 : List UInt8 := dkwX8_atom5_2 ++ dktX8_atom5_3
def dkwX8_atom5_1 : List UInt8 := [182, 0, 203, 153, 0, 11, 42, 182, 0, 206, 87, 167, 0, 69, 42, 180, 0, 161, 154, 0, 24, 42]
abbrev dktX8_atom5_1 : List UInt8 := dkwX8_atom5_1 ++ dktX8_atom5_2
def dkwX8_atom5_0 : List UInt8 := [3, 60, 42, 16, 45, 182, 0, 203, 153, 0, 11, 42, 182, 0, 206, 87, 167, 0, 86, 42, 16, 40]
abbrev dktX8_atom5_0 : List UInt8 := dkwX8_atom5_0 ++ dktX8_atom5_1
theorem dksX8_atom5_0 : cX8_atom5.data.toList.drop 0 = dktX8_atom5_0 := by decide +kernel
theorem dksX8_atom5_1 : cX8_atom5.data.toList.drop 22 = dktX8_atom5_1 := dk_seg dksX8_atom5_0 22 rfl rfl
theorem dksX8_atom5_2 : cX8_atom5.data.toList.drop 44 = dktX8_atom5_2 := dk_seg dksX8_atom5_1 22 rfl rfl
theorem dksX8_atom5_3 : cX8_atom5.data.toList.drop 68 = dktX8_atom5_3 := dk_seg dksX8_atom5_2 24 rfl rfl
theorem dksX8_atom5_4 : cX8_atom5.data.toList.drop 92 = dktX8_atom5_4 := dk_seg dksX8_atom5_3 24 rfl rfl
theorem dX8_atom5_0 : decode cX8_atom5 0 = .ok (.iconst 0, 1) := dk_3 (dk_at dksX8_atom5_0 0 rfl rfl)
theorem dX8_atom5_1 : decode cX8_atom5 1 = .ok (.istore_n 1, 1) := dk_60 (dk_at dksX8_atom5_0 1 rfl rfl)
theorem dX8_atom5_2 : decode cX8_atom5 2 = .ok (.aload_n 0, 1) := dk_42 (dk_at dksX8_atom5_0 2 rfl rfl)
theorem dX8_atom5_3 : decode cX8_atom5 3 = .ok (.bipush 45, 2) := dk_16 45 (dk_at dksX8_atom5_0 3 rfl rfl)
theorem dX8_atom5_5 : decode cX8_atom5 5 = .ok (.invokevirtual 203, 3) := dk_182 0 203 (dk_at dksX8_atom5_0 5 rfl rfl)
theorem dX8_atom5_8 : decode cX8_atom5 8 = .ok (.ifCond .eq 11, 3) := dk_153 0 11 (dk_at dksX8_atom5_0 8 rfl rfl)
theorem dX8_atom5_11 : decode cX8_atom5 11 = .ok (.aload_n 0, 1) := dk_42 (dk_at dksX8_atom5_0 11 rfl rfl)
theorem dX8_atom5_12 : decode cX8_atom5 12 = .ok (.invokevirtual 206, 3) := dk_182 0 206 (dk_at dksX8_atom5_0 12 rfl rfl)
theorem dX8_atom5_15 : decode cX8_atom5 15 = .ok (.pop, 1) := dk_87 (dk_at dksX8_atom5_0 15 rfl rfl)
theorem dX8_atom5_16 : decode cX8_atom5 16 = .ok (.goto 86, 3) := dk_167 0 86 (dk_at dksX8_atom5_0 16 rfl rfl)
theorem dX8_atom5_19 : decode cX8_atom5 19 = .ok (.aload_n 0, 1) := dk_42 (dk_at dksX8_atom5_0 19 rfl rfl)
theorem dX8_atom5_20 : decode cX8_atom5 20 = .ok (.bipush 40, 2) := dk_16 40 (dk_at dksX8_atom5_0 20 rfl rfl)
theorem dX8_atom5_22 : decode cX8_atom5 22 = .ok (.invokevirtual 203, 3) := dk_182 0 203 (dk_at dksX8_atom5_1 0 rfl rfl)
theorem dX8_atom5_25 : decode cX8_atom5 25 = .ok (.ifCond .eq 11, 3) := dk_153 0 11 (dk_at dksX8_atom5_1 3 rfl rfl)
theorem dX8_atom5_28 : decode cX8_atom5 28 = .ok (.aload_n 0, 1) := dk_42 (dk_at dksX8_atom5_1 6 rfl rfl)
theorem dX8_atom5_29 : decode cX8_atom5 29 = .ok (.invokevirtual 206, 3) := dk_182 0 206 (dk_at dksX8_atom5_1 7 rfl rfl)
theorem dX8_atom5_32 : decode cX8_atom5 32 = .ok (.pop, 1) := dk_87 (dk_at dksX8_atom5_1 10 rfl rfl)
theorem dX8_atom5_33 : decode cX8_atom5 33 = .ok (.goto 69, 3) := dk_167 0 69 (dk_at dksX8_atom5_1 11 rfl rfl)
theorem dX8_atom5_36 : decode cX8_atom5 36 = .ok (.aload_n 0, 1) := dk_42 (dk_at dksX8_atom5_1 14 rfl rfl)
theorem dX8_atom5_37 : decode cX8_atom5 37 = .ok (.getfield 161, 3) := dk_180 0 161 (dk_at dksX8_atom5_1 15 rfl rfl)
theorem dX8_atom5_40 : decode cX8_atom5 40 = .ok (.ifCond .ne 24, 3) := dk_154 0 24 (dk_at dksX8_atom5_1 18 rfl rfl)
theorem dX8_atom5_43 : decode cX8_atom5 43 = .ok (.aload_n 0, 1) := dk_42 (dk_at dksX8_atom5_1 21 rfl rfl)
theorem dX8_atom5_44 : decode cX8_atom5 44 = .ok (.getfield 144, 3) := dk_180 0 144 (dk_at dksX8_atom5_2 0 rfl rfl)
theorem dX8_atom5_47 : decode cX8_atom5 47 = .ok (.iconst 2, 1) := dk_5 (dk_at dksX8_atom5_2 3 rfl rfl)
theorem dX8_atom5_48 : decode cX8_atom5 48 = .ok (.if_icmp .ne 16, 3) := dk_160 0 16 (dk_at dksX8_atom5_2 4 rfl rfl)
theorem dX8_atom5_51 : decode cX8_atom5 51 = .ok (.aload_n 0, 1) := dk_42 (dk_at dksX8_atom5_2 7 rfl rfl)
theorem dX8_atom5_52 : decode cX8_atom5 52 = .ok (.getfield 155, 3) := dk_180 0 155 (dk_at dksX8_atom5_2 8 rfl rfl)
theorem dX8_atom5_55 : decode cX8_atom5 55 = .ok (.l2i, 1) := dk_136 (dk_at dksX8_atom5_2 11 rfl rfl)
theorem dX8_atom5_56 : decode cX8_atom5 56 = .ok (.istore_n 1, 1) := dk_60 (dk_at dksX8_atom5_2 12 rfl rfl)
theorem dX8_atom5_57 : decode cX8_atom5 57 = .ok (.aload_n 0, 1) := dk_42 (dk_at dksX8_atom5_2 13 rfl rfl)
theorem dX8_atom5_58 : decode cX8_atom5 58 = .ok (.invokevirtual 178, 3) := dk_182 0 178 (dk_at dksX8_atom5_2 14 rfl rfl)
theorem dX8_atom5_61 : decode cX8_atom5 61 = .ok (.goto 41, 3) := dk_167 0 41 (dk_at dksX8_atom5_2 17 rfl rfl)
theorem dX8_atom5_64 : decode cX8_atom5 64 = .ok (.aload_n 0, 1) := dk_42 (dk_at dksX8_atom5_2 20 rfl rfl)
theorem dX8_atom5_65 : decode cX8_atom5 65 = .ok (.getfield 161, 3) := dk_180 0 161 (dk_at dksX8_atom5_2 21 rfl rfl)
theorem dX8_atom5_68 : decode cX8_atom5 68 = .ok (.ifCond .ne 30, 3) := dk_154 0 30 (dk_at dksX8_atom5_3 0 rfl rfl)
theorem dX8_atom5_71 : decode cX8_atom5 71 = .ok (.aload_n 0, 1) := dk_42 (dk_at dksX8_atom5_3 3 rfl rfl)
theorem dX8_atom5_72 : decode cX8_atom5 72 = .ok (.getfield 144, 3) := dk_180 0 144 (dk_at dksX8_atom5_3 4 rfl rfl)
theorem dX8_atom5_75 : decode cX8_atom5 75 = .ok (.iconst 1, 1) := dk_4 (dk_at dksX8_atom5_3 7 rfl rfl)
theorem dX8_atom5_76 : decode cX8_atom5 76 = .ok (.if_icmp .ne 22, 3) := dk_160 0 22 (dk_at dksX8_atom5_3 8 rfl rfl)
theorem dX8_atom5_79 : decode cX8_atom5 79 = .ok (.aload_n 0, 1) := dk_42 (dk_at dksX8_atom5_3 11 rfl rfl)
theorem dX8_atom5_80 : decode cX8_atom5 80 = .ok (.invokevirtual 210, 3) := dk_182 0 210 (dk_at dksX8_atom5_3 12 rfl rfl)
theorem dX8_atom5_83 : decode cX8_atom5 83 = .ok (.istore_n 1, 1) := dk_60 (dk_at dksX8_atom5_3 15 rfl rfl)
theorem dX8_atom5_84 : decode cX8_atom5 84 = .ok (.aload_n 0, 1) := dk_42 (dk_at dksX8_atom5_3 16 rfl rfl)
theorem dX8_atom5_85 : decode cX8_atom5 85 = .ok (.getfield 161, 3) := dk_180 0 161 (dk_at dksX8_atom5_3 17 rfl rfl)
theorem dX8_atom5_88 : decode cX8_atom5 88 = .ok (.ifCond .ne 14, 3) := dk_154 0 14 (dk_at dksX8_atom5_3 20 rfl rfl)
theorem dX8_atom5_91 : decode cX8_atom5 91 = .ok (.aload_n 0, 1) := dk_42 (dk_at dksX8_atom5_3 23 rfl rfl)
theorem dX8_atom5_92 : decode cX8_atom5 92 = .ok (.invokevirtual 178, 3) := dk_182 0 178 (dk_at dksX8_atom5_4 0 rfl rfl)
theorem dX8_atom5_95 : decode cX8_atom5 95 = .ok (.goto 7, 3) := dk_167 0 7 (dk_at dksX8_atom5_4 3 rfl rfl)
theorem dX8_atom5_98 : decode cX8_atom5 98 = .ok (.aload_n 0, 1) := dk_42 (dk_at dksX8_atom5_4 6 rfl rfl)
theorem dX8_atom5_99 : decode cX8_atom5 99 = .ok (.invokevirtual 175, 3) := dk_182 0 175 (dk_at dksX8_atom5_4 7 rfl rfl)
theorem dX8_atom5_102 : decode cX8_atom5 102 = .ok (.iload_n 1, 1) := dk_27 (dk_at dksX8_atom5_4 10 rfl rfl)
theorem dX8_atom5_103 : decode cX8_atom5 103 = .ok (.ireturn, 1) := dk_172 (dk_at dksX8_atom5_4 11 rfl rfl)
abbrev cX8_isSign : ByteArray := prog_16_method_23_code
def yX8_isSign : MethodName := ⟨RX8, "isSign", "(I)Z"⟩
def dkwX8_isSign_1 : List UInt8 := [154, 0, 7, 4, 167, 0, 4, 3, 172]
abbrev dktX8_isSign_1 : List UInt8 := dkwX8_isSign_1 ++ []
def dkwX8_isSign_0 : List UInt8 := [42, 180, 0, 161, 154, 0, 25, 42, 180, 0, 144, 6, 160, 0, 17, 42, 180, 0, 155, 27, 133, 148]
abbrev dktX8_isSign_0 : List UInt8 := dkwX8_isSign_0 ++ dktX8_isSign_1
theorem dksX8_isSign_0 : cX8_isSign.data.toList.drop 0 = dktX8_isSign_0 := by decide +kernel
theorem dksX8_isSign_1 : cX8_isSign.data.toList.drop 22 = dktX8_isSign_1 := dk_seg dksX8_isSign_0 22 rfl rfl
theorem dX8_isSign_0 : decode cX8_isSign 0 = .ok (.aload_n 0, 1) := dk_42 (dk_at dksX8_isSign_0 0 rfl rfl)
theorem dX8_isSign_1 : decode cX8_isSign 1 = .ok (.getfield 161, 3) := dk_180 0 161 (dk_at dksX8_isSign_0 1 rfl rfl)
theorem dX8_isSign_4 : decode cX8_isSign 4 = .ok (.ifCond .ne 25, 3) := dk_154 0 25 (dk_at dksX8_isSign_0 4 rfl rfl)
theorem dX8_isSign_7 : decode cX8_isSign 7 = .ok (.aload_n 0, 1) := dk_42 (dk_at dksX8_isSign_0 7 rfl rfl)
theorem dX8_isSign_8 : decode cX8_isSign 8 = .ok (.getfield 144, 3) := dk_180 0 144 (dk_at dksX8_isSign_0 8 rfl rfl)
theorem dX8_isSign_11 : decode cX8_isSign 11 = .ok (.iconst 3, 1) := dk_6 (dk_at dksX8_isSign_0 11 rfl rfl)
theorem dX8_isSign_12 : decode cX8_isSign 12 = .ok (.if_icmp .ne 17, 3) := dk_160 0 17 (dk_at dksX8_isSign_0 12 rfl rfl)
theorem dX8_isSign_15 : decode cX8_isSign 15 = .ok (.aload_n 0, 1) := dk_42 (dk_at dksX8_isSign_0 15 rfl rfl)
theorem dX8_isSign_16 : decode cX8_isSign 16 = .ok (.getfield 155, 3) := dk_180 0 155 (dk_at dksX8_isSign_0 16 rfl rfl)
theorem dX8_isSign_19 : decode cX8_isSign 19 = .ok (.iload_n 1, 1) := dk_27 (dk_at dksX8_isSign_0 19 rfl rfl)
theorem dX8_isSign_20 : decode cX8_isSign 20 = .ok (.i2l, 1) := dk_133 (dk_at dksX8_isSign_0 20 rfl rfl)
theorem dX8_isSign_21 : decode cX8_isSign 21 = .ok (.lcmp, 1) := dk_148 (dk_at dksX8_isSign_0 21 rfl rfl)
theorem dX8_isSign_22 : decode cX8_isSign 22 = .ok (.ifCond .ne 7, 3) := dk_154 0 7 (dk_at dksX8_isSign_1 0 rfl rfl)
theorem dX8_isSign_25 : decode cX8_isSign 25 = .ok (.iconst 1, 1) := dk_4 (dk_at dksX8_isSign_1 3 rfl rfl)
theorem dX8_isSign_26 : decode cX8_isSign 26 = .ok (.goto 4, 3) := dk_167 0 4 (dk_at dksX8_isSign_1 4 rfl rfl)
theorem dX8_isSign_29 : decode cX8_isSign 29 = .ok (.iconst 0, 1) := dk_3 (dk_at dksX8_isSign_1 7 rfl rfl)
theorem dX8_isSign_30 : decode cX8_isSign 30 = .ok (.ireturn, 1) := dk_172 (dk_at dksX8_isSign_1 8 rfl rfl)
abbrev cX8_name : ByteArray := prog_16_method_25_code
def yX8_name : MethodName := ⟨RX8, "name", "()I"⟩
def dkwX8_name_6 : List UInt8 := [182, 0, 181, 153, 0, 8, 42, 180, 0, 200, 172, 42, 182, 0, 175, 3, 172]
abbrev dktX8_name_6 : List UInt8 := dkwX8_name_6 ++ []
def dkwX8_name_5 : List UInt8 := [153, 0, 8, 42, 180, 0, 197, 172, 42, 16, 116, 16, 104, 16, 101, 16, 105, 16, 114, 16, 115, 3, 3]
abbrev dktX8_name_5 : List UInt8 := dkwX8_name_5 ++ dktX8_name_6
def dkwX8_name_4 : List UInt8 := [42, 180, 0, 194, 172, 42, 16, 98, 16, 101, 16, 104, 16, 105, 16, 110, 16, 100, 3, 3, 182, 0, 181]
abbrev dktX8_name_4 : List UInt8 := dkwX8_name_4 ++ dktX8_name_5
def dkwX8_name_3 : List UInt8 := [42, 180, 0, 191, 172, 42, 16, 104, 16, 111, 16, 117, 16, 114, 3, 3, 3, 3, 182, 0, 181, 153, 0, 8]
abbrev dktX8_name_3 : List UInt8 := dkwX8_name_3 ++ dktX8_name_4
def dkwX8_name_2 : List UInt8 := [180, 0, 188, 172, 42, 16, 115, 16, 116, 16, 101, 16, 112, 16, 115, 3, 3, 3, 182, 0, 181, 153, 0, 8]
abbrev dktX8_name_2 : List UInt8 := dkwX8_name_2 ++ dktX8_name_3
def dkwX8_name_1 : List UInt8 := [172, 42, 16, 110, 16, 117, 16, 109, 16, 98, 16, 101, 16, 114, 3, 3, 182, 0, 181, 153, 0, 8, 42]
abbrev dktX8_name_1 : List UInt8 := dkwX8_name_1 ++ dktX8_name_2
def dkwX8_name_0 : List UInt8 := [42, 16, 109, 16, 105, 16, 108, 16, 101, 16, 115, 3, 3, 3, 182, 0, 181, 153, 0, 8, 42, 180, 0, 185]
abbrev dktX8_name_0 : List UInt8 := dkwX8_name_0 ++ dktX8_name_1
theorem dksX8_name_0 : cX8_name.data.toList.drop 0 = dktX8_name_0 := by decide +kernel
theorem dksX8_name_1 : cX8_name.data.toList.drop 24 = dktX8_name_1 := dk_seg dksX8_name_0 24 rfl rfl
theorem dksX8_name_2 : cX8_name.data.toList.drop 47 = dktX8_name_2 := dk_seg dksX8_name_1 23 rfl rfl
theorem dksX8_name_3 : cX8_name.data.toList.drop 71 = dktX8_name_3 := dk_seg dksX8_name_2 24 rfl rfl
theorem dksX8_name_4 : cX8_name.data.toList.drop 95 = dktX8_name_4 := dk_seg dksX8_name_3 24 rfl rfl
theorem dksX8_name_5 : cX8_name.data.toList.drop 118 = dktX8_name_5 := dk_seg dksX8_name_4 23 rfl rfl
theorem dksX8_name_6 : cX8_name.data.toList.drop 141 = dktX8_name_6 := dk_seg dksX8_name_5 23 rfl rfl
theorem dX8_name_0 : decode cX8_name 0 = .ok (.aload_n 0, 1) := dk_42 (dk_at dksX8_name_0 0 rfl rfl)
theorem dX8_name_1 : decode cX8_name 1 = .ok (.bipush 109, 2) := dk_16 109 (dk_at dksX8_name_0 1 rfl rfl)
theorem dX8_name_3 : decode cX8_name 3 = .ok (.bipush 105, 2) := dk_16 105 (dk_at dksX8_name_0 3 rfl rfl)
theorem dX8_name_5 : decode cX8_name 5 = .ok (.bipush 108, 2) := dk_16 108 (dk_at dksX8_name_0 5 rfl rfl)
theorem dX8_name_7 : decode cX8_name 7 = .ok (.bipush 101, 2) := dk_16 101 (dk_at dksX8_name_0 7 rfl rfl)
theorem dX8_name_9 : decode cX8_name 9 = .ok (.bipush 115, 2) := dk_16 115 (dk_at dksX8_name_0 9 rfl rfl)
theorem dX8_name_11 : decode cX8_name 11 = .ok (.iconst 0, 1) := dk_3 (dk_at dksX8_name_0 11 rfl rfl)
theorem dX8_name_12 : decode cX8_name 12 = .ok (.iconst 0, 1) := dk_3 (dk_at dksX8_name_0 12 rfl rfl)
theorem dX8_name_13 : decode cX8_name 13 = .ok (.iconst 0, 1) := dk_3 (dk_at dksX8_name_0 13 rfl rfl)
theorem dX8_name_14 : decode cX8_name 14 = .ok (.invokevirtual 181, 3) := dk_182 0 181 (dk_at dksX8_name_0 14 rfl rfl)
theorem dX8_name_17 : decode cX8_name 17 = .ok (.ifCond .eq 8, 3) := dk_153 0 8 (dk_at dksX8_name_0 17 rfl rfl)
theorem dX8_name_20 : decode cX8_name 20 = .ok (.aload_n 0, 1) := dk_42 (dk_at dksX8_name_0 20 rfl rfl)
theorem dX8_name_21 : decode cX8_name 21 = .ok (.getfield 185, 3) := dk_180 0 185 (dk_at dksX8_name_0 21 rfl rfl)
theorem dX8_name_24 : decode cX8_name 24 = .ok (.ireturn, 1) := dk_172 (dk_at dksX8_name_1 0 rfl rfl)
theorem dX8_name_25 : decode cX8_name 25 = .ok (.aload_n 0, 1) := dk_42 (dk_at dksX8_name_1 1 rfl rfl)
theorem dX8_name_26 : decode cX8_name 26 = .ok (.bipush 110, 2) := dk_16 110 (dk_at dksX8_name_1 2 rfl rfl)
theorem dX8_name_28 : decode cX8_name 28 = .ok (.bipush 117, 2) := dk_16 117 (dk_at dksX8_name_1 4 rfl rfl)
theorem dX8_name_30 : decode cX8_name 30 = .ok (.bipush 109, 2) := dk_16 109 (dk_at dksX8_name_1 6 rfl rfl)
theorem dX8_name_32 : decode cX8_name 32 = .ok (.bipush 98, 2) := dk_16 98 (dk_at dksX8_name_1 8 rfl rfl)
theorem dX8_name_34 : decode cX8_name 34 = .ok (.bipush 101, 2) := dk_16 101 (dk_at dksX8_name_1 10 rfl rfl)
theorem dX8_name_36 : decode cX8_name 36 = .ok (.bipush 114, 2) := dk_16 114 (dk_at dksX8_name_1 12 rfl rfl)
theorem dX8_name_38 : decode cX8_name 38 = .ok (.iconst 0, 1) := dk_3 (dk_at dksX8_name_1 14 rfl rfl)
theorem dX8_name_39 : decode cX8_name 39 = .ok (.iconst 0, 1) := dk_3 (dk_at dksX8_name_1 15 rfl rfl)
theorem dX8_name_40 : decode cX8_name 40 = .ok (.invokevirtual 181, 3) := dk_182 0 181 (dk_at dksX8_name_1 16 rfl rfl)
theorem dX8_name_43 : decode cX8_name 43 = .ok (.ifCond .eq 8, 3) := dk_153 0 8 (dk_at dksX8_name_1 19 rfl rfl)
theorem dX8_name_46 : decode cX8_name 46 = .ok (.aload_n 0, 1) := dk_42 (dk_at dksX8_name_1 22 rfl rfl)
theorem dX8_name_47 : decode cX8_name 47 = .ok (.getfield 188, 3) := dk_180 0 188 (dk_at dksX8_name_2 0 rfl rfl)
theorem dX8_name_50 : decode cX8_name 50 = .ok (.ireturn, 1) := dk_172 (dk_at dksX8_name_2 3 rfl rfl)
theorem dX8_name_51 : decode cX8_name 51 = .ok (.aload_n 0, 1) := dk_42 (dk_at dksX8_name_2 4 rfl rfl)
theorem dX8_name_52 : decode cX8_name 52 = .ok (.bipush 115, 2) := dk_16 115 (dk_at dksX8_name_2 5 rfl rfl)
theorem dX8_name_54 : decode cX8_name 54 = .ok (.bipush 116, 2) := dk_16 116 (dk_at dksX8_name_2 7 rfl rfl)
theorem dX8_name_56 : decode cX8_name 56 = .ok (.bipush 101, 2) := dk_16 101 (dk_at dksX8_name_2 9 rfl rfl)
theorem dX8_name_58 : decode cX8_name 58 = .ok (.bipush 112, 2) := dk_16 112 (dk_at dksX8_name_2 11 rfl rfl)
theorem dX8_name_60 : decode cX8_name 60 = .ok (.bipush 115, 2) := dk_16 115 (dk_at dksX8_name_2 13 rfl rfl)
theorem dX8_name_62 : decode cX8_name 62 = .ok (.iconst 0, 1) := dk_3 (dk_at dksX8_name_2 15 rfl rfl)
theorem dX8_name_63 : decode cX8_name 63 = .ok (.iconst 0, 1) := dk_3 (dk_at dksX8_name_2 16 rfl rfl)
theorem dX8_name_64 : decode cX8_name 64 = .ok (.iconst 0, 1) := dk_3 (dk_at dksX8_name_2 17 rfl rfl)
theorem dX8_name_65 : decode cX8_name 65 = .ok (.invokevirtual 181, 3) := dk_182 0 181 (dk_at dksX8_name_2 18 rfl rfl)
theorem dX8_name_68 : decode cX8_name 68 = .ok (.ifCond .eq 8, 3) := dk_153 0 8 (dk_at dksX8_name_2 21 rfl rfl)
theorem dX8_name_71 : decode cX8_name 71 = .ok (.aload_n 0, 1) := dk_42 (dk_at dksX8_name_3 0 rfl rfl)
theorem dX8_name_72 : decode cX8_name 72 = .ok (.getfield 191, 3) := dk_180 0 191 (dk_at dksX8_name_3 1 rfl rfl)
theorem dX8_name_75 : decode cX8_name 75 = .ok (.ireturn, 1) := dk_172 (dk_at dksX8_name_3 4 rfl rfl)
theorem dX8_name_76 : decode cX8_name 76 = .ok (.aload_n 0, 1) := dk_42 (dk_at dksX8_name_3 5 rfl rfl)
theorem dX8_name_77 : decode cX8_name 77 = .ok (.bipush 104, 2) := dk_16 104 (dk_at dksX8_name_3 6 rfl rfl)
theorem dX8_name_79 : decode cX8_name 79 = .ok (.bipush 111, 2) := dk_16 111 (dk_at dksX8_name_3 8 rfl rfl)
theorem dX8_name_81 : decode cX8_name 81 = .ok (.bipush 117, 2) := dk_16 117 (dk_at dksX8_name_3 10 rfl rfl)
theorem dX8_name_83 : decode cX8_name 83 = .ok (.bipush 114, 2) := dk_16 114 (dk_at dksX8_name_3 12 rfl rfl)
theorem dX8_name_85 : decode cX8_name 85 = .ok (.iconst 0, 1) := dk_3 (dk_at dksX8_name_3 14 rfl rfl)
theorem dX8_name_86 : decode cX8_name 86 = .ok (.iconst 0, 1) := dk_3 (dk_at dksX8_name_3 15 rfl rfl)
theorem dX8_name_87 : decode cX8_name 87 = .ok (.iconst 0, 1) := dk_3 (dk_at dksX8_name_3 16 rfl rfl)
theorem dX8_name_88 : decode cX8_name 88 = .ok (.iconst 0, 1) := dk_3 (dk_at dksX8_name_3 17 rfl rfl)
theorem dX8_name_89 : decode cX8_name 89 = .ok (.invokevirtual 181, 3) := dk_182 0 181 (dk_at dksX8_name_3 18 rfl rfl)
theorem dX8_name_92 : decode cX8_name 92 = .ok (.ifCond .eq 8, 3) := dk_153 0 8 (dk_at dksX8_name_3 21 rfl rfl)
theorem dX8_name_95 : decode cX8_name 95 = .ok (.aload_n 0, 1) := dk_42 (dk_at dksX8_name_4 0 rfl rfl)
theorem dX8_name_96 : decode cX8_name 96 = .ok (.getfield 194, 3) := dk_180 0 194 (dk_at dksX8_name_4 1 rfl rfl)
theorem dX8_name_99 : decode cX8_name 99 = .ok (.ireturn, 1) := dk_172 (dk_at dksX8_name_4 4 rfl rfl)
theorem dX8_name_100 : decode cX8_name 100 = .ok (.aload_n 0, 1) := dk_42 (dk_at dksX8_name_4 5 rfl rfl)
theorem dX8_name_101 : decode cX8_name 101 = .ok (.bipush 98, 2) := dk_16 98 (dk_at dksX8_name_4 6 rfl rfl)
theorem dX8_name_103 : decode cX8_name 103 = .ok (.bipush 101, 2) := dk_16 101 (dk_at dksX8_name_4 8 rfl rfl)
theorem dX8_name_105 : decode cX8_name 105 = .ok (.bipush 104, 2) := dk_16 104 (dk_at dksX8_name_4 10 rfl rfl)
theorem dX8_name_107 : decode cX8_name 107 = .ok (.bipush 105, 2) := dk_16 105 (dk_at dksX8_name_4 12 rfl rfl)
theorem dX8_name_109 : decode cX8_name 109 = .ok (.bipush 110, 2) := dk_16 110 (dk_at dksX8_name_4 14 rfl rfl)
theorem dX8_name_111 : decode cX8_name 111 = .ok (.bipush 100, 2) := dk_16 100 (dk_at dksX8_name_4 16 rfl rfl)
theorem dX8_name_113 : decode cX8_name 113 = .ok (.iconst 0, 1) := dk_3 (dk_at dksX8_name_4 18 rfl rfl)
theorem dX8_name_114 : decode cX8_name 114 = .ok (.iconst 0, 1) := dk_3 (dk_at dksX8_name_4 19 rfl rfl)
theorem dX8_name_115 : decode cX8_name 115 = .ok (.invokevirtual 181, 3) := dk_182 0 181 (dk_at dksX8_name_4 20 rfl rfl)
theorem dX8_name_118 : decode cX8_name 118 = .ok (.ifCond .eq 8, 3) := dk_153 0 8 (dk_at dksX8_name_5 0 rfl rfl)
theorem dX8_name_121 : decode cX8_name 121 = .ok (.aload_n 0, 1) := dk_42 (dk_at dksX8_name_5 3 rfl rfl)
theorem dX8_name_122 : decode cX8_name 122 = .ok (.getfield 197, 3) := dk_180 0 197 (dk_at dksX8_name_5 4 rfl rfl)
theorem dX8_name_125 : decode cX8_name 125 = .ok (.ireturn, 1) := dk_172 (dk_at dksX8_name_5 7 rfl rfl)
theorem dX8_name_126 : decode cX8_name 126 = .ok (.aload_n 0, 1) := dk_42 (dk_at dksX8_name_5 8 rfl rfl)
theorem dX8_name_127 : decode cX8_name 127 = .ok (.bipush 116, 2) := dk_16 116 (dk_at dksX8_name_5 9 rfl rfl)
theorem dX8_name_129 : decode cX8_name 129 = .ok (.bipush 104, 2) := dk_16 104 (dk_at dksX8_name_5 11 rfl rfl)
theorem dX8_name_131 : decode cX8_name 131 = .ok (.bipush 101, 2) := dk_16 101 (dk_at dksX8_name_5 13 rfl rfl)
theorem dX8_name_133 : decode cX8_name 133 = .ok (.bipush 105, 2) := dk_16 105 (dk_at dksX8_name_5 15 rfl rfl)
theorem dX8_name_135 : decode cX8_name 135 = .ok (.bipush 114, 2) := dk_16 114 (dk_at dksX8_name_5 17 rfl rfl)
theorem dX8_name_137 : decode cX8_name 137 = .ok (.bipush 115, 2) := dk_16 115 (dk_at dksX8_name_5 19 rfl rfl)
theorem dX8_name_139 : decode cX8_name 139 = .ok (.iconst 0, 1) := dk_3 (dk_at dksX8_name_5 21 rfl rfl)
theorem dX8_name_140 : decode cX8_name 140 = .ok (.iconst 0, 1) := dk_3 (dk_at dksX8_name_5 22 rfl rfl)
theorem dX8_name_141 : decode cX8_name 141 = .ok (.invokevirtual 181, 3) := dk_182 0 181 (dk_at dksX8_name_6 0 rfl rfl)
theorem dX8_name_144 : decode cX8_name 144 = .ok (.ifCond .eq 8, 3) := dk_153 0 8 (dk_at dksX8_name_6 3 rfl rfl)
theorem dX8_name_147 : decode cX8_name 147 = .ok (.aload_n 0, 1) := dk_42 (dk_at dksX8_name_6 6 rfl rfl)
theorem dX8_name_148 : decode cX8_name 148 = .ok (.getfield 200, 3) := dk_180 0 200 (dk_at dksX8_name_6 7 rfl rfl)
theorem dX8_name_151 : decode cX8_name 151 = .ok (.ireturn, 1) := dk_172 (dk_at dksX8_name_6 10 rfl rfl)
theorem dX8_name_152 : decode cX8_name 152 = .ok (.aload_n 0, 1) := dk_42 (dk_at dksX8_name_6 11 rfl rfl)
theorem dX8_name_153 : decode cX8_name 153 = .ok (.invokevirtual 175, 3) := dk_182 0 175 (dk_at dksX8_name_6 12 rfl rfl)
theorem dX8_name_156 : decode cX8_name 156 = .ok (.iconst 0, 1) := dk_3 (dk_at dksX8_name_6 15 rfl rfl)
theorem dX8_name_157 : decode cX8_name 157 = .ok (.ireturn, 1) := dk_172 (dk_at dksX8_name_6 16 rfl rfl)
abbrev cX8_added4 : ByteArray := prog_16_method_34_code
def yX8_added4 : MethodName := ⟨RX8, "added4", "()I"⟩
def dkwX8_added4_2 : List UInt8 := [62, 28, 153, 0, 9, 27, 29, 96, 167, 0, 6, 27, 29, 100, 60, 167, 255, 198, 27, 172]
abbrev dktX8_added4_2 : List UInt8 := dkwX8_added4_2 ++ []
def dkwX8_added4_1 : List UInt8 := [180, 0, 155, 20, 0, 220, 148, 154, 0, 7, 4, 167, 0, 4, 3, 61, 42, 182, 0, 178, 42, 182, 0, 239]
abbrev dktX8_added4_1 : List UInt8 := dkwX8_added4_1 ++ dktX8_added4_2
def dkwX8_added4_0 : List UInt8 := [42, 182, 0, 239, 60, 42, 16, 43, 182, 0, 203, 154, 0, 12, 42, 16, 45, 182, 0, 203, 153, 0, 46, 42]
abbrev dktX8_added4_0 : List UInt8 := dkwX8_added4_0 ++ dktX8_added4_1
theorem dksX8_added4_0 : cX8_added4.data.toList.drop 0 = dktX8_added4_0 := by decide +kernel
theorem dksX8_added4_1 : cX8_added4.data.toList.drop 24 = dktX8_added4_1 := dk_seg dksX8_added4_0 24 rfl rfl
theorem dksX8_added4_2 : cX8_added4.data.toList.drop 48 = dktX8_added4_2 := dk_seg dksX8_added4_1 24 rfl rfl
theorem dX8_added4_0 : decode cX8_added4 0 = .ok (.aload_n 0, 1) := dk_42 (dk_at dksX8_added4_0 0 rfl rfl)
theorem dX8_added4_1 : decode cX8_added4 1 = .ok (.invokevirtual 239, 3) := dk_182 0 239 (dk_at dksX8_added4_0 1 rfl rfl)
theorem dX8_added4_4 : decode cX8_added4 4 = .ok (.istore_n 1, 1) := dk_60 (dk_at dksX8_added4_0 4 rfl rfl)
theorem dX8_added4_5 : decode cX8_added4 5 = .ok (.aload_n 0, 1) := dk_42 (dk_at dksX8_added4_0 5 rfl rfl)
theorem dX8_added4_6 : decode cX8_added4 6 = .ok (.bipush 43, 2) := dk_16 43 (dk_at dksX8_added4_0 6 rfl rfl)
theorem dX8_added4_8 : decode cX8_added4 8 = .ok (.invokevirtual 203, 3) := dk_182 0 203 (dk_at dksX8_added4_0 8 rfl rfl)
theorem dX8_added4_11 : decode cX8_added4 11 = .ok (.ifCond .ne 12, 3) := dk_154 0 12 (dk_at dksX8_added4_0 11 rfl rfl)
theorem dX8_added4_14 : decode cX8_added4 14 = .ok (.aload_n 0, 1) := dk_42 (dk_at dksX8_added4_0 14 rfl rfl)
theorem dX8_added4_15 : decode cX8_added4 15 = .ok (.bipush 45, 2) := dk_16 45 (dk_at dksX8_added4_0 15 rfl rfl)
theorem dX8_added4_17 : decode cX8_added4 17 = .ok (.invokevirtual 203, 3) := dk_182 0 203 (dk_at dksX8_added4_0 17 rfl rfl)
theorem dX8_added4_20 : decode cX8_added4 20 = .ok (.ifCond .eq 46, 3) := dk_153 0 46 (dk_at dksX8_added4_0 20 rfl rfl)
theorem dX8_added4_23 : decode cX8_added4 23 = .ok (.aload_n 0, 1) := dk_42 (dk_at dksX8_added4_0 23 rfl rfl)
theorem dX8_added4_24 : decode cX8_added4 24 = .ok (.getfield 155, 3) := dk_180 0 155 (dk_at dksX8_added4_1 0 rfl rfl)
theorem dX8_added4_27 : decode cX8_added4 27 = .ok (.ldc2_w 220, 3) := dk_20 0 220 (dk_at dksX8_added4_1 3 rfl rfl)
theorem dX8_added4_30 : decode cX8_added4 30 = .ok (.lcmp, 1) := dk_148 (dk_at dksX8_added4_1 6 rfl rfl)
theorem dX8_added4_31 : decode cX8_added4 31 = .ok (.ifCond .ne 7, 3) := dk_154 0 7 (dk_at dksX8_added4_1 7 rfl rfl)
theorem dX8_added4_34 : decode cX8_added4 34 = .ok (.iconst 1, 1) := dk_4 (dk_at dksX8_added4_1 10 rfl rfl)
theorem dX8_added4_35 : decode cX8_added4 35 = .ok (.goto 4, 3) := dk_167 0 4 (dk_at dksX8_added4_1 11 rfl rfl)
theorem dX8_added4_38 : decode cX8_added4 38 = .ok (.iconst 0, 1) := dk_3 (dk_at dksX8_added4_1 14 rfl rfl)
theorem dX8_added4_39 : decode cX8_added4 39 = .ok (.istore_n 2, 1) := dk_61 (dk_at dksX8_added4_1 15 rfl rfl)
theorem dX8_added4_40 : decode cX8_added4 40 = .ok (.aload_n 0, 1) := dk_42 (dk_at dksX8_added4_1 16 rfl rfl)
theorem dX8_added4_41 : decode cX8_added4 41 = .ok (.invokevirtual 178, 3) := dk_182 0 178 (dk_at dksX8_added4_1 17 rfl rfl)
theorem dX8_added4_44 : decode cX8_added4 44 = .ok (.aload_n 0, 1) := dk_42 (dk_at dksX8_added4_1 20 rfl rfl)
theorem dX8_added4_45 : decode cX8_added4 45 = .ok (.invokevirtual 239, 3) := dk_182 0 239 (dk_at dksX8_added4_1 21 rfl rfl)
theorem dX8_added4_48 : decode cX8_added4 48 = .ok (.istore_n 3, 1) := dk_62 (dk_at dksX8_added4_2 0 rfl rfl)
theorem dX8_added4_49 : decode cX8_added4 49 = .ok (.iload_n 2, 1) := dk_28 (dk_at dksX8_added4_2 1 rfl rfl)
theorem dX8_added4_50 : decode cX8_added4 50 = .ok (.ifCond .eq 9, 3) := dk_153 0 9 (dk_at dksX8_added4_2 2 rfl rfl)
theorem dX8_added4_53 : decode cX8_added4 53 = .ok (.iload_n 1, 1) := dk_27 (dk_at dksX8_added4_2 5 rfl rfl)
theorem dX8_added4_54 : decode cX8_added4 54 = .ok (.iload_n 3, 1) := dk_29 (dk_at dksX8_added4_2 6 rfl rfl)
theorem dX8_added4_55 : decode cX8_added4 55 = .ok (.iadd, 1) := dk_96 (dk_at dksX8_added4_2 7 rfl rfl)
theorem dX8_added4_56 : decode cX8_added4 56 = .ok (.goto 6, 3) := dk_167 0 6 (dk_at dksX8_added4_2 8 rfl rfl)
theorem dX8_added4_59 : decode cX8_added4 59 = .ok (.iload_n 1, 1) := dk_27 (dk_at dksX8_added4_2 11 rfl rfl)
theorem dX8_added4_60 : decode cX8_added4 60 = .ok (.iload_n 3, 1) := dk_29 (dk_at dksX8_added4_2 12 rfl rfl)
theorem dX8_added4_61 : decode cX8_added4 61 = .ok (.isub, 1) := dk_100 (dk_at dksX8_added4_2 13 rfl rfl)
theorem dX8_added4_62 : decode cX8_added4 62 = .ok (.istore_n 1, 1) := dk_60 (dk_at dksX8_added4_2 14 rfl rfl)
theorem dX8_added4_63 : decode cX8_added4 63 = .ok (.goto (-58), 3) := dk_167 255 198 (dk_at dksX8_added4_2 15 rfl rfl)
theorem dX8_added4_66 : decode cX8_added4 66 = .ok (.iload_n 1, 1) := dk_27 (dk_at dksX8_added4_2 18 rfl rfl)
theorem dX8_added4_67 : decode cX8_added4 67 = .ok (.ireturn, 1) := dk_172 (dk_at dksX8_added4_2 19 rfl rfl)
abbrev cX8_term4 : ByteArray := prog_16_method_33_code
def yX8_term4 : MethodName := ⟨RX8, "term4", "()I"⟩
def dkwX8_term4_1 : List UInt8 := [60, 167, 255, 236, 27, 172]
abbrev dktX8_term4_1 : List UInt8 := dkwX8_term4_1 ++ []
def dkwX8_term4_0 : List UInt8 := [42, 182, 0, 236, 60, 42, 16, 42, 182, 0, 203, 153, 0, 17, 42, 182, 0, 178, 27, 42, 182, 0, 236, 104]
abbrev dktX8_term4_0 : List UInt8 := dkwX8_term4_0 ++ dktX8_term4_1
theorem dksX8_term4_0 : cX8_term4.data.toList.drop 0 = dktX8_term4_0 := by decide +kernel
theorem dksX8_term4_1 : cX8_term4.data.toList.drop 24 = dktX8_term4_1 := dk_seg dksX8_term4_0 24 rfl rfl
theorem dX8_term4_0 : decode cX8_term4 0 = .ok (.aload_n 0, 1) := dk_42 (dk_at dksX8_term4_0 0 rfl rfl)
theorem dX8_term4_1 : decode cX8_term4 1 = .ok (.invokevirtual 236, 3) := dk_182 0 236 (dk_at dksX8_term4_0 1 rfl rfl)
theorem dX8_term4_4 : decode cX8_term4 4 = .ok (.istore_n 1, 1) := dk_60 (dk_at dksX8_term4_0 4 rfl rfl)
theorem dX8_term4_5 : decode cX8_term4 5 = .ok (.aload_n 0, 1) := dk_42 (dk_at dksX8_term4_0 5 rfl rfl)
theorem dX8_term4_6 : decode cX8_term4 6 = .ok (.bipush 42, 2) := dk_16 42 (dk_at dksX8_term4_0 6 rfl rfl)
theorem dX8_term4_8 : decode cX8_term4 8 = .ok (.invokevirtual 203, 3) := dk_182 0 203 (dk_at dksX8_term4_0 8 rfl rfl)
theorem dX8_term4_11 : decode cX8_term4 11 = .ok (.ifCond .eq 17, 3) := dk_153 0 17 (dk_at dksX8_term4_0 11 rfl rfl)
theorem dX8_term4_14 : decode cX8_term4 14 = .ok (.aload_n 0, 1) := dk_42 (dk_at dksX8_term4_0 14 rfl rfl)
theorem dX8_term4_15 : decode cX8_term4 15 = .ok (.invokevirtual 178, 3) := dk_182 0 178 (dk_at dksX8_term4_0 15 rfl rfl)
theorem dX8_term4_18 : decode cX8_term4 18 = .ok (.iload_n 1, 1) := dk_27 (dk_at dksX8_term4_0 18 rfl rfl)
theorem dX8_term4_19 : decode cX8_term4 19 = .ok (.aload_n 0, 1) := dk_42 (dk_at dksX8_term4_0 19 rfl rfl)
theorem dX8_term4_20 : decode cX8_term4 20 = .ok (.invokevirtual 236, 3) := dk_182 0 236 (dk_at dksX8_term4_0 20 rfl rfl)
theorem dX8_term4_23 : decode cX8_term4 23 = .ok (.imul, 1) := dk_104 (dk_at dksX8_term4_0 23 rfl rfl)
theorem dX8_term4_24 : decode cX8_term4 24 = .ok (.istore_n 1, 1) := dk_60 (dk_at dksX8_term4_1 0 rfl rfl)
theorem dX8_term4_25 : decode cX8_term4 25 = .ok (.goto (-20), 3) := dk_167 255 236 (dk_at dksX8_term4_1 1 rfl rfl)
theorem dX8_term4_28 : decode cX8_term4 28 = .ok (.iload_n 1, 1) := dk_27 (dk_at dksX8_term4_1 4 rfl rfl)
theorem dX8_term4_29 : decode cX8_term4 29 = .ok (.ireturn, 1) := dk_172 (dk_at dksX8_term4_1 5 rfl rfl)
abbrev cX8_atom4 : ByteArray := prog_16_method_32_code
def yX8_atom4 : MethodName := ⟨RX8, "atom4", "()I"⟩
def dkwX8_atom4_6 : List UInt8 := [182, 0, 210, 60, 42, 180, 0, 161, 154, 0, 14, 42, 182, 0, 178, 167, 0, 7, 42, 182, 0, 175, 27, 172]
abbrev dktX8_atom4_6 : List UInt8 := dkwX8_atom4_6 ++ []
def dkwX8_atom4_5 : List UInt8 := [182, 0, 178, 167, 0, 41, 42, 180, 0, 161, 154, 0, 30, 42, 180, 0, 144, 4, 160, 0, 22, 42]
abbrev dktX8_atom4_5 : List UInt8 := dkwX8_atom4_5 ++ dktX8_atom4_6
def dkwX8_atom4_4 : List UInt8 := [42, 180, 0, 161, 154, 0, 24, 42, 180, 0, 144, 5, 160, 0, 16, 42, 180, 0, 155, 136, 60, 42]
abbrev dktX8_atom4_4 : List UInt8 := dkwX8_atom4_4 ++ dktX8_atom4_5
def dkwX8_atom4_3 : List UInt8 := [42, 89, 180, 0, 172, 4, 100, 181, 0, 172, 42, 180, 0, 161, 154, 0, 76, 42, 182, 0, 178, 167, 0, 69]
abbrev dktX8_atom4_3 : List UInt8 := dkwX8_atom4_3 ++ dktX8_atom4_4
def dkwX8_atom4_2 : List UInt8 := [182, 0, 206, 153, 0, 111, 42, 182, 0, 233, 60, 42, 16, 41, 182, 0, 203, 154, 0, 7, 42, 182, 0, 175]
abbrev dktX8_atom4_2 : List UInt8 := dkwX8_atom4_2 ++ dktX8_atom4_3
def dkwX8_atom4_1 : List UInt8 := [42, 89, 180, 0, 172, 4, 100, 181, 0, 172, 167, 0, 127, 42, 16, 40, 182, 0, 203, 153, 0, 52, 42]
abbrev dktX8_atom4_1 : List UInt8 := dkwX8_atom4_1 ++ dktX8_atom4_2
def dkwX8_atom4_0 : List UInt8 := [3, 60, 42, 16, 45, 182, 0, 203, 153, 0, 29, 42, 182, 0, 206, 153, 0, 146, 42, 182, 0, 214, 116, 60]
abbrev dktX8_atom4_0 : List UInt8 := dkwX8_atom4_0 ++ dktX8_atom4_1
theorem dksX8_atom4_0 : cX8_atom4.data.toList.drop 0 = dktX8_atom4_0 := by decide +kernel
theorem dksX8_atom4_1 : cX8_atom4.data.toList.drop 24 = dktX8_atom4_1 := dk_seg dksX8_atom4_0 24 rfl rfl
theorem dksX8_atom4_2 : cX8_atom4.data.toList.drop 47 = dktX8_atom4_2 := dk_seg dksX8_atom4_1 23 rfl rfl
theorem dksX8_atom4_3 : cX8_atom4.data.toList.drop 71 = dktX8_atom4_3 := dk_seg dksX8_atom4_2 24 rfl rfl
theorem dksX8_atom4_4 : cX8_atom4.data.toList.drop 95 = dktX8_atom4_4 := dk_seg dksX8_atom4_3 24 rfl rfl
theorem dksX8_atom4_5 : cX8_atom4.data.toList.drop 117 = dktX8_atom4_5 := dk_seg dksX8_atom4_4 22 rfl rfl
theorem dksX8_atom4_6 : cX8_atom4.data.toList.drop 139 = dktX8_atom4_6 := dk_seg dksX8_atom4_5 22 rfl rfl
theorem dX8_atom4_0 : decode cX8_atom4 0 = .ok (.iconst 0, 1) := dk_3 (dk_at dksX8_atom4_0 0 rfl rfl)
theorem dX8_atom4_1 : decode cX8_atom4 1 = .ok (.istore_n 1, 1) := dk_60 (dk_at dksX8_atom4_0 1 rfl rfl)
theorem dX8_atom4_2 : decode cX8_atom4 2 = .ok (.aload_n 0, 1) := dk_42 (dk_at dksX8_atom4_0 2 rfl rfl)
theorem dX8_atom4_3 : decode cX8_atom4 3 = .ok (.bipush 45, 2) := dk_16 45 (dk_at dksX8_atom4_0 3 rfl rfl)
theorem dX8_atom4_5 : decode cX8_atom4 5 = .ok (.invokevirtual 203, 3) := dk_182 0 203 (dk_at dksX8_atom4_0 5 rfl rfl)
theorem dX8_atom4_8 : decode cX8_atom4 8 = .ok (.ifCond .eq 29, 3) := dk_153 0 29 (dk_at dksX8_atom4_0 8 rfl rfl)
theorem dX8_atom4_11 : decode cX8_atom4 11 = .ok (.aload_n 0, 1) := dk_42 (dk_at dksX8_atom4_0 11 rfl rfl)
theorem dX8_atom4_12 : decode cX8_atom4 12 = .ok (.invokevirtual 206, 3) := dk_182 0 206 (dk_at dksX8_atom4_0 12 rfl rfl)
theorem dX8_atom4_15 : decode cX8_atom4 15 = .ok (.ifCond .eq 146, 3) := dk_153 0 146 (dk_at dksX8_atom4_0 15 rfl rfl)
theorem dX8_atom4_18 : decode cX8_atom4 18 = .ok (.aload_n 0, 1) := dk_42 (dk_at dksX8_atom4_0 18 rfl rfl)
theorem dX8_atom4_19 : decode cX8_atom4 19 = .ok (.invokevirtual 214, 3) := dk_182 0 214 (dk_at dksX8_atom4_0 19 rfl rfl)
theorem dX8_atom4_22 : decode cX8_atom4 22 = .ok (.ineg, 1) := dk_116 (dk_at dksX8_atom4_0 22 rfl rfl)
theorem dX8_atom4_23 : decode cX8_atom4 23 = .ok (.istore_n 1, 1) := dk_60 (dk_at dksX8_atom4_0 23 rfl rfl)
theorem dX8_atom4_24 : decode cX8_atom4 24 = .ok (.aload_n 0, 1) := dk_42 (dk_at dksX8_atom4_1 0 rfl rfl)
theorem dX8_atom4_25 : decode cX8_atom4 25 = .ok (.dup, 1) := dk_89 (dk_at dksX8_atom4_1 1 rfl rfl)
theorem dX8_atom4_26 : decode cX8_atom4 26 = .ok (.getfield 172, 3) := dk_180 0 172 (dk_at dksX8_atom4_1 2 rfl rfl)
theorem dX8_atom4_29 : decode cX8_atom4 29 = .ok (.iconst 1, 1) := dk_4 (dk_at dksX8_atom4_1 5 rfl rfl)
theorem dX8_atom4_30 : decode cX8_atom4 30 = .ok (.isub, 1) := dk_100 (dk_at dksX8_atom4_1 6 rfl rfl)
theorem dX8_atom4_31 : decode cX8_atom4 31 = .ok (.putfield 172, 3) := dk_181 0 172 (dk_at dksX8_atom4_1 7 rfl rfl)
theorem dX8_atom4_34 : decode cX8_atom4 34 = .ok (.goto 127, 3) := dk_167 0 127 (dk_at dksX8_atom4_1 10 rfl rfl)
theorem dX8_atom4_37 : decode cX8_atom4 37 = .ok (.aload_n 0, 1) := dk_42 (dk_at dksX8_atom4_1 13 rfl rfl)
theorem dX8_atom4_38 : decode cX8_atom4 38 = .ok (.bipush 40, 2) := dk_16 40 (dk_at dksX8_atom4_1 14 rfl rfl)
theorem dX8_atom4_40 : decode cX8_atom4 40 = .ok (.invokevirtual 203, 3) := dk_182 0 203 (dk_at dksX8_atom4_1 16 rfl rfl)
theorem dX8_atom4_43 : decode cX8_atom4 43 = .ok (.ifCond .eq 52, 3) := dk_153 0 52 (dk_at dksX8_atom4_1 19 rfl rfl)
theorem dX8_atom4_46 : decode cX8_atom4 46 = .ok (.aload_n 0, 1) := dk_42 (dk_at dksX8_atom4_1 22 rfl rfl)
theorem dX8_atom4_47 : decode cX8_atom4 47 = .ok (.invokevirtual 206, 3) := dk_182 0 206 (dk_at dksX8_atom4_2 0 rfl rfl)
theorem dX8_atom4_50 : decode cX8_atom4 50 = .ok (.ifCond .eq 111, 3) := dk_153 0 111 (dk_at dksX8_atom4_2 3 rfl rfl)
theorem dX8_atom4_53 : decode cX8_atom4 53 = .ok (.aload_n 0, 1) := dk_42 (dk_at dksX8_atom4_2 6 rfl rfl)
theorem dX8_atom4_54 : decode cX8_atom4 54 = .ok (.invokevirtual 233, 3) := dk_182 0 233 (dk_at dksX8_atom4_2 7 rfl rfl)
theorem dX8_atom4_57 : decode cX8_atom4 57 = .ok (.istore_n 1, 1) := dk_60 (dk_at dksX8_atom4_2 10 rfl rfl)
theorem dX8_atom4_58 : decode cX8_atom4 58 = .ok (.aload_n 0, 1) := dk_42 (dk_at dksX8_atom4_2 11 rfl rfl)
theorem dX8_atom4_59 : decode cX8_atom4 59 = .ok (.bipush 41, 2) := dk_16 41 (dk_at dksX8_atom4_2 12 rfl rfl)
theorem dX8_atom4_61 : decode cX8_atom4 61 = .ok (.invokevirtual 203, 3) := dk_182 0 203 (dk_at dksX8_atom4_2 14 rfl rfl)
theorem dX8_atom4_64 : decode cX8_atom4 64 = .ok (.ifCond .ne 7, 3) := dk_154 0 7 (dk_at dksX8_atom4_2 17 rfl rfl)
theorem dX8_atom4_67 : decode cX8_atom4 67 = .ok (.aload_n 0, 1) := dk_42 (dk_at dksX8_atom4_2 20 rfl rfl)
theorem dX8_atom4_68 : decode cX8_atom4 68 = .ok (.invokevirtual 175, 3) := dk_182 0 175 (dk_at dksX8_atom4_2 21 rfl rfl)
theorem dX8_atom4_71 : decode cX8_atom4 71 = .ok (.aload_n 0, 1) := dk_42 (dk_at dksX8_atom4_3 0 rfl rfl)
theorem dX8_atom4_72 : decode cX8_atom4 72 = .ok (.dup, 1) := dk_89 (dk_at dksX8_atom4_3 1 rfl rfl)
theorem dX8_atom4_73 : decode cX8_atom4 73 = .ok (.getfield 172, 3) := dk_180 0 172 (dk_at dksX8_atom4_3 2 rfl rfl)
theorem dX8_atom4_76 : decode cX8_atom4 76 = .ok (.iconst 1, 1) := dk_4 (dk_at dksX8_atom4_3 5 rfl rfl)
theorem dX8_atom4_77 : decode cX8_atom4 77 = .ok (.isub, 1) := dk_100 (dk_at dksX8_atom4_3 6 rfl rfl)
theorem dX8_atom4_78 : decode cX8_atom4 78 = .ok (.putfield 172, 3) := dk_181 0 172 (dk_at dksX8_atom4_3 7 rfl rfl)
theorem dX8_atom4_81 : decode cX8_atom4 81 = .ok (.aload_n 0, 1) := dk_42 (dk_at dksX8_atom4_3 10 rfl rfl)
theorem dX8_atom4_82 : decode cX8_atom4 82 = .ok (.getfield 161, 3) := dk_180 0 161 (dk_at dksX8_atom4_3 11 rfl rfl)
theorem dX8_atom4_85 : decode cX8_atom4 85 = .ok (.ifCond .ne 76, 3) := dk_154 0 76 (dk_at dksX8_atom4_3 14 rfl rfl)
theorem dX8_atom4_88 : decode cX8_atom4 88 = .ok (.aload_n 0, 1) := dk_42 (dk_at dksX8_atom4_3 17 rfl rfl)
theorem dX8_atom4_89 : decode cX8_atom4 89 = .ok (.invokevirtual 178, 3) := dk_182 0 178 (dk_at dksX8_atom4_3 18 rfl rfl)
theorem dX8_atom4_92 : decode cX8_atom4 92 = .ok (.goto 69, 3) := dk_167 0 69 (dk_at dksX8_atom4_3 21 rfl rfl)
theorem dX8_atom4_95 : decode cX8_atom4 95 = .ok (.aload_n 0, 1) := dk_42 (dk_at dksX8_atom4_4 0 rfl rfl)
theorem dX8_atom4_96 : decode cX8_atom4 96 = .ok (.getfield 161, 3) := dk_180 0 161 (dk_at dksX8_atom4_4 1 rfl rfl)
theorem dX8_atom4_99 : decode cX8_atom4 99 = .ok (.ifCond .ne 24, 3) := dk_154 0 24 (dk_at dksX8_atom4_4 4 rfl rfl)
theorem dX8_atom4_102 : decode cX8_atom4 102 = .ok (.aload_n 0, 1) := dk_42 (dk_at dksX8_atom4_4 7 rfl rfl)
theorem dX8_atom4_103 : decode cX8_atom4 103 = .ok (.getfield 144, 3) := dk_180 0 144 (dk_at dksX8_atom4_4 8 rfl rfl)
theorem dX8_atom4_106 : decode cX8_atom4 106 = .ok (.iconst 2, 1) := dk_5 (dk_at dksX8_atom4_4 11 rfl rfl)
theorem dX8_atom4_107 : decode cX8_atom4 107 = .ok (.if_icmp .ne 16, 3) := dk_160 0 16 (dk_at dksX8_atom4_4 12 rfl rfl)
theorem dX8_atom4_110 : decode cX8_atom4 110 = .ok (.aload_n 0, 1) := dk_42 (dk_at dksX8_atom4_4 15 rfl rfl)
theorem dX8_atom4_111 : decode cX8_atom4 111 = .ok (.getfield 155, 3) := dk_180 0 155 (dk_at dksX8_atom4_4 16 rfl rfl)
theorem dX8_atom4_114 : decode cX8_atom4 114 = .ok (.l2i, 1) := dk_136 (dk_at dksX8_atom4_4 19 rfl rfl)
theorem dX8_atom4_115 : decode cX8_atom4 115 = .ok (.istore_n 1, 1) := dk_60 (dk_at dksX8_atom4_4 20 rfl rfl)
theorem dX8_atom4_116 : decode cX8_atom4 116 = .ok (.aload_n 0, 1) := dk_42 (dk_at dksX8_atom4_4 21 rfl rfl)
theorem dX8_atom4_117 : decode cX8_atom4 117 = .ok (.invokevirtual 178, 3) := dk_182 0 178 (dk_at dksX8_atom4_5 0 rfl rfl)
theorem dX8_atom4_120 : decode cX8_atom4 120 = .ok (.goto 41, 3) := dk_167 0 41 (dk_at dksX8_atom4_5 3 rfl rfl)
theorem dX8_atom4_123 : decode cX8_atom4 123 = .ok (.aload_n 0, 1) := dk_42 (dk_at dksX8_atom4_5 6 rfl rfl)
theorem dX8_atom4_124 : decode cX8_atom4 124 = .ok (.getfield 161, 3) := dk_180 0 161 (dk_at dksX8_atom4_5 7 rfl rfl)
theorem dX8_atom4_127 : decode cX8_atom4 127 = .ok (.ifCond .ne 30, 3) := dk_154 0 30 (dk_at dksX8_atom4_5 10 rfl rfl)
theorem dX8_atom4_130 : decode cX8_atom4 130 = .ok (.aload_n 0, 1) := dk_42 (dk_at dksX8_atom4_5 13 rfl rfl)
theorem dX8_atom4_131 : decode cX8_atom4 131 = .ok (.getfield 144, 3) := dk_180 0 144 (dk_at dksX8_atom4_5 14 rfl rfl)
theorem dX8_atom4_134 : decode cX8_atom4 134 = .ok (.iconst 1, 1) := dk_4 (dk_at dksX8_atom4_5 17 rfl rfl)
theorem dX8_atom4_135 : decode cX8_atom4 135 = .ok (.if_icmp .ne 22, 3) := dk_160 0 22 (dk_at dksX8_atom4_5 18 rfl rfl)
theorem dX8_atom4_138 : decode cX8_atom4 138 = .ok (.aload_n 0, 1) := dk_42 (dk_at dksX8_atom4_5 21 rfl rfl)
theorem dX8_atom4_139 : decode cX8_atom4 139 = .ok (.invokevirtual 210, 3) := dk_182 0 210 (dk_at dksX8_atom4_6 0 rfl rfl)
theorem dX8_atom4_142 : decode cX8_atom4 142 = .ok (.istore_n 1, 1) := dk_60 (dk_at dksX8_atom4_6 3 rfl rfl)
theorem dX8_atom4_143 : decode cX8_atom4 143 = .ok (.aload_n 0, 1) := dk_42 (dk_at dksX8_atom4_6 4 rfl rfl)
theorem dX8_atom4_144 : decode cX8_atom4 144 = .ok (.getfield 161, 3) := dk_180 0 161 (dk_at dksX8_atom4_6 5 rfl rfl)
theorem dX8_atom4_147 : decode cX8_atom4 147 = .ok (.ifCond .ne 14, 3) := dk_154 0 14 (dk_at dksX8_atom4_6 8 rfl rfl)
theorem dX8_atom4_150 : decode cX8_atom4 150 = .ok (.aload_n 0, 1) := dk_42 (dk_at dksX8_atom4_6 11 rfl rfl)
theorem dX8_atom4_151 : decode cX8_atom4 151 = .ok (.invokevirtual 178, 3) := dk_182 0 178 (dk_at dksX8_atom4_6 12 rfl rfl)
theorem dX8_atom4_154 : decode cX8_atom4 154 = .ok (.goto 7, 3) := dk_167 0 7 (dk_at dksX8_atom4_6 15 rfl rfl)
theorem dX8_atom4_157 : decode cX8_atom4 157 = .ok (.aload_n 0, 1) := dk_42 (dk_at dksX8_atom4_6 18 rfl rfl)
theorem dX8_atom4_158 : decode cX8_atom4 158 = .ok (.invokevirtual 175, 3) := dk_182 0 175 (dk_at dksX8_atom4_6 19 rfl rfl)
theorem dX8_atom4_161 : decode cX8_atom4 161 = .ok (.iload_n 1, 1) := dk_27 (dk_at dksX8_atom4_6 22 rfl rfl)
theorem dX8_atom4_162 : decode cX8_atom4 162 = .ok (.ireturn, 1) := dk_172 (dk_at dksX8_atom4_6 23 rfl rfl)
abbrev cX8_either5 : ByteArray := prog_16_method_31_code
def yX8_either5 : MethodName := ⟨RX8, "either5", "()I"⟩
def dkwX8_either5_2 : List UInt8 := [167, 255, 216, 27, 172]
abbrev dktX8_either5_2 : List UInt8 := dkwX8_either5_2 ++ []
def dkwX8_either5_1 : List UInt8 := [182, 0, 178, 42, 182, 0, 230, 61, 27, 154, 0, 7, 28, 153, 0, 7, 4, 167, 0, 4, 3, 60]
abbrev dktX8_either5_1 : List UInt8 := dkwX8_either5_1 ++ dktX8_either5_2
def dkwX8_either5_0 : List UInt8 := [42, 182, 0, 230, 60, 42, 16, 111, 16, 114, 3, 3, 3, 3, 3, 3, 182, 0, 181, 153, 0, 29, 42]
abbrev dktX8_either5_0 : List UInt8 := dkwX8_either5_0 ++ dktX8_either5_1
theorem dksX8_either5_0 : cX8_either5.data.toList.drop 0 = dktX8_either5_0 := by decide +kernel
theorem dksX8_either5_1 : cX8_either5.data.toList.drop 23 = dktX8_either5_1 := dk_seg dksX8_either5_0 23 rfl rfl
theorem dksX8_either5_2 : cX8_either5.data.toList.drop 45 = dktX8_either5_2 := dk_seg dksX8_either5_1 22 rfl rfl
theorem dX8_either5_0 : decode cX8_either5 0 = .ok (.aload_n 0, 1) := dk_42 (dk_at dksX8_either5_0 0 rfl rfl)
theorem dX8_either5_1 : decode cX8_either5 1 = .ok (.invokevirtual 230, 3) := dk_182 0 230 (dk_at dksX8_either5_0 1 rfl rfl)
theorem dX8_either5_4 : decode cX8_either5 4 = .ok (.istore_n 1, 1) := dk_60 (dk_at dksX8_either5_0 4 rfl rfl)
theorem dX8_either5_5 : decode cX8_either5 5 = .ok (.aload_n 0, 1) := dk_42 (dk_at dksX8_either5_0 5 rfl rfl)
theorem dX8_either5_6 : decode cX8_either5 6 = .ok (.bipush 111, 2) := dk_16 111 (dk_at dksX8_either5_0 6 rfl rfl)
theorem dX8_either5_8 : decode cX8_either5 8 = .ok (.bipush 114, 2) := dk_16 114 (dk_at dksX8_either5_0 8 rfl rfl)
theorem dX8_either5_10 : decode cX8_either5 10 = .ok (.iconst 0, 1) := dk_3 (dk_at dksX8_either5_0 10 rfl rfl)
theorem dX8_either5_11 : decode cX8_either5 11 = .ok (.iconst 0, 1) := dk_3 (dk_at dksX8_either5_0 11 rfl rfl)
theorem dX8_either5_12 : decode cX8_either5 12 = .ok (.iconst 0, 1) := dk_3 (dk_at dksX8_either5_0 12 rfl rfl)
theorem dX8_either5_13 : decode cX8_either5 13 = .ok (.iconst 0, 1) := dk_3 (dk_at dksX8_either5_0 13 rfl rfl)
theorem dX8_either5_14 : decode cX8_either5 14 = .ok (.iconst 0, 1) := dk_3 (dk_at dksX8_either5_0 14 rfl rfl)
theorem dX8_either5_15 : decode cX8_either5 15 = .ok (.iconst 0, 1) := dk_3 (dk_at dksX8_either5_0 15 rfl rfl)
theorem dX8_either5_16 : decode cX8_either5 16 = .ok (.invokevirtual 181, 3) := dk_182 0 181 (dk_at dksX8_either5_0 16 rfl rfl)
theorem dX8_either5_19 : decode cX8_either5 19 = .ok (.ifCond .eq 29, 3) := dk_153 0 29 (dk_at dksX8_either5_0 19 rfl rfl)
theorem dX8_either5_22 : decode cX8_either5 22 = .ok (.aload_n 0, 1) := dk_42 (dk_at dksX8_either5_0 22 rfl rfl)
theorem dX8_either5_23 : decode cX8_either5 23 = .ok (.invokevirtual 178, 3) := dk_182 0 178 (dk_at dksX8_either5_1 0 rfl rfl)
theorem dX8_either5_26 : decode cX8_either5 26 = .ok (.aload_n 0, 1) := dk_42 (dk_at dksX8_either5_1 3 rfl rfl)
theorem dX8_either5_27 : decode cX8_either5 27 = .ok (.invokevirtual 230, 3) := dk_182 0 230 (dk_at dksX8_either5_1 4 rfl rfl)
theorem dX8_either5_30 : decode cX8_either5 30 = .ok (.istore_n 2, 1) := dk_61 (dk_at dksX8_either5_1 7 rfl rfl)
theorem dX8_either5_31 : decode cX8_either5 31 = .ok (.iload_n 1, 1) := dk_27 (dk_at dksX8_either5_1 8 rfl rfl)
theorem dX8_either5_32 : decode cX8_either5 32 = .ok (.ifCond .ne 7, 3) := dk_154 0 7 (dk_at dksX8_either5_1 9 rfl rfl)
theorem dX8_either5_35 : decode cX8_either5 35 = .ok (.iload_n 2, 1) := dk_28 (dk_at dksX8_either5_1 12 rfl rfl)
theorem dX8_either5_36 : decode cX8_either5 36 = .ok (.ifCond .eq 7, 3) := dk_153 0 7 (dk_at dksX8_either5_1 13 rfl rfl)
theorem dX8_either5_39 : decode cX8_either5 39 = .ok (.iconst 1, 1) := dk_4 (dk_at dksX8_either5_1 16 rfl rfl)
theorem dX8_either5_40 : decode cX8_either5 40 = .ok (.goto 4, 3) := dk_167 0 4 (dk_at dksX8_either5_1 17 rfl rfl)
theorem dX8_either5_43 : decode cX8_either5 43 = .ok (.iconst 0, 1) := dk_3 (dk_at dksX8_either5_1 20 rfl rfl)
theorem dX8_either5_44 : decode cX8_either5 44 = .ok (.istore_n 1, 1) := dk_60 (dk_at dksX8_either5_1 21 rfl rfl)
theorem dX8_either5_45 : decode cX8_either5 45 = .ok (.goto (-40), 3) := dk_167 255 216 (dk_at dksX8_either5_2 0 rfl rfl)
theorem dX8_either5_48 : decode cX8_either5 48 = .ok (.iload_n 1, 1) := dk_27 (dk_at dksX8_either5_2 3 rfl rfl)
theorem dX8_either5_49 : decode cX8_either5 49 = .ok (.ireturn, 1) := dk_172 (dk_at dksX8_either5_2 4 rfl rfl)
abbrev cX8_both5 : ByteArray := prog_16_method_30_code
def yX8_both5 : MethodName := ⟨RX8, "both5", "()I"⟩
def dkwX8_both5_2 : List UInt8 := [167, 255, 215, 27, 172]
abbrev dktX8_both5_2 : List UInt8 := dkwX8_both5_2 ++ []
def dkwX8_both5_1 : List UInt8 := [182, 0, 178, 42, 182, 0, 227, 61, 27, 153, 0, 11, 28, 153, 0, 7, 4, 167, 0, 4, 3, 60]
abbrev dktX8_both5_1 : List UInt8 := dkwX8_both5_1 ++ dktX8_both5_2
def dkwX8_both5_0 : List UInt8 := [42, 182, 0, 227, 60, 42, 16, 97, 16, 110, 16, 100, 3, 3, 3, 3, 3, 182, 0, 181, 153, 0, 29, 42]
abbrev dktX8_both5_0 : List UInt8 := dkwX8_both5_0 ++ dktX8_both5_1
theorem dksX8_both5_0 : cX8_both5.data.toList.drop 0 = dktX8_both5_0 := by decide +kernel
theorem dksX8_both5_1 : cX8_both5.data.toList.drop 24 = dktX8_both5_1 := dk_seg dksX8_both5_0 24 rfl rfl
theorem dksX8_both5_2 : cX8_both5.data.toList.drop 46 = dktX8_both5_2 := dk_seg dksX8_both5_1 22 rfl rfl
theorem dX8_both5_0 : decode cX8_both5 0 = .ok (.aload_n 0, 1) := dk_42 (dk_at dksX8_both5_0 0 rfl rfl)
theorem dX8_both5_1 : decode cX8_both5 1 = .ok (.invokevirtual 227, 3) := dk_182 0 227 (dk_at dksX8_both5_0 1 rfl rfl)
theorem dX8_both5_4 : decode cX8_both5 4 = .ok (.istore_n 1, 1) := dk_60 (dk_at dksX8_both5_0 4 rfl rfl)
theorem dX8_both5_5 : decode cX8_both5 5 = .ok (.aload_n 0, 1) := dk_42 (dk_at dksX8_both5_0 5 rfl rfl)
theorem dX8_both5_6 : decode cX8_both5 6 = .ok (.bipush 97, 2) := dk_16 97 (dk_at dksX8_both5_0 6 rfl rfl)
theorem dX8_both5_8 : decode cX8_both5 8 = .ok (.bipush 110, 2) := dk_16 110 (dk_at dksX8_both5_0 8 rfl rfl)
theorem dX8_both5_10 : decode cX8_both5 10 = .ok (.bipush 100, 2) := dk_16 100 (dk_at dksX8_both5_0 10 rfl rfl)
theorem dX8_both5_12 : decode cX8_both5 12 = .ok (.iconst 0, 1) := dk_3 (dk_at dksX8_both5_0 12 rfl rfl)
theorem dX8_both5_13 : decode cX8_both5 13 = .ok (.iconst 0, 1) := dk_3 (dk_at dksX8_both5_0 13 rfl rfl)
theorem dX8_both5_14 : decode cX8_both5 14 = .ok (.iconst 0, 1) := dk_3 (dk_at dksX8_both5_0 14 rfl rfl)
theorem dX8_both5_15 : decode cX8_both5 15 = .ok (.iconst 0, 1) := dk_3 (dk_at dksX8_both5_0 15 rfl rfl)
theorem dX8_both5_16 : decode cX8_both5 16 = .ok (.iconst 0, 1) := dk_3 (dk_at dksX8_both5_0 16 rfl rfl)
theorem dX8_both5_17 : decode cX8_both5 17 = .ok (.invokevirtual 181, 3) := dk_182 0 181 (dk_at dksX8_both5_0 17 rfl rfl)
theorem dX8_both5_20 : decode cX8_both5 20 = .ok (.ifCond .eq 29, 3) := dk_153 0 29 (dk_at dksX8_both5_0 20 rfl rfl)
theorem dX8_both5_23 : decode cX8_both5 23 = .ok (.aload_n 0, 1) := dk_42 (dk_at dksX8_both5_0 23 rfl rfl)
theorem dX8_both5_24 : decode cX8_both5 24 = .ok (.invokevirtual 178, 3) := dk_182 0 178 (dk_at dksX8_both5_1 0 rfl rfl)
theorem dX8_both5_27 : decode cX8_both5 27 = .ok (.aload_n 0, 1) := dk_42 (dk_at dksX8_both5_1 3 rfl rfl)
theorem dX8_both5_28 : decode cX8_both5 28 = .ok (.invokevirtual 227, 3) := dk_182 0 227 (dk_at dksX8_both5_1 4 rfl rfl)
theorem dX8_both5_31 : decode cX8_both5 31 = .ok (.istore_n 2, 1) := dk_61 (dk_at dksX8_both5_1 7 rfl rfl)
theorem dX8_both5_32 : decode cX8_both5 32 = .ok (.iload_n 1, 1) := dk_27 (dk_at dksX8_both5_1 8 rfl rfl)
theorem dX8_both5_33 : decode cX8_both5 33 = .ok (.ifCond .eq 11, 3) := dk_153 0 11 (dk_at dksX8_both5_1 9 rfl rfl)
theorem dX8_both5_36 : decode cX8_both5 36 = .ok (.iload_n 2, 1) := dk_28 (dk_at dksX8_both5_1 12 rfl rfl)
theorem dX8_both5_37 : decode cX8_both5 37 = .ok (.ifCond .eq 7, 3) := dk_153 0 7 (dk_at dksX8_both5_1 13 rfl rfl)
theorem dX8_both5_40 : decode cX8_both5 40 = .ok (.iconst 1, 1) := dk_4 (dk_at dksX8_both5_1 16 rfl rfl)
theorem dX8_both5_41 : decode cX8_both5 41 = .ok (.goto 4, 3) := dk_167 0 4 (dk_at dksX8_both5_1 17 rfl rfl)
theorem dX8_both5_44 : decode cX8_both5 44 = .ok (.iconst 0, 1) := dk_3 (dk_at dksX8_both5_1 20 rfl rfl)
theorem dX8_both5_45 : decode cX8_both5 45 = .ok (.istore_n 1, 1) := dk_60 (dk_at dksX8_both5_1 21 rfl rfl)
theorem dX8_both5_46 : decode cX8_both5 46 = .ok (.goto (-41), 3) := dk_167 255 215 (dk_at dksX8_both5_2 0 rfl rfl)
theorem dX8_both5_49 : decode cX8_both5 49 = .ok (.iload_n 1, 1) := dk_27 (dk_at dksX8_both5_2 3 rfl rfl)
theorem dX8_both5_50 : decode cX8_both5 50 = .ok (.ireturn, 1) := dk_172 (dk_at dksX8_both5_2 4 rfl rfl)
abbrev cX8_added3 : ByteArray := prog_16_method_40_code
def yX8_added3 : MethodName := ⟨RX8, "added3", "()I"⟩
def dkwX8_added3_2 : List UInt8 := [62, 28, 153, 0, 9, 27, 29, 96, 167, 0, 6, 27, 29, 100, 60, 167, 255, 198, 27, 172]
abbrev dktX8_added3_2 : List UInt8 := dkwX8_added3_2 ++ []
def dkwX8_added3_1 : List UInt8 := [180, 0, 155, 20, 0, 220, 148, 154, 0, 7, 4, 167, 0, 4, 3, 61, 42, 182, 0, 178, 42, 182, 1, 1]
abbrev dktX8_added3_1 : List UInt8 := dkwX8_added3_1 ++ dktX8_added3_2
def dkwX8_added3_0 : List UInt8 := [42, 182, 1, 1, 60, 42, 16, 43, 182, 0, 203, 154, 0, 12, 42, 16, 45, 182, 0, 203, 153, 0, 46, 42]
abbrev dktX8_added3_0 : List UInt8 := dkwX8_added3_0 ++ dktX8_added3_1
theorem dksX8_added3_0 : cX8_added3.data.toList.drop 0 = dktX8_added3_0 := by decide +kernel
theorem dksX8_added3_1 : cX8_added3.data.toList.drop 24 = dktX8_added3_1 := dk_seg dksX8_added3_0 24 rfl rfl
theorem dksX8_added3_2 : cX8_added3.data.toList.drop 48 = dktX8_added3_2 := dk_seg dksX8_added3_1 24 rfl rfl
theorem dX8_added3_0 : decode cX8_added3 0 = .ok (.aload_n 0, 1) := dk_42 (dk_at dksX8_added3_0 0 rfl rfl)
theorem dX8_added3_1 : decode cX8_added3 1 = .ok (.invokevirtual 257, 3) := dk_182 1 1 (dk_at dksX8_added3_0 1 rfl rfl)
theorem dX8_added3_4 : decode cX8_added3 4 = .ok (.istore_n 1, 1) := dk_60 (dk_at dksX8_added3_0 4 rfl rfl)
theorem dX8_added3_5 : decode cX8_added3 5 = .ok (.aload_n 0, 1) := dk_42 (dk_at dksX8_added3_0 5 rfl rfl)
theorem dX8_added3_6 : decode cX8_added3 6 = .ok (.bipush 43, 2) := dk_16 43 (dk_at dksX8_added3_0 6 rfl rfl)
theorem dX8_added3_8 : decode cX8_added3 8 = .ok (.invokevirtual 203, 3) := dk_182 0 203 (dk_at dksX8_added3_0 8 rfl rfl)
theorem dX8_added3_11 : decode cX8_added3 11 = .ok (.ifCond .ne 12, 3) := dk_154 0 12 (dk_at dksX8_added3_0 11 rfl rfl)
theorem dX8_added3_14 : decode cX8_added3 14 = .ok (.aload_n 0, 1) := dk_42 (dk_at dksX8_added3_0 14 rfl rfl)
theorem dX8_added3_15 : decode cX8_added3 15 = .ok (.bipush 45, 2) := dk_16 45 (dk_at dksX8_added3_0 15 rfl rfl)
theorem dX8_added3_17 : decode cX8_added3 17 = .ok (.invokevirtual 203, 3) := dk_182 0 203 (dk_at dksX8_added3_0 17 rfl rfl)
theorem dX8_added3_20 : decode cX8_added3 20 = .ok (.ifCond .eq 46, 3) := dk_153 0 46 (dk_at dksX8_added3_0 20 rfl rfl)
theorem dX8_added3_23 : decode cX8_added3 23 = .ok (.aload_n 0, 1) := dk_42 (dk_at dksX8_added3_0 23 rfl rfl)
theorem dX8_added3_24 : decode cX8_added3 24 = .ok (.getfield 155, 3) := dk_180 0 155 (dk_at dksX8_added3_1 0 rfl rfl)
theorem dX8_added3_27 : decode cX8_added3 27 = .ok (.ldc2_w 220, 3) := dk_20 0 220 (dk_at dksX8_added3_1 3 rfl rfl)
theorem dX8_added3_30 : decode cX8_added3 30 = .ok (.lcmp, 1) := dk_148 (dk_at dksX8_added3_1 6 rfl rfl)
theorem dX8_added3_31 : decode cX8_added3 31 = .ok (.ifCond .ne 7, 3) := dk_154 0 7 (dk_at dksX8_added3_1 7 rfl rfl)
theorem dX8_added3_34 : decode cX8_added3 34 = .ok (.iconst 1, 1) := dk_4 (dk_at dksX8_added3_1 10 rfl rfl)
theorem dX8_added3_35 : decode cX8_added3 35 = .ok (.goto 4, 3) := dk_167 0 4 (dk_at dksX8_added3_1 11 rfl rfl)
theorem dX8_added3_38 : decode cX8_added3 38 = .ok (.iconst 0, 1) := dk_3 (dk_at dksX8_added3_1 14 rfl rfl)
theorem dX8_added3_39 : decode cX8_added3 39 = .ok (.istore_n 2, 1) := dk_61 (dk_at dksX8_added3_1 15 rfl rfl)
theorem dX8_added3_40 : decode cX8_added3 40 = .ok (.aload_n 0, 1) := dk_42 (dk_at dksX8_added3_1 16 rfl rfl)
theorem dX8_added3_41 : decode cX8_added3 41 = .ok (.invokevirtual 178, 3) := dk_182 0 178 (dk_at dksX8_added3_1 17 rfl rfl)
theorem dX8_added3_44 : decode cX8_added3 44 = .ok (.aload_n 0, 1) := dk_42 (dk_at dksX8_added3_1 20 rfl rfl)
theorem dX8_added3_45 : decode cX8_added3 45 = .ok (.invokevirtual 257, 3) := dk_182 1 1 (dk_at dksX8_added3_1 21 rfl rfl)
theorem dX8_added3_48 : decode cX8_added3 48 = .ok (.istore_n 3, 1) := dk_62 (dk_at dksX8_added3_2 0 rfl rfl)
theorem dX8_added3_49 : decode cX8_added3 49 = .ok (.iload_n 2, 1) := dk_28 (dk_at dksX8_added3_2 1 rfl rfl)
theorem dX8_added3_50 : decode cX8_added3 50 = .ok (.ifCond .eq 9, 3) := dk_153 0 9 (dk_at dksX8_added3_2 2 rfl rfl)
theorem dX8_added3_53 : decode cX8_added3 53 = .ok (.iload_n 1, 1) := dk_27 (dk_at dksX8_added3_2 5 rfl rfl)
theorem dX8_added3_54 : decode cX8_added3 54 = .ok (.iload_n 3, 1) := dk_29 (dk_at dksX8_added3_2 6 rfl rfl)
theorem dX8_added3_55 : decode cX8_added3 55 = .ok (.iadd, 1) := dk_96 (dk_at dksX8_added3_2 7 rfl rfl)
theorem dX8_added3_56 : decode cX8_added3 56 = .ok (.goto 6, 3) := dk_167 0 6 (dk_at dksX8_added3_2 8 rfl rfl)
theorem dX8_added3_59 : decode cX8_added3 59 = .ok (.iload_n 1, 1) := dk_27 (dk_at dksX8_added3_2 11 rfl rfl)
theorem dX8_added3_60 : decode cX8_added3 60 = .ok (.iload_n 3, 1) := dk_29 (dk_at dksX8_added3_2 12 rfl rfl)
theorem dX8_added3_61 : decode cX8_added3 61 = .ok (.isub, 1) := dk_100 (dk_at dksX8_added3_2 13 rfl rfl)
theorem dX8_added3_62 : decode cX8_added3 62 = .ok (.istore_n 1, 1) := dk_60 (dk_at dksX8_added3_2 14 rfl rfl)
theorem dX8_added3_63 : decode cX8_added3 63 = .ok (.goto (-58), 3) := dk_167 255 198 (dk_at dksX8_added3_2 15 rfl rfl)
theorem dX8_added3_66 : decode cX8_added3 66 = .ok (.iload_n 1, 1) := dk_27 (dk_at dksX8_added3_2 18 rfl rfl)
theorem dX8_added3_67 : decode cX8_added3 67 = .ok (.ireturn, 1) := dk_172 (dk_at dksX8_added3_2 19 rfl rfl)
abbrev cX8_term3 : ByteArray := prog_16_method_39_code
def yX8_term3 : MethodName := ⟨RX8, "term3", "()I"⟩
def dkwX8_term3_1 : List UInt8 := [60, 167, 255, 236, 27, 172]
abbrev dktX8_term3_1 : List UInt8 := dkwX8_term3_1 ++ []
def dkwX8_term3_0 : List UInt8 := [42, 182, 0, 254, 60, 42, 16, 42, 182, 0, 203, 153, 0, 17, 42, 182, 0, 178, 27, 42, 182, 0, 254, 104]
abbrev dktX8_term3_0 : List UInt8 := dkwX8_term3_0 ++ dktX8_term3_1
theorem dksX8_term3_0 : cX8_term3.data.toList.drop 0 = dktX8_term3_0 := by decide +kernel
theorem dksX8_term3_1 : cX8_term3.data.toList.drop 24 = dktX8_term3_1 := dk_seg dksX8_term3_0 24 rfl rfl
theorem dX8_term3_0 : decode cX8_term3 0 = .ok (.aload_n 0, 1) := dk_42 (dk_at dksX8_term3_0 0 rfl rfl)
theorem dX8_term3_1 : decode cX8_term3 1 = .ok (.invokevirtual 254, 3) := dk_182 0 254 (dk_at dksX8_term3_0 1 rfl rfl)
theorem dX8_term3_4 : decode cX8_term3 4 = .ok (.istore_n 1, 1) := dk_60 (dk_at dksX8_term3_0 4 rfl rfl)
theorem dX8_term3_5 : decode cX8_term3 5 = .ok (.aload_n 0, 1) := dk_42 (dk_at dksX8_term3_0 5 rfl rfl)
theorem dX8_term3_6 : decode cX8_term3 6 = .ok (.bipush 42, 2) := dk_16 42 (dk_at dksX8_term3_0 6 rfl rfl)
theorem dX8_term3_8 : decode cX8_term3 8 = .ok (.invokevirtual 203, 3) := dk_182 0 203 (dk_at dksX8_term3_0 8 rfl rfl)
theorem dX8_term3_11 : decode cX8_term3 11 = .ok (.ifCond .eq 17, 3) := dk_153 0 17 (dk_at dksX8_term3_0 11 rfl rfl)
theorem dX8_term3_14 : decode cX8_term3 14 = .ok (.aload_n 0, 1) := dk_42 (dk_at dksX8_term3_0 14 rfl rfl)
theorem dX8_term3_15 : decode cX8_term3 15 = .ok (.invokevirtual 178, 3) := dk_182 0 178 (dk_at dksX8_term3_0 15 rfl rfl)
theorem dX8_term3_18 : decode cX8_term3 18 = .ok (.iload_n 1, 1) := dk_27 (dk_at dksX8_term3_0 18 rfl rfl)
theorem dX8_term3_19 : decode cX8_term3 19 = .ok (.aload_n 0, 1) := dk_42 (dk_at dksX8_term3_0 19 rfl rfl)
theorem dX8_term3_20 : decode cX8_term3 20 = .ok (.invokevirtual 254, 3) := dk_182 0 254 (dk_at dksX8_term3_0 20 rfl rfl)
theorem dX8_term3_23 : decode cX8_term3 23 = .ok (.imul, 1) := dk_104 (dk_at dksX8_term3_0 23 rfl rfl)
theorem dX8_term3_24 : decode cX8_term3 24 = .ok (.istore_n 1, 1) := dk_60 (dk_at dksX8_term3_1 0 rfl rfl)
theorem dX8_term3_25 : decode cX8_term3 25 = .ok (.goto (-20), 3) := dk_167 255 236 (dk_at dksX8_term3_1 1 rfl rfl)
theorem dX8_term3_28 : decode cX8_term3 28 = .ok (.iload_n 1, 1) := dk_27 (dk_at dksX8_term3_1 4 rfl rfl)
theorem dX8_term3_29 : decode cX8_term3 29 = .ok (.ireturn, 1) := dk_172 (dk_at dksX8_term3_1 5 rfl rfl)
abbrev cX8_atom3 : ByteArray := prog_16_method_38_code
def yX8_atom3 : MethodName := ⟨RX8, "atom3", "()I"⟩
def dkwX8_atom3_6 : List UInt8 := [182, 0, 210, 60, 42, 180, 0, 161, 154, 0, 14, 42, 182, 0, 178, 167, 0, 7, 42, 182, 0, 175, 27, 172]
abbrev dktX8_atom3_6 : List UInt8 := dkwX8_atom3_6 ++ []
def dkwX8_atom3_5 : List UInt8 := [182, 0, 178, 167, 0, 41, 42, 180, 0, 161, 154, 0, 30, 42, 180, 0, 144, 4, 160, 0, 22, 42]
abbrev dktX8_atom3_5 : List UInt8 := dkwX8_atom3_5 ++ dktX8_atom3_6
def dkwX8_atom3_4 : List UInt8 := [42, 180, 0, 161, 154, 0, 24, 42, 180, 0, 144, 5, 160, 0, 16, 42, 180, 0, 155, 136, 60, 42]
abbrev dktX8_atom3_4 : List UInt8 := dkwX8_atom3_4 ++ dktX8_atom3_5
def dkwX8_atom3_3 : List UInt8 := [42, 89, 180, 0, 172, 4, 100, 181, 0, 172, 42, 180, 0, 161, 154, 0, 76, 42, 182, 0, 178, 167, 0, 69]
abbrev dktX8_atom3_3 : List UInt8 := dkwX8_atom3_3 ++ dktX8_atom3_4
def dkwX8_atom3_2 : List UInt8 := [182, 0, 206, 153, 0, 111, 42, 182, 0, 251, 60, 42, 16, 41, 182, 0, 203, 154, 0, 7, 42, 182, 0, 175]
abbrev dktX8_atom3_2 : List UInt8 := dkwX8_atom3_2 ++ dktX8_atom3_3
def dkwX8_atom3_1 : List UInt8 := [42, 89, 180, 0, 172, 4, 100, 181, 0, 172, 167, 0, 127, 42, 16, 40, 182, 0, 203, 153, 0, 52, 42]
abbrev dktX8_atom3_1 : List UInt8 := dkwX8_atom3_1 ++ dktX8_atom3_2
def dkwX8_atom3_0 : List UInt8 := [3, 60, 42, 16, 45, 182, 0, 203, 153, 0, 29, 42, 182, 0, 206, 153, 0, 146, 42, 182, 0, 236, 116, 60]
abbrev dktX8_atom3_0 : List UInt8 := dkwX8_atom3_0 ++ dktX8_atom3_1
theorem dksX8_atom3_0 : cX8_atom3.data.toList.drop 0 = dktX8_atom3_0 := by decide +kernel
theorem dksX8_atom3_1 : cX8_atom3.data.toList.drop 24 = dktX8_atom3_1 := dk_seg dksX8_atom3_0 24 rfl rfl
theorem dksX8_atom3_2 : cX8_atom3.data.toList.drop 47 = dktX8_atom3_2 := dk_seg dksX8_atom3_1 23 rfl rfl
theorem dksX8_atom3_3 : cX8_atom3.data.toList.drop 71 = dktX8_atom3_3 := dk_seg dksX8_atom3_2 24 rfl rfl
theorem dksX8_atom3_4 : cX8_atom3.data.toList.drop 95 = dktX8_atom3_4 := dk_seg dksX8_atom3_3 24 rfl rfl
theorem dksX8_atom3_5 : cX8_atom3.data.toList.drop 117 = dktX8_atom3_5 := dk_seg dksX8_atom3_4 22 rfl rfl
theorem dksX8_atom3_6 : cX8_atom3.data.toList.drop 139 = dktX8_atom3_6 := dk_seg dksX8_atom3_5 22 rfl rfl
theorem dX8_atom3_0 : decode cX8_atom3 0 = .ok (.iconst 0, 1) := dk_3 (dk_at dksX8_atom3_0 0 rfl rfl)
theorem dX8_atom3_1 : decode cX8_atom3 1 = .ok (.istore_n 1, 1) := dk_60 (dk_at dksX8_atom3_0 1 rfl rfl)
theorem dX8_atom3_2 : decode cX8_atom3 2 = .ok (.aload_n 0, 1) := dk_42 (dk_at dksX8_atom3_0 2 rfl rfl)
theorem dX8_atom3_3 : decode cX8_atom3 3 = .ok (.bipush 45, 2) := dk_16 45 (dk_at dksX8_atom3_0 3 rfl rfl)
theorem dX8_atom3_5 : decode cX8_atom3 5 = .ok (.invokevirtual 203, 3) := dk_182 0 203 (dk_at dksX8_atom3_0 5 rfl rfl)
theorem dX8_atom3_8 : decode cX8_atom3 8 = .ok (.ifCond .eq 29, 3) := dk_153 0 29 (dk_at dksX8_atom3_0 8 rfl rfl)
theorem dX8_atom3_11 : decode cX8_atom3 11 = .ok (.aload_n 0, 1) := dk_42 (dk_at dksX8_atom3_0 11 rfl rfl)
theorem dX8_atom3_12 : decode cX8_atom3 12 = .ok (.invokevirtual 206, 3) := dk_182 0 206 (dk_at dksX8_atom3_0 12 rfl rfl)
theorem dX8_atom3_15 : decode cX8_atom3 15 = .ok (.ifCond .eq 146, 3) := dk_153 0 146 (dk_at dksX8_atom3_0 15 rfl rfl)
theorem dX8_atom3_18 : decode cX8_atom3 18 = .ok (.aload_n 0, 1) := dk_42 (dk_at dksX8_atom3_0 18 rfl rfl)
theorem dX8_atom3_19 : decode cX8_atom3 19 = .ok (.invokevirtual 236, 3) := dk_182 0 236 (dk_at dksX8_atom3_0 19 rfl rfl)
theorem dX8_atom3_22 : decode cX8_atom3 22 = .ok (.ineg, 1) := dk_116 (dk_at dksX8_atom3_0 22 rfl rfl)
theorem dX8_atom3_23 : decode cX8_atom3 23 = .ok (.istore_n 1, 1) := dk_60 (dk_at dksX8_atom3_0 23 rfl rfl)
theorem dX8_atom3_24 : decode cX8_atom3 24 = .ok (.aload_n 0, 1) := dk_42 (dk_at dksX8_atom3_1 0 rfl rfl)
theorem dX8_atom3_25 : decode cX8_atom3 25 = .ok (.dup, 1) := dk_89 (dk_at dksX8_atom3_1 1 rfl rfl)
theorem dX8_atom3_26 : decode cX8_atom3 26 = .ok (.getfield 172, 3) := dk_180 0 172 (dk_at dksX8_atom3_1 2 rfl rfl)
theorem dX8_atom3_29 : decode cX8_atom3 29 = .ok (.iconst 1, 1) := dk_4 (dk_at dksX8_atom3_1 5 rfl rfl)
theorem dX8_atom3_30 : decode cX8_atom3 30 = .ok (.isub, 1) := dk_100 (dk_at dksX8_atom3_1 6 rfl rfl)
theorem dX8_atom3_31 : decode cX8_atom3 31 = .ok (.putfield 172, 3) := dk_181 0 172 (dk_at dksX8_atom3_1 7 rfl rfl)
theorem dX8_atom3_34 : decode cX8_atom3 34 = .ok (.goto 127, 3) := dk_167 0 127 (dk_at dksX8_atom3_1 10 rfl rfl)
theorem dX8_atom3_37 : decode cX8_atom3 37 = .ok (.aload_n 0, 1) := dk_42 (dk_at dksX8_atom3_1 13 rfl rfl)
theorem dX8_atom3_38 : decode cX8_atom3 38 = .ok (.bipush 40, 2) := dk_16 40 (dk_at dksX8_atom3_1 14 rfl rfl)
theorem dX8_atom3_40 : decode cX8_atom3 40 = .ok (.invokevirtual 203, 3) := dk_182 0 203 (dk_at dksX8_atom3_1 16 rfl rfl)
theorem dX8_atom3_43 : decode cX8_atom3 43 = .ok (.ifCond .eq 52, 3) := dk_153 0 52 (dk_at dksX8_atom3_1 19 rfl rfl)
theorem dX8_atom3_46 : decode cX8_atom3 46 = .ok (.aload_n 0, 1) := dk_42 (dk_at dksX8_atom3_1 22 rfl rfl)
theorem dX8_atom3_47 : decode cX8_atom3 47 = .ok (.invokevirtual 206, 3) := dk_182 0 206 (dk_at dksX8_atom3_2 0 rfl rfl)
theorem dX8_atom3_50 : decode cX8_atom3 50 = .ok (.ifCond .eq 111, 3) := dk_153 0 111 (dk_at dksX8_atom3_2 3 rfl rfl)
theorem dX8_atom3_53 : decode cX8_atom3 53 = .ok (.aload_n 0, 1) := dk_42 (dk_at dksX8_atom3_2 6 rfl rfl)
theorem dX8_atom3_54 : decode cX8_atom3 54 = .ok (.invokevirtual 251, 3) := dk_182 0 251 (dk_at dksX8_atom3_2 7 rfl rfl)
theorem dX8_atom3_57 : decode cX8_atom3 57 = .ok (.istore_n 1, 1) := dk_60 (dk_at dksX8_atom3_2 10 rfl rfl)
theorem dX8_atom3_58 : decode cX8_atom3 58 = .ok (.aload_n 0, 1) := dk_42 (dk_at dksX8_atom3_2 11 rfl rfl)
theorem dX8_atom3_59 : decode cX8_atom3 59 = .ok (.bipush 41, 2) := dk_16 41 (dk_at dksX8_atom3_2 12 rfl rfl)
theorem dX8_atom3_61 : decode cX8_atom3 61 = .ok (.invokevirtual 203, 3) := dk_182 0 203 (dk_at dksX8_atom3_2 14 rfl rfl)
theorem dX8_atom3_64 : decode cX8_atom3 64 = .ok (.ifCond .ne 7, 3) := dk_154 0 7 (dk_at dksX8_atom3_2 17 rfl rfl)
theorem dX8_atom3_67 : decode cX8_atom3 67 = .ok (.aload_n 0, 1) := dk_42 (dk_at dksX8_atom3_2 20 rfl rfl)
theorem dX8_atom3_68 : decode cX8_atom3 68 = .ok (.invokevirtual 175, 3) := dk_182 0 175 (dk_at dksX8_atom3_2 21 rfl rfl)
theorem dX8_atom3_71 : decode cX8_atom3 71 = .ok (.aload_n 0, 1) := dk_42 (dk_at dksX8_atom3_3 0 rfl rfl)
theorem dX8_atom3_72 : decode cX8_atom3 72 = .ok (.dup, 1) := dk_89 (dk_at dksX8_atom3_3 1 rfl rfl)
theorem dX8_atom3_73 : decode cX8_atom3 73 = .ok (.getfield 172, 3) := dk_180 0 172 (dk_at dksX8_atom3_3 2 rfl rfl)
theorem dX8_atom3_76 : decode cX8_atom3 76 = .ok (.iconst 1, 1) := dk_4 (dk_at dksX8_atom3_3 5 rfl rfl)
theorem dX8_atom3_77 : decode cX8_atom3 77 = .ok (.isub, 1) := dk_100 (dk_at dksX8_atom3_3 6 rfl rfl)
theorem dX8_atom3_78 : decode cX8_atom3 78 = .ok (.putfield 172, 3) := dk_181 0 172 (dk_at dksX8_atom3_3 7 rfl rfl)
theorem dX8_atom3_81 : decode cX8_atom3 81 = .ok (.aload_n 0, 1) := dk_42 (dk_at dksX8_atom3_3 10 rfl rfl)
theorem dX8_atom3_82 : decode cX8_atom3 82 = .ok (.getfield 161, 3) := dk_180 0 161 (dk_at dksX8_atom3_3 11 rfl rfl)
theorem dX8_atom3_85 : decode cX8_atom3 85 = .ok (.ifCond .ne 76, 3) := dk_154 0 76 (dk_at dksX8_atom3_3 14 rfl rfl)
theorem dX8_atom3_88 : decode cX8_atom3 88 = .ok (.aload_n 0, 1) := dk_42 (dk_at dksX8_atom3_3 17 rfl rfl)
theorem dX8_atom3_89 : decode cX8_atom3 89 = .ok (.invokevirtual 178, 3) := dk_182 0 178 (dk_at dksX8_atom3_3 18 rfl rfl)
theorem dX8_atom3_92 : decode cX8_atom3 92 = .ok (.goto 69, 3) := dk_167 0 69 (dk_at dksX8_atom3_3 21 rfl rfl)
theorem dX8_atom3_95 : decode cX8_atom3 95 = .ok (.aload_n 0, 1) := dk_42 (dk_at dksX8_atom3_4 0 rfl rfl)
theorem dX8_atom3_96 : decode cX8_atom3 96 = .ok (.getfield 161, 3) := dk_180 0 161 (dk_at dksX8_atom3_4 1 rfl rfl)
theorem dX8_atom3_99 : decode cX8_atom3 99 = .ok (.ifCond .ne 24, 3) := dk_154 0 24 (dk_at dksX8_atom3_4 4 rfl rfl)
theorem dX8_atom3_102 : decode cX8_atom3 102 = .ok (.aload_n 0, 1) := dk_42 (dk_at dksX8_atom3_4 7 rfl rfl)
theorem dX8_atom3_103 : decode cX8_atom3 103 = .ok (.getfield 144, 3) := dk_180 0 144 (dk_at dksX8_atom3_4 8 rfl rfl)
theorem dX8_atom3_106 : decode cX8_atom3 106 = .ok (.iconst 2, 1) := dk_5 (dk_at dksX8_atom3_4 11 rfl rfl)
theorem dX8_atom3_107 : decode cX8_atom3 107 = .ok (.if_icmp .ne 16, 3) := dk_160 0 16 (dk_at dksX8_atom3_4 12 rfl rfl)
theorem dX8_atom3_110 : decode cX8_atom3 110 = .ok (.aload_n 0, 1) := dk_42 (dk_at dksX8_atom3_4 15 rfl rfl)
theorem dX8_atom3_111 : decode cX8_atom3 111 = .ok (.getfield 155, 3) := dk_180 0 155 (dk_at dksX8_atom3_4 16 rfl rfl)
theorem dX8_atom3_114 : decode cX8_atom3 114 = .ok (.l2i, 1) := dk_136 (dk_at dksX8_atom3_4 19 rfl rfl)
theorem dX8_atom3_115 : decode cX8_atom3 115 = .ok (.istore_n 1, 1) := dk_60 (dk_at dksX8_atom3_4 20 rfl rfl)
theorem dX8_atom3_116 : decode cX8_atom3 116 = .ok (.aload_n 0, 1) := dk_42 (dk_at dksX8_atom3_4 21 rfl rfl)
theorem dX8_atom3_117 : decode cX8_atom3 117 = .ok (.invokevirtual 178, 3) := dk_182 0 178 (dk_at dksX8_atom3_5 0 rfl rfl)
theorem dX8_atom3_120 : decode cX8_atom3 120 = .ok (.goto 41, 3) := dk_167 0 41 (dk_at dksX8_atom3_5 3 rfl rfl)
theorem dX8_atom3_123 : decode cX8_atom3 123 = .ok (.aload_n 0, 1) := dk_42 (dk_at dksX8_atom3_5 6 rfl rfl)
theorem dX8_atom3_124 : decode cX8_atom3 124 = .ok (.getfield 161, 3) := dk_180 0 161 (dk_at dksX8_atom3_5 7 rfl rfl)
theorem dX8_atom3_127 : decode cX8_atom3 127 = .ok (.ifCond .ne 30, 3) := dk_154 0 30 (dk_at dksX8_atom3_5 10 rfl rfl)
theorem dX8_atom3_130 : decode cX8_atom3 130 = .ok (.aload_n 0, 1) := dk_42 (dk_at dksX8_atom3_5 13 rfl rfl)
theorem dX8_atom3_131 : decode cX8_atom3 131 = .ok (.getfield 144, 3) := dk_180 0 144 (dk_at dksX8_atom3_5 14 rfl rfl)
theorem dX8_atom3_134 : decode cX8_atom3 134 = .ok (.iconst 1, 1) := dk_4 (dk_at dksX8_atom3_5 17 rfl rfl)
theorem dX8_atom3_135 : decode cX8_atom3 135 = .ok (.if_icmp .ne 22, 3) := dk_160 0 22 (dk_at dksX8_atom3_5 18 rfl rfl)
theorem dX8_atom3_138 : decode cX8_atom3 138 = .ok (.aload_n 0, 1) := dk_42 (dk_at dksX8_atom3_5 21 rfl rfl)
theorem dX8_atom3_139 : decode cX8_atom3 139 = .ok (.invokevirtual 210, 3) := dk_182 0 210 (dk_at dksX8_atom3_6 0 rfl rfl)
theorem dX8_atom3_142 : decode cX8_atom3 142 = .ok (.istore_n 1, 1) := dk_60 (dk_at dksX8_atom3_6 3 rfl rfl)
theorem dX8_atom3_143 : decode cX8_atom3 143 = .ok (.aload_n 0, 1) := dk_42 (dk_at dksX8_atom3_6 4 rfl rfl)
theorem dX8_atom3_144 : decode cX8_atom3 144 = .ok (.getfield 161, 3) := dk_180 0 161 (dk_at dksX8_atom3_6 5 rfl rfl)
theorem dX8_atom3_147 : decode cX8_atom3 147 = .ok (.ifCond .ne 14, 3) := dk_154 0 14 (dk_at dksX8_atom3_6 8 rfl rfl)
theorem dX8_atom3_150 : decode cX8_atom3 150 = .ok (.aload_n 0, 1) := dk_42 (dk_at dksX8_atom3_6 11 rfl rfl)
theorem dX8_atom3_151 : decode cX8_atom3 151 = .ok (.invokevirtual 178, 3) := dk_182 0 178 (dk_at dksX8_atom3_6 12 rfl rfl)
theorem dX8_atom3_154 : decode cX8_atom3 154 = .ok (.goto 7, 3) := dk_167 0 7 (dk_at dksX8_atom3_6 15 rfl rfl)
theorem dX8_atom3_157 : decode cX8_atom3 157 = .ok (.aload_n 0, 1) := dk_42 (dk_at dksX8_atom3_6 18 rfl rfl)
theorem dX8_atom3_158 : decode cX8_atom3 158 = .ok (.invokevirtual 175, 3) := dk_182 0 175 (dk_at dksX8_atom3_6 19 rfl rfl)
theorem dX8_atom3_161 : decode cX8_atom3 161 = .ok (.iload_n 1, 1) := dk_27 (dk_at dksX8_atom3_6 22 rfl rfl)
theorem dX8_atom3_162 : decode cX8_atom3 162 = .ok (.ireturn, 1) := dk_172 (dk_at dksX8_atom3_6 23 rfl rfl)
abbrev cX8_either4 : ByteArray := prog_16_method_37_code
def yX8_either4 : MethodName := ⟨RX8, "either4", "()I"⟩
def dkwX8_either4_2 : List UInt8 := [167, 255, 216, 27, 172]
abbrev dktX8_either4_2 : List UInt8 := dkwX8_either4_2 ++ []
def dkwX8_either4_1 : List UInt8 := [182, 0, 178, 42, 182, 0, 248, 61, 27, 154, 0, 7, 28, 153, 0, 7, 4, 167, 0, 4, 3, 60]
abbrev dktX8_either4_1 : List UInt8 := dkwX8_either4_1 ++ dktX8_either4_2
def dkwX8_either4_0 : List UInt8 := [42, 182, 0, 248, 60, 42, 16, 111, 16, 114, 3, 3, 3, 3, 3, 3, 182, 0, 181, 153, 0, 29, 42]
abbrev dktX8_either4_0 : List UInt8 := dkwX8_either4_0 ++ dktX8_either4_1
theorem dksX8_either4_0 : cX8_either4.data.toList.drop 0 = dktX8_either4_0 := by decide +kernel
theorem dksX8_either4_1 : cX8_either4.data.toList.drop 23 = dktX8_either4_1 := dk_seg dksX8_either4_0 23 rfl rfl
theorem dksX8_either4_2 : cX8_either4.data.toList.drop 45 = dktX8_either4_2 := dk_seg dksX8_either4_1 22 rfl rfl
theorem dX8_either4_0 : decode cX8_either4 0 = .ok (.aload_n 0, 1) := dk_42 (dk_at dksX8_either4_0 0 rfl rfl)
theorem dX8_either4_1 : decode cX8_either4 1 = .ok (.invokevirtual 248, 3) := dk_182 0 248 (dk_at dksX8_either4_0 1 rfl rfl)
theorem dX8_either4_4 : decode cX8_either4 4 = .ok (.istore_n 1, 1) := dk_60 (dk_at dksX8_either4_0 4 rfl rfl)
theorem dX8_either4_5 : decode cX8_either4 5 = .ok (.aload_n 0, 1) := dk_42 (dk_at dksX8_either4_0 5 rfl rfl)
theorem dX8_either4_6 : decode cX8_either4 6 = .ok (.bipush 111, 2) := dk_16 111 (dk_at dksX8_either4_0 6 rfl rfl)
theorem dX8_either4_8 : decode cX8_either4 8 = .ok (.bipush 114, 2) := dk_16 114 (dk_at dksX8_either4_0 8 rfl rfl)
theorem dX8_either4_10 : decode cX8_either4 10 = .ok (.iconst 0, 1) := dk_3 (dk_at dksX8_either4_0 10 rfl rfl)
theorem dX8_either4_11 : decode cX8_either4 11 = .ok (.iconst 0, 1) := dk_3 (dk_at dksX8_either4_0 11 rfl rfl)
theorem dX8_either4_12 : decode cX8_either4 12 = .ok (.iconst 0, 1) := dk_3 (dk_at dksX8_either4_0 12 rfl rfl)
theorem dX8_either4_13 : decode cX8_either4 13 = .ok (.iconst 0, 1) := dk_3 (dk_at dksX8_either4_0 13 rfl rfl)
theorem dX8_either4_14 : decode cX8_either4 14 = .ok (.iconst 0, 1) := dk_3 (dk_at dksX8_either4_0 14 rfl rfl)
theorem dX8_either4_15 : decode cX8_either4 15 = .ok (.iconst 0, 1) := dk_3 (dk_at dksX8_either4_0 15 rfl rfl)
theorem dX8_either4_16 : decode cX8_either4 16 = .ok (.invokevirtual 181, 3) := dk_182 0 181 (dk_at dksX8_either4_0 16 rfl rfl)
theorem dX8_either4_19 : decode cX8_either4 19 = .ok (.ifCond .eq 29, 3) := dk_153 0 29 (dk_at dksX8_either4_0 19 rfl rfl)
theorem dX8_either4_22 : decode cX8_either4 22 = .ok (.aload_n 0, 1) := dk_42 (dk_at dksX8_either4_0 22 rfl rfl)
theorem dX8_either4_23 : decode cX8_either4 23 = .ok (.invokevirtual 178, 3) := dk_182 0 178 (dk_at dksX8_either4_1 0 rfl rfl)
theorem dX8_either4_26 : decode cX8_either4 26 = .ok (.aload_n 0, 1) := dk_42 (dk_at dksX8_either4_1 3 rfl rfl)
theorem dX8_either4_27 : decode cX8_either4 27 = .ok (.invokevirtual 248, 3) := dk_182 0 248 (dk_at dksX8_either4_1 4 rfl rfl)
theorem dX8_either4_30 : decode cX8_either4 30 = .ok (.istore_n 2, 1) := dk_61 (dk_at dksX8_either4_1 7 rfl rfl)
theorem dX8_either4_31 : decode cX8_either4 31 = .ok (.iload_n 1, 1) := dk_27 (dk_at dksX8_either4_1 8 rfl rfl)
theorem dX8_either4_32 : decode cX8_either4 32 = .ok (.ifCond .ne 7, 3) := dk_154 0 7 (dk_at dksX8_either4_1 9 rfl rfl)
theorem dX8_either4_35 : decode cX8_either4 35 = .ok (.iload_n 2, 1) := dk_28 (dk_at dksX8_either4_1 12 rfl rfl)
theorem dX8_either4_36 : decode cX8_either4 36 = .ok (.ifCond .eq 7, 3) := dk_153 0 7 (dk_at dksX8_either4_1 13 rfl rfl)
theorem dX8_either4_39 : decode cX8_either4 39 = .ok (.iconst 1, 1) := dk_4 (dk_at dksX8_either4_1 16 rfl rfl)
theorem dX8_either4_40 : decode cX8_either4 40 = .ok (.goto 4, 3) := dk_167 0 4 (dk_at dksX8_either4_1 17 rfl rfl)
theorem dX8_either4_43 : decode cX8_either4 43 = .ok (.iconst 0, 1) := dk_3 (dk_at dksX8_either4_1 20 rfl rfl)
theorem dX8_either4_44 : decode cX8_either4 44 = .ok (.istore_n 1, 1) := dk_60 (dk_at dksX8_either4_1 21 rfl rfl)
theorem dX8_either4_45 : decode cX8_either4 45 = .ok (.goto (-40), 3) := dk_167 255 216 (dk_at dksX8_either4_2 0 rfl rfl)
theorem dX8_either4_48 : decode cX8_either4 48 = .ok (.iload_n 1, 1) := dk_27 (dk_at dksX8_either4_2 3 rfl rfl)
theorem dX8_either4_49 : decode cX8_either4 49 = .ok (.ireturn, 1) := dk_172 (dk_at dksX8_either4_2 4 rfl rfl)
abbrev cX8_both4 : ByteArray := prog_16_method_36_code
def yX8_both4 : MethodName := ⟨RX8, "both4", "()I"⟩
def dkwX8_both4_2 : List UInt8 := [167, 255, 215, 27, 172]
abbrev dktX8_both4_2 : List UInt8 := dkwX8_both4_2 ++ []
def dkwX8_both4_1 : List UInt8 := [182, 0, 178, 42, 182, 0, 245, 61, 27, 153, 0, 11, 28, 153, 0, 7, 4, 167, 0, 4, 3, 60]
abbrev dktX8_both4_1 : List UInt8 := dkwX8_both4_1 ++ dktX8_both4_2
def dkwX8_both4_0 : List UInt8 := [42, 182, 0, 245, 60, 42, 16, 97, 16, 110, 16, 100, 3, 3, 3, 3, 3, 182, 0, 181, 153, 0, 29, 42]
abbrev dktX8_both4_0 : List UInt8 := dkwX8_both4_0 ++ dktX8_both4_1
theorem dksX8_both4_0 : cX8_both4.data.toList.drop 0 = dktX8_both4_0 := by decide +kernel
theorem dksX8_both4_1 : cX8_both4.data.toList.drop 24 = dktX8_both4_1 := dk_seg dksX8_both4_0 24 rfl rfl
theorem dksX8_both4_2 : cX8_both4.data.toList.drop 46 = dktX8_both4_2 := dk_seg dksX8_both4_1 22 rfl rfl
theorem dX8_both4_0 : decode cX8_both4 0 = .ok (.aload_n 0, 1) := dk_42 (dk_at dksX8_both4_0 0 rfl rfl)
theorem dX8_both4_1 : decode cX8_both4 1 = .ok (.invokevirtual 245, 3) := dk_182 0 245 (dk_at dksX8_both4_0 1 rfl rfl)
theorem dX8_both4_4 : decode cX8_both4 4 = .ok (.istore_n 1, 1) := dk_60 (dk_at dksX8_both4_0 4 rfl rfl)
theorem dX8_both4_5 : decode cX8_both4 5 = .ok (.aload_n 0, 1) := dk_42 (dk_at dksX8_both4_0 5 rfl rfl)
theorem dX8_both4_6 : decode cX8_both4 6 = .ok (.bipush 97, 2) := dk_16 97 (dk_at dksX8_both4_0 6 rfl rfl)
theorem dX8_both4_8 : decode cX8_both4 8 = .ok (.bipush 110, 2) := dk_16 110 (dk_at dksX8_both4_0 8 rfl rfl)
theorem dX8_both4_10 : decode cX8_both4 10 = .ok (.bipush 100, 2) := dk_16 100 (dk_at dksX8_both4_0 10 rfl rfl)
theorem dX8_both4_12 : decode cX8_both4 12 = .ok (.iconst 0, 1) := dk_3 (dk_at dksX8_both4_0 12 rfl rfl)
theorem dX8_both4_13 : decode cX8_both4 13 = .ok (.iconst 0, 1) := dk_3 (dk_at dksX8_both4_0 13 rfl rfl)
theorem dX8_both4_14 : decode cX8_both4 14 = .ok (.iconst 0, 1) := dk_3 (dk_at dksX8_both4_0 14 rfl rfl)
theorem dX8_both4_15 : decode cX8_both4 15 = .ok (.iconst 0, 1) := dk_3 (dk_at dksX8_both4_0 15 rfl rfl)
theorem dX8_both4_16 : decode cX8_both4 16 = .ok (.iconst 0, 1) := dk_3 (dk_at dksX8_both4_0 16 rfl rfl)
theorem dX8_both4_17 : decode cX8_both4 17 = .ok (.invokevirtual 181, 3) := dk_182 0 181 (dk_at dksX8_both4_0 17 rfl rfl)
theorem dX8_both4_20 : decode cX8_both4 20 = .ok (.ifCond .eq 29, 3) := dk_153 0 29 (dk_at dksX8_both4_0 20 rfl rfl)
theorem dX8_both4_23 : decode cX8_both4 23 = .ok (.aload_n 0, 1) := dk_42 (dk_at dksX8_both4_0 23 rfl rfl)
theorem dX8_both4_24 : decode cX8_both4 24 = .ok (.invokevirtual 178, 3) := dk_182 0 178 (dk_at dksX8_both4_1 0 rfl rfl)
theorem dX8_both4_27 : decode cX8_both4 27 = .ok (.aload_n 0, 1) := dk_42 (dk_at dksX8_both4_1 3 rfl rfl)
theorem dX8_both4_28 : decode cX8_both4 28 = .ok (.invokevirtual 245, 3) := dk_182 0 245 (dk_at dksX8_both4_1 4 rfl rfl)
theorem dX8_both4_31 : decode cX8_both4 31 = .ok (.istore_n 2, 1) := dk_61 (dk_at dksX8_both4_1 7 rfl rfl)
theorem dX8_both4_32 : decode cX8_both4 32 = .ok (.iload_n 1, 1) := dk_27 (dk_at dksX8_both4_1 8 rfl rfl)
theorem dX8_both4_33 : decode cX8_both4 33 = .ok (.ifCond .eq 11, 3) := dk_153 0 11 (dk_at dksX8_both4_1 9 rfl rfl)
theorem dX8_both4_36 : decode cX8_both4 36 = .ok (.iload_n 2, 1) := dk_28 (dk_at dksX8_both4_1 12 rfl rfl)
theorem dX8_both4_37 : decode cX8_both4 37 = .ok (.ifCond .eq 7, 3) := dk_153 0 7 (dk_at dksX8_both4_1 13 rfl rfl)
theorem dX8_both4_40 : decode cX8_both4 40 = .ok (.iconst 1, 1) := dk_4 (dk_at dksX8_both4_1 16 rfl rfl)
theorem dX8_both4_41 : decode cX8_both4 41 = .ok (.goto 4, 3) := dk_167 0 4 (dk_at dksX8_both4_1 17 rfl rfl)
theorem dX8_both4_44 : decode cX8_both4 44 = .ok (.iconst 0, 1) := dk_3 (dk_at dksX8_both4_1 20 rfl rfl)
theorem dX8_both4_45 : decode cX8_both4 45 = .ok (.istore_n 1, 1) := dk_60 (dk_at dksX8_both4_1 21 rfl rfl)
theorem dX8_both4_46 : decode cX8_both4 46 = .ok (.goto (-41), 3) := dk_167 255 215 (dk_at dksX8_both4_2 0 rfl rfl)
theorem dX8_both4_49 : decode cX8_both4 49 = .ok (.iload_n 1, 1) := dk_27 (dk_at dksX8_both4_2 3 rfl rfl)
theorem dX8_both4_50 : decode cX8_both4 50 = .ok (.ireturn, 1) := dk_172 (dk_at dksX8_both4_2 4 rfl rfl)
abbrev cX8_added2 : ByteArray := prog_16_method_46_code
def yX8_added2 : MethodName := ⟨RX8, "added2", "()I"⟩
def dkwX8_added2_2 : List UInt8 := [62, 28, 153, 0, 9, 27, 29, 96, 167, 0, 6, 27, 29, 100, 60, 167, 255, 198, 27, 172]
abbrev dktX8_added2_2 : List UInt8 := dkwX8_added2_2 ++ []
def dkwX8_added2_1 : List UInt8 := [180, 0, 155, 20, 0, 220, 148, 154, 0, 7, 4, 167, 0, 4, 3, 61, 42, 182, 0, 178, 42, 182, 1, 19]
abbrev dktX8_added2_1 : List UInt8 := dkwX8_added2_1 ++ dktX8_added2_2
def dkwX8_added2_0 : List UInt8 := [42, 182, 1, 19, 60, 42, 16, 43, 182, 0, 203, 154, 0, 12, 42, 16, 45, 182, 0, 203, 153, 0, 46, 42]
abbrev dktX8_added2_0 : List UInt8 := dkwX8_added2_0 ++ dktX8_added2_1
theorem dksX8_added2_0 : cX8_added2.data.toList.drop 0 = dktX8_added2_0 := by decide +kernel
theorem dksX8_added2_1 : cX8_added2.data.toList.drop 24 = dktX8_added2_1 := dk_seg dksX8_added2_0 24 rfl rfl
theorem dksX8_added2_2 : cX8_added2.data.toList.drop 48 = dktX8_added2_2 := dk_seg dksX8_added2_1 24 rfl rfl
theorem dX8_added2_0 : decode cX8_added2 0 = .ok (.aload_n 0, 1) := dk_42 (dk_at dksX8_added2_0 0 rfl rfl)
theorem dX8_added2_1 : decode cX8_added2 1 = .ok (.invokevirtual 275, 3) := dk_182 1 19 (dk_at dksX8_added2_0 1 rfl rfl)
theorem dX8_added2_4 : decode cX8_added2 4 = .ok (.istore_n 1, 1) := dk_60 (dk_at dksX8_added2_0 4 rfl rfl)
theorem dX8_added2_5 : decode cX8_added2 5 = .ok (.aload_n 0, 1) := dk_42 (dk_at dksX8_added2_0 5 rfl rfl)
theorem dX8_added2_6 : decode cX8_added2 6 = .ok (.bipush 43, 2) := dk_16 43 (dk_at dksX8_added2_0 6 rfl rfl)
theorem dX8_added2_8 : decode cX8_added2 8 = .ok (.invokevirtual 203, 3) := dk_182 0 203 (dk_at dksX8_added2_0 8 rfl rfl)
theorem dX8_added2_11 : decode cX8_added2 11 = .ok (.ifCond .ne 12, 3) := dk_154 0 12 (dk_at dksX8_added2_0 11 rfl rfl)
theorem dX8_added2_14 : decode cX8_added2 14 = .ok (.aload_n 0, 1) := dk_42 (dk_at dksX8_added2_0 14 rfl rfl)
theorem dX8_added2_15 : decode cX8_added2 15 = .ok (.bipush 45, 2) := dk_16 45 (dk_at dksX8_added2_0 15 rfl rfl)
theorem dX8_added2_17 : decode cX8_added2 17 = .ok (.invokevirtual 203, 3) := dk_182 0 203 (dk_at dksX8_added2_0 17 rfl rfl)
theorem dX8_added2_20 : decode cX8_added2 20 = .ok (.ifCond .eq 46, 3) := dk_153 0 46 (dk_at dksX8_added2_0 20 rfl rfl)
theorem dX8_added2_23 : decode cX8_added2 23 = .ok (.aload_n 0, 1) := dk_42 (dk_at dksX8_added2_0 23 rfl rfl)
theorem dX8_added2_24 : decode cX8_added2 24 = .ok (.getfield 155, 3) := dk_180 0 155 (dk_at dksX8_added2_1 0 rfl rfl)
theorem dX8_added2_27 : decode cX8_added2 27 = .ok (.ldc2_w 220, 3) := dk_20 0 220 (dk_at dksX8_added2_1 3 rfl rfl)
theorem dX8_added2_30 : decode cX8_added2 30 = .ok (.lcmp, 1) := dk_148 (dk_at dksX8_added2_1 6 rfl rfl)
theorem dX8_added2_31 : decode cX8_added2 31 = .ok (.ifCond .ne 7, 3) := dk_154 0 7 (dk_at dksX8_added2_1 7 rfl rfl)
theorem dX8_added2_34 : decode cX8_added2 34 = .ok (.iconst 1, 1) := dk_4 (dk_at dksX8_added2_1 10 rfl rfl)
theorem dX8_added2_35 : decode cX8_added2 35 = .ok (.goto 4, 3) := dk_167 0 4 (dk_at dksX8_added2_1 11 rfl rfl)
theorem dX8_added2_38 : decode cX8_added2 38 = .ok (.iconst 0, 1) := dk_3 (dk_at dksX8_added2_1 14 rfl rfl)
theorem dX8_added2_39 : decode cX8_added2 39 = .ok (.istore_n 2, 1) := dk_61 (dk_at dksX8_added2_1 15 rfl rfl)
theorem dX8_added2_40 : decode cX8_added2 40 = .ok (.aload_n 0, 1) := dk_42 (dk_at dksX8_added2_1 16 rfl rfl)
theorem dX8_added2_41 : decode cX8_added2 41 = .ok (.invokevirtual 178, 3) := dk_182 0 178 (dk_at dksX8_added2_1 17 rfl rfl)
theorem dX8_added2_44 : decode cX8_added2 44 = .ok (.aload_n 0, 1) := dk_42 (dk_at dksX8_added2_1 20 rfl rfl)
theorem dX8_added2_45 : decode cX8_added2 45 = .ok (.invokevirtual 275, 3) := dk_182 1 19 (dk_at dksX8_added2_1 21 rfl rfl)
theorem dX8_added2_48 : decode cX8_added2 48 = .ok (.istore_n 3, 1) := dk_62 (dk_at dksX8_added2_2 0 rfl rfl)
theorem dX8_added2_49 : decode cX8_added2 49 = .ok (.iload_n 2, 1) := dk_28 (dk_at dksX8_added2_2 1 rfl rfl)
theorem dX8_added2_50 : decode cX8_added2 50 = .ok (.ifCond .eq 9, 3) := dk_153 0 9 (dk_at dksX8_added2_2 2 rfl rfl)
theorem dX8_added2_53 : decode cX8_added2 53 = .ok (.iload_n 1, 1) := dk_27 (dk_at dksX8_added2_2 5 rfl rfl)
theorem dX8_added2_54 : decode cX8_added2 54 = .ok (.iload_n 3, 1) := dk_29 (dk_at dksX8_added2_2 6 rfl rfl)
theorem dX8_added2_55 : decode cX8_added2 55 = .ok (.iadd, 1) := dk_96 (dk_at dksX8_added2_2 7 rfl rfl)
theorem dX8_added2_56 : decode cX8_added2 56 = .ok (.goto 6, 3) := dk_167 0 6 (dk_at dksX8_added2_2 8 rfl rfl)
theorem dX8_added2_59 : decode cX8_added2 59 = .ok (.iload_n 1, 1) := dk_27 (dk_at dksX8_added2_2 11 rfl rfl)
theorem dX8_added2_60 : decode cX8_added2 60 = .ok (.iload_n 3, 1) := dk_29 (dk_at dksX8_added2_2 12 rfl rfl)
theorem dX8_added2_61 : decode cX8_added2 61 = .ok (.isub, 1) := dk_100 (dk_at dksX8_added2_2 13 rfl rfl)
theorem dX8_added2_62 : decode cX8_added2 62 = .ok (.istore_n 1, 1) := dk_60 (dk_at dksX8_added2_2 14 rfl rfl)
theorem dX8_added2_63 : decode cX8_added2 63 = .ok (.goto (-58), 3) := dk_167 255 198 (dk_at dksX8_added2_2 15 rfl rfl)
theorem dX8_added2_66 : decode cX8_added2 66 = .ok (.iload_n 1, 1) := dk_27 (dk_at dksX8_added2_2 18 rfl rfl)
theorem dX8_added2_67 : decode cX8_added2 67 = .ok (.ireturn, 1) := dk_172 (dk_at dksX8_added2_2 19 rfl rfl)
abbrev cX8_term2 : ByteArray := prog_16_method_45_code
def yX8_term2 : MethodName := ⟨RX8, "term2", "()I"⟩
def dkwX8_term2_1 : List UInt8 := [60, 167, 255, 236, 27, 172]
abbrev dktX8_term2_1 : List UInt8 := dkwX8_term2_1 ++ []
def dkwX8_term2_0 : List UInt8 := [42, 182, 1, 16, 60, 42, 16, 42, 182, 0, 203, 153, 0, 17, 42, 182, 0, 178, 27, 42, 182, 1, 16, 104]
abbrev dktX8_term2_0 : List UInt8 := dkwX8_term2_0 ++ dktX8_term2_1
theorem dksX8_term2_0 : cX8_term2.data.toList.drop 0 = dktX8_term2_0 := by decide +kernel
theorem dksX8_term2_1 : cX8_term2.data.toList.drop 24 = dktX8_term2_1 := dk_seg dksX8_term2_0 24 rfl rfl
theorem dX8_term2_0 : decode cX8_term2 0 = .ok (.aload_n 0, 1) := dk_42 (dk_at dksX8_term2_0 0 rfl rfl)
theorem dX8_term2_1 : decode cX8_term2 1 = .ok (.invokevirtual 272, 3) := dk_182 1 16 (dk_at dksX8_term2_0 1 rfl rfl)
theorem dX8_term2_4 : decode cX8_term2 4 = .ok (.istore_n 1, 1) := dk_60 (dk_at dksX8_term2_0 4 rfl rfl)
theorem dX8_term2_5 : decode cX8_term2 5 = .ok (.aload_n 0, 1) := dk_42 (dk_at dksX8_term2_0 5 rfl rfl)
theorem dX8_term2_6 : decode cX8_term2 6 = .ok (.bipush 42, 2) := dk_16 42 (dk_at dksX8_term2_0 6 rfl rfl)
theorem dX8_term2_8 : decode cX8_term2 8 = .ok (.invokevirtual 203, 3) := dk_182 0 203 (dk_at dksX8_term2_0 8 rfl rfl)
theorem dX8_term2_11 : decode cX8_term2 11 = .ok (.ifCond .eq 17, 3) := dk_153 0 17 (dk_at dksX8_term2_0 11 rfl rfl)
theorem dX8_term2_14 : decode cX8_term2 14 = .ok (.aload_n 0, 1) := dk_42 (dk_at dksX8_term2_0 14 rfl rfl)
theorem dX8_term2_15 : decode cX8_term2 15 = .ok (.invokevirtual 178, 3) := dk_182 0 178 (dk_at dksX8_term2_0 15 rfl rfl)
theorem dX8_term2_18 : decode cX8_term2 18 = .ok (.iload_n 1, 1) := dk_27 (dk_at dksX8_term2_0 18 rfl rfl)
theorem dX8_term2_19 : decode cX8_term2 19 = .ok (.aload_n 0, 1) := dk_42 (dk_at dksX8_term2_0 19 rfl rfl)
theorem dX8_term2_20 : decode cX8_term2 20 = .ok (.invokevirtual 272, 3) := dk_182 1 16 (dk_at dksX8_term2_0 20 rfl rfl)
theorem dX8_term2_23 : decode cX8_term2 23 = .ok (.imul, 1) := dk_104 (dk_at dksX8_term2_0 23 rfl rfl)
theorem dX8_term2_24 : decode cX8_term2 24 = .ok (.istore_n 1, 1) := dk_60 (dk_at dksX8_term2_1 0 rfl rfl)
theorem dX8_term2_25 : decode cX8_term2 25 = .ok (.goto (-20), 3) := dk_167 255 236 (dk_at dksX8_term2_1 1 rfl rfl)
theorem dX8_term2_28 : decode cX8_term2 28 = .ok (.iload_n 1, 1) := dk_27 (dk_at dksX8_term2_1 4 rfl rfl)
theorem dX8_term2_29 : decode cX8_term2 29 = .ok (.ireturn, 1) := dk_172 (dk_at dksX8_term2_1 5 rfl rfl)
abbrev cX8_atom2 : ByteArray := prog_16_method_44_code
def yX8_atom2 : MethodName := ⟨RX8, "atom2", "()I"⟩
def dkwX8_atom2_6 : List UInt8 := [182, 0, 210, 60, 42, 180, 0, 161, 154, 0, 14, 42, 182, 0, 178, 167, 0, 7, 42, 182, 0, 175, 27, 172]
abbrev dktX8_atom2_6 : List UInt8 := dkwX8_atom2_6 ++ []
def dkwX8_atom2_5 : List UInt8 := [182, 0, 178, 167, 0, 41, 42, 180, 0, 161, 154, 0, 30, 42, 180, 0, 144, 4, 160, 0, 22, 42]
abbrev dktX8_atom2_5 : List UInt8 := dkwX8_atom2_5 ++ dktX8_atom2_6
def dkwX8_atom2_4 : List UInt8 := [42, 180, 0, 161, 154, 0, 24, 42, 180, 0, 144, 5, 160, 0, 16, 42, 180, 0, 155, 136, 60, 42]
abbrev dktX8_atom2_4 : List UInt8 := dkwX8_atom2_4 ++ dktX8_atom2_5
def dkwX8_atom2_3 : List UInt8 := [42, 89, 180, 0, 172, 4, 100, 181, 0, 172, 42, 180, 0, 161, 154, 0, 76, 42, 182, 0, 178, 167, 0, 69]
abbrev dktX8_atom2_3 : List UInt8 := dkwX8_atom2_3 ++ dktX8_atom2_4
def dkwX8_atom2_2 : List UInt8 := [182, 0, 206, 153, 0, 111, 42, 182, 1, 13, 60, 42, 16, 41, 182, 0, 203, 154, 0, 7, 42, 182, 0, 175]
abbrev dktX8_atom2_2 : List UInt8 := dkwX8_atom2_2 ++ dktX8_atom2_3
def dkwX8_atom2_1 : List UInt8 := [42, 89, 180, 0, 172, 4, 100, 181, 0, 172, 167, 0, 127, 42, 16, 40, 182, 0, 203, 153, 0, 52, 42]
abbrev dktX8_atom2_1 : List UInt8 := dkwX8_atom2_1 ++ dktX8_atom2_2
def dkwX8_atom2_0 : List UInt8 := [3, 60, 42, 16, 45, 182, 0, 203, 153, 0, 29, 42, 182, 0, 206, 153, 0, 146, 42, 182, 0, 254, 116, 60]
abbrev dktX8_atom2_0 : List UInt8 := dkwX8_atom2_0 ++ dktX8_atom2_1
theorem dksX8_atom2_0 : cX8_atom2.data.toList.drop 0 = dktX8_atom2_0 := by decide +kernel
theorem dksX8_atom2_1 : cX8_atom2.data.toList.drop 24 = dktX8_atom2_1 := dk_seg dksX8_atom2_0 24 rfl rfl
theorem dksX8_atom2_2 : cX8_atom2.data.toList.drop 47 = dktX8_atom2_2 := dk_seg dksX8_atom2_1 23 rfl rfl
theorem dksX8_atom2_3 : cX8_atom2.data.toList.drop 71 = dktX8_atom2_3 := dk_seg dksX8_atom2_2 24 rfl rfl
theorem dksX8_atom2_4 : cX8_atom2.data.toList.drop 95 = dktX8_atom2_4 := dk_seg dksX8_atom2_3 24 rfl rfl
theorem dksX8_atom2_5 : cX8_atom2.data.toList.drop 117 = dktX8_atom2_5 := dk_seg dksX8_atom2_4 22 rfl rfl
theorem dksX8_atom2_6 : cX8_atom2.data.toList.drop 139 = dktX8_atom2_6 := dk_seg dksX8_atom2_5 22 rfl rfl
theorem dX8_atom2_0 : decode cX8_atom2 0 = .ok (.iconst 0, 1) := dk_3 (dk_at dksX8_atom2_0 0 rfl rfl)
theorem dX8_atom2_1 : decode cX8_atom2 1 = .ok (.istore_n 1, 1) := dk_60 (dk_at dksX8_atom2_0 1 rfl rfl)
theorem dX8_atom2_2 : decode cX8_atom2 2 = .ok (.aload_n 0, 1) := dk_42 (dk_at dksX8_atom2_0 2 rfl rfl)
theorem dX8_atom2_3 : decode cX8_atom2 3 = .ok (.bipush 45, 2) := dk_16 45 (dk_at dksX8_atom2_0 3 rfl rfl)
theorem dX8_atom2_5 : decode cX8_atom2 5 = .ok (.invokevirtual 203, 3) := dk_182 0 203 (dk_at dksX8_atom2_0 5 rfl rfl)
theorem dX8_atom2_8 : decode cX8_atom2 8 = .ok (.ifCond .eq 29, 3) := dk_153 0 29 (dk_at dksX8_atom2_0 8 rfl rfl)
theorem dX8_atom2_11 : decode cX8_atom2 11 = .ok (.aload_n 0, 1) := dk_42 (dk_at dksX8_atom2_0 11 rfl rfl)
theorem dX8_atom2_12 : decode cX8_atom2 12 = .ok (.invokevirtual 206, 3) := dk_182 0 206 (dk_at dksX8_atom2_0 12 rfl rfl)
theorem dX8_atom2_15 : decode cX8_atom2 15 = .ok (.ifCond .eq 146, 3) := dk_153 0 146 (dk_at dksX8_atom2_0 15 rfl rfl)
theorem dX8_atom2_18 : decode cX8_atom2 18 = .ok (.aload_n 0, 1) := dk_42 (dk_at dksX8_atom2_0 18 rfl rfl)
theorem dX8_atom2_19 : decode cX8_atom2 19 = .ok (.invokevirtual 254, 3) := dk_182 0 254 (dk_at dksX8_atom2_0 19 rfl rfl)
theorem dX8_atom2_22 : decode cX8_atom2 22 = .ok (.ineg, 1) := dk_116 (dk_at dksX8_atom2_0 22 rfl rfl)
theorem dX8_atom2_23 : decode cX8_atom2 23 = .ok (.istore_n 1, 1) := dk_60 (dk_at dksX8_atom2_0 23 rfl rfl)
theorem dX8_atom2_24 : decode cX8_atom2 24 = .ok (.aload_n 0, 1) := dk_42 (dk_at dksX8_atom2_1 0 rfl rfl)
theorem dX8_atom2_25 : decode cX8_atom2 25 = .ok (.dup, 1) := dk_89 (dk_at dksX8_atom2_1 1 rfl rfl)
theorem dX8_atom2_26 : decode cX8_atom2 26 = .ok (.getfield 172, 3) := dk_180 0 172 (dk_at dksX8_atom2_1 2 rfl rfl)
theorem dX8_atom2_29 : decode cX8_atom2 29 = .ok (.iconst 1, 1) := dk_4 (dk_at dksX8_atom2_1 5 rfl rfl)
theorem dX8_atom2_30 : decode cX8_atom2 30 = .ok (.isub, 1) := dk_100 (dk_at dksX8_atom2_1 6 rfl rfl)
theorem dX8_atom2_31 : decode cX8_atom2 31 = .ok (.putfield 172, 3) := dk_181 0 172 (dk_at dksX8_atom2_1 7 rfl rfl)
theorem dX8_atom2_34 : decode cX8_atom2 34 = .ok (.goto 127, 3) := dk_167 0 127 (dk_at dksX8_atom2_1 10 rfl rfl)
theorem dX8_atom2_37 : decode cX8_atom2 37 = .ok (.aload_n 0, 1) := dk_42 (dk_at dksX8_atom2_1 13 rfl rfl)
theorem dX8_atom2_38 : decode cX8_atom2 38 = .ok (.bipush 40, 2) := dk_16 40 (dk_at dksX8_atom2_1 14 rfl rfl)
theorem dX8_atom2_40 : decode cX8_atom2 40 = .ok (.invokevirtual 203, 3) := dk_182 0 203 (dk_at dksX8_atom2_1 16 rfl rfl)
theorem dX8_atom2_43 : decode cX8_atom2 43 = .ok (.ifCond .eq 52, 3) := dk_153 0 52 (dk_at dksX8_atom2_1 19 rfl rfl)
theorem dX8_atom2_46 : decode cX8_atom2 46 = .ok (.aload_n 0, 1) := dk_42 (dk_at dksX8_atom2_1 22 rfl rfl)
theorem dX8_atom2_47 : decode cX8_atom2 47 = .ok (.invokevirtual 206, 3) := dk_182 0 206 (dk_at dksX8_atom2_2 0 rfl rfl)
theorem dX8_atom2_50 : decode cX8_atom2 50 = .ok (.ifCond .eq 111, 3) := dk_153 0 111 (dk_at dksX8_atom2_2 3 rfl rfl)
theorem dX8_atom2_53 : decode cX8_atom2 53 = .ok (.aload_n 0, 1) := dk_42 (dk_at dksX8_atom2_2 6 rfl rfl)
theorem dX8_atom2_54 : decode cX8_atom2 54 = .ok (.invokevirtual 269, 3) := dk_182 1 13 (dk_at dksX8_atom2_2 7 rfl rfl)
theorem dX8_atom2_57 : decode cX8_atom2 57 = .ok (.istore_n 1, 1) := dk_60 (dk_at dksX8_atom2_2 10 rfl rfl)
theorem dX8_atom2_58 : decode cX8_atom2 58 = .ok (.aload_n 0, 1) := dk_42 (dk_at dksX8_atom2_2 11 rfl rfl)
theorem dX8_atom2_59 : decode cX8_atom2 59 = .ok (.bipush 41, 2) := dk_16 41 (dk_at dksX8_atom2_2 12 rfl rfl)
theorem dX8_atom2_61 : decode cX8_atom2 61 = .ok (.invokevirtual 203, 3) := dk_182 0 203 (dk_at dksX8_atom2_2 14 rfl rfl)
theorem dX8_atom2_64 : decode cX8_atom2 64 = .ok (.ifCond .ne 7, 3) := dk_154 0 7 (dk_at dksX8_atom2_2 17 rfl rfl)
theorem dX8_atom2_67 : decode cX8_atom2 67 = .ok (.aload_n 0, 1) := dk_42 (dk_at dksX8_atom2_2 20 rfl rfl)
theorem dX8_atom2_68 : decode cX8_atom2 68 = .ok (.invokevirtual 175, 3) := dk_182 0 175 (dk_at dksX8_atom2_2 21 rfl rfl)
theorem dX8_atom2_71 : decode cX8_atom2 71 = .ok (.aload_n 0, 1) := dk_42 (dk_at dksX8_atom2_3 0 rfl rfl)
theorem dX8_atom2_72 : decode cX8_atom2 72 = .ok (.dup, 1) := dk_89 (dk_at dksX8_atom2_3 1 rfl rfl)
theorem dX8_atom2_73 : decode cX8_atom2 73 = .ok (.getfield 172, 3) := dk_180 0 172 (dk_at dksX8_atom2_3 2 rfl rfl)
theorem dX8_atom2_76 : decode cX8_atom2 76 = .ok (.iconst 1, 1) := dk_4 (dk_at dksX8_atom2_3 5 rfl rfl)
theorem dX8_atom2_77 : decode cX8_atom2 77 = .ok (.isub, 1) := dk_100 (dk_at dksX8_atom2_3 6 rfl rfl)
theorem dX8_atom2_78 : decode cX8_atom2 78 = .ok (.putfield 172, 3) := dk_181 0 172 (dk_at dksX8_atom2_3 7 rfl rfl)
theorem dX8_atom2_81 : decode cX8_atom2 81 = .ok (.aload_n 0, 1) := dk_42 (dk_at dksX8_atom2_3 10 rfl rfl)
theorem dX8_atom2_82 : decode cX8_atom2 82 = .ok (.getfield 161, 3) := dk_180 0 161 (dk_at dksX8_atom2_3 11 rfl rfl)
theorem dX8_atom2_85 : decode cX8_atom2 85 = .ok (.ifCond .ne 76, 3) := dk_154 0 76 (dk_at dksX8_atom2_3 14 rfl rfl)
theorem dX8_atom2_88 : decode cX8_atom2 88 = .ok (.aload_n 0, 1) := dk_42 (dk_at dksX8_atom2_3 17 rfl rfl)
theorem dX8_atom2_89 : decode cX8_atom2 89 = .ok (.invokevirtual 178, 3) := dk_182 0 178 (dk_at dksX8_atom2_3 18 rfl rfl)
theorem dX8_atom2_92 : decode cX8_atom2 92 = .ok (.goto 69, 3) := dk_167 0 69 (dk_at dksX8_atom2_3 21 rfl rfl)
theorem dX8_atom2_95 : decode cX8_atom2 95 = .ok (.aload_n 0, 1) := dk_42 (dk_at dksX8_atom2_4 0 rfl rfl)
theorem dX8_atom2_96 : decode cX8_atom2 96 = .ok (.getfield 161, 3) := dk_180 0 161 (dk_at dksX8_atom2_4 1 rfl rfl)
theorem dX8_atom2_99 : decode cX8_atom2 99 = .ok (.ifCond .ne 24, 3) := dk_154 0 24 (dk_at dksX8_atom2_4 4 rfl rfl)
theorem dX8_atom2_102 : decode cX8_atom2 102 = .ok (.aload_n 0, 1) := dk_42 (dk_at dksX8_atom2_4 7 rfl rfl)
theorem dX8_atom2_103 : decode cX8_atom2 103 = .ok (.getfield 144, 3) := dk_180 0 144 (dk_at dksX8_atom2_4 8 rfl rfl)
theorem dX8_atom2_106 : decode cX8_atom2 106 = .ok (.iconst 2, 1) := dk_5 (dk_at dksX8_atom2_4 11 rfl rfl)
theorem dX8_atom2_107 : decode cX8_atom2 107 = .ok (.if_icmp .ne 16, 3) := dk_160 0 16 (dk_at dksX8_atom2_4 12 rfl rfl)
theorem dX8_atom2_110 : decode cX8_atom2 110 = .ok (.aload_n 0, 1) := dk_42 (dk_at dksX8_atom2_4 15 rfl rfl)
theorem dX8_atom2_111 : decode cX8_atom2 111 = .ok (.getfield 155, 3) := dk_180 0 155 (dk_at dksX8_atom2_4 16 rfl rfl)
theorem dX8_atom2_114 : decode cX8_atom2 114 = .ok (.l2i, 1) := dk_136 (dk_at dksX8_atom2_4 19 rfl rfl)
theorem dX8_atom2_115 : decode cX8_atom2 115 = .ok (.istore_n 1, 1) := dk_60 (dk_at dksX8_atom2_4 20 rfl rfl)
theorem dX8_atom2_116 : decode cX8_atom2 116 = .ok (.aload_n 0, 1) := dk_42 (dk_at dksX8_atom2_4 21 rfl rfl)
theorem dX8_atom2_117 : decode cX8_atom2 117 = .ok (.invokevirtual 178, 3) := dk_182 0 178 (dk_at dksX8_atom2_5 0 rfl rfl)
theorem dX8_atom2_120 : decode cX8_atom2 120 = .ok (.goto 41, 3) := dk_167 0 41 (dk_at dksX8_atom2_5 3 rfl rfl)
theorem dX8_atom2_123 : decode cX8_atom2 123 = .ok (.aload_n 0, 1) := dk_42 (dk_at dksX8_atom2_5 6 rfl rfl)
theorem dX8_atom2_124 : decode cX8_atom2 124 = .ok (.getfield 161, 3) := dk_180 0 161 (dk_at dksX8_atom2_5 7 rfl rfl)
theorem dX8_atom2_127 : decode cX8_atom2 127 = .ok (.ifCond .ne 30, 3) := dk_154 0 30 (dk_at dksX8_atom2_5 10 rfl rfl)
theorem dX8_atom2_130 : decode cX8_atom2 130 = .ok (.aload_n 0, 1) := dk_42 (dk_at dksX8_atom2_5 13 rfl rfl)
theorem dX8_atom2_131 : decode cX8_atom2 131 = .ok (.getfield 144, 3) := dk_180 0 144 (dk_at dksX8_atom2_5 14 rfl rfl)
theorem dX8_atom2_134 : decode cX8_atom2 134 = .ok (.iconst 1, 1) := dk_4 (dk_at dksX8_atom2_5 17 rfl rfl)
theorem dX8_atom2_135 : decode cX8_atom2 135 = .ok (.if_icmp .ne 22, 3) := dk_160 0 22 (dk_at dksX8_atom2_5 18 rfl rfl)
theorem dX8_atom2_138 : decode cX8_atom2 138 = .ok (.aload_n 0, 1) := dk_42 (dk_at dksX8_atom2_5 21 rfl rfl)
theorem dX8_atom2_139 : decode cX8_atom2 139 = .ok (.invokevirtual 210, 3) := dk_182 0 210 (dk_at dksX8_atom2_6 0 rfl rfl)
theorem dX8_atom2_142 : decode cX8_atom2 142 = .ok (.istore_n 1, 1) := dk_60 (dk_at dksX8_atom2_6 3 rfl rfl)
theorem dX8_atom2_143 : decode cX8_atom2 143 = .ok (.aload_n 0, 1) := dk_42 (dk_at dksX8_atom2_6 4 rfl rfl)
theorem dX8_atom2_144 : decode cX8_atom2 144 = .ok (.getfield 161, 3) := dk_180 0 161 (dk_at dksX8_atom2_6 5 rfl rfl)
theorem dX8_atom2_147 : decode cX8_atom2 147 = .ok (.ifCond .ne 14, 3) := dk_154 0 14 (dk_at dksX8_atom2_6 8 rfl rfl)
theorem dX8_atom2_150 : decode cX8_atom2 150 = .ok (.aload_n 0, 1) := dk_42 (dk_at dksX8_atom2_6 11 rfl rfl)
theorem dX8_atom2_151 : decode cX8_atom2 151 = .ok (.invokevirtual 178, 3) := dk_182 0 178 (dk_at dksX8_atom2_6 12 rfl rfl)
theorem dX8_atom2_154 : decode cX8_atom2 154 = .ok (.goto 7, 3) := dk_167 0 7 (dk_at dksX8_atom2_6 15 rfl rfl)
theorem dX8_atom2_157 : decode cX8_atom2 157 = .ok (.aload_n 0, 1) := dk_42 (dk_at dksX8_atom2_6 18 rfl rfl)
theorem dX8_atom2_158 : decode cX8_atom2 158 = .ok (.invokevirtual 175, 3) := dk_182 0 175 (dk_at dksX8_atom2_6 19 rfl rfl)
theorem dX8_atom2_161 : decode cX8_atom2 161 = .ok (.iload_n 1, 1) := dk_27 (dk_at dksX8_atom2_6 22 rfl rfl)
theorem dX8_atom2_162 : decode cX8_atom2 162 = .ok (.ireturn, 1) := dk_172 (dk_at dksX8_atom2_6 23 rfl rfl)
abbrev cX8_either3 : ByteArray := prog_16_method_43_code
def yX8_either3 : MethodName := ⟨RX8, "either3", "()I"⟩
def dkwX8_either3_2 : List UInt8 := [167, 255, 216, 27, 172]
abbrev dktX8_either3_2 : List UInt8 := dkwX8_either3_2 ++ []
def dkwX8_either3_1 : List UInt8 := [182, 0, 178, 42, 182, 1, 10, 61, 27, 154, 0, 7, 28, 153, 0, 7, 4, 167, 0, 4, 3, 60]
abbrev dktX8_either3_1 : List UInt8 := dkwX8_either3_1 ++ dktX8_either3_2
def dkwX8_either3_0 : List UInt8 := [42, 182, 1, 10, 60, 42, 16, 111, 16, 114, 3, 3, 3, 3, 3, 3, 182, 0, 181, 153, 0, 29, 42]
abbrev dktX8_either3_0 : List UInt8 := dkwX8_either3_0 ++ dktX8_either3_1
theorem dksX8_either3_0 : cX8_either3.data.toList.drop 0 = dktX8_either3_0 := by decide +kernel
theorem dksX8_either3_1 : cX8_either3.data.toList.drop 23 = dktX8_either3_1 := dk_seg dksX8_either3_0 23 rfl rfl
theorem dksX8_either3_2 : cX8_either3.data.toList.drop 45 = dktX8_either3_2 := dk_seg dksX8_either3_1 22 rfl rfl
theorem dX8_either3_0 : decode cX8_either3 0 = .ok (.aload_n 0, 1) := dk_42 (dk_at dksX8_either3_0 0 rfl rfl)
theorem dX8_either3_1 : decode cX8_either3 1 = .ok (.invokevirtual 266, 3) := dk_182 1 10 (dk_at dksX8_either3_0 1 rfl rfl)
theorem dX8_either3_4 : decode cX8_either3 4 = .ok (.istore_n 1, 1) := dk_60 (dk_at dksX8_either3_0 4 rfl rfl)
theorem dX8_either3_5 : decode cX8_either3 5 = .ok (.aload_n 0, 1) := dk_42 (dk_at dksX8_either3_0 5 rfl rfl)
theorem dX8_either3_6 : decode cX8_either3 6 = .ok (.bipush 111, 2) := dk_16 111 (dk_at dksX8_either3_0 6 rfl rfl)
theorem dX8_either3_8 : decode cX8_either3 8 = .ok (.bipush 114, 2) := dk_16 114 (dk_at dksX8_either3_0 8 rfl rfl)
theorem dX8_either3_10 : decode cX8_either3 10 = .ok (.iconst 0, 1) := dk_3 (dk_at dksX8_either3_0 10 rfl rfl)
theorem dX8_either3_11 : decode cX8_either3 11 = .ok (.iconst 0, 1) := dk_3 (dk_at dksX8_either3_0 11 rfl rfl)
theorem dX8_either3_12 : decode cX8_either3 12 = .ok (.iconst 0, 1) := dk_3 (dk_at dksX8_either3_0 12 rfl rfl)
theorem dX8_either3_13 : decode cX8_either3 13 = .ok (.iconst 0, 1) := dk_3 (dk_at dksX8_either3_0 13 rfl rfl)
theorem dX8_either3_14 : decode cX8_either3 14 = .ok (.iconst 0, 1) := dk_3 (dk_at dksX8_either3_0 14 rfl rfl)
theorem dX8_either3_15 : decode cX8_either3 15 = .ok (.iconst 0, 1) := dk_3 (dk_at dksX8_either3_0 15 rfl rfl)
theorem dX8_either3_16 : decode cX8_either3 16 = .ok (.invokevirtual 181, 3) := dk_182 0 181 (dk_at dksX8_either3_0 16 rfl rfl)
theorem dX8_either3_19 : decode cX8_either3 19 = .ok (.ifCond .eq 29, 3) := dk_153 0 29 (dk_at dksX8_either3_0 19 rfl rfl)
theorem dX8_either3_22 : decode cX8_either3 22 = .ok (.aload_n 0, 1) := dk_42 (dk_at dksX8_either3_0 22 rfl rfl)
theorem dX8_either3_23 : decode cX8_either3 23 = .ok (.invokevirtual 178, 3) := dk_182 0 178 (dk_at dksX8_either3_1 0 rfl rfl)
theorem dX8_either3_26 : decode cX8_either3 26 = .ok (.aload_n 0, 1) := dk_42 (dk_at dksX8_either3_1 3 rfl rfl)
theorem dX8_either3_27 : decode cX8_either3 27 = .ok (.invokevirtual 266, 3) := dk_182 1 10 (dk_at dksX8_either3_1 4 rfl rfl)
theorem dX8_either3_30 : decode cX8_either3 30 = .ok (.istore_n 2, 1) := dk_61 (dk_at dksX8_either3_1 7 rfl rfl)
theorem dX8_either3_31 : decode cX8_either3 31 = .ok (.iload_n 1, 1) := dk_27 (dk_at dksX8_either3_1 8 rfl rfl)
theorem dX8_either3_32 : decode cX8_either3 32 = .ok (.ifCond .ne 7, 3) := dk_154 0 7 (dk_at dksX8_either3_1 9 rfl rfl)
theorem dX8_either3_35 : decode cX8_either3 35 = .ok (.iload_n 2, 1) := dk_28 (dk_at dksX8_either3_1 12 rfl rfl)
theorem dX8_either3_36 : decode cX8_either3 36 = .ok (.ifCond .eq 7, 3) := dk_153 0 7 (dk_at dksX8_either3_1 13 rfl rfl)
theorem dX8_either3_39 : decode cX8_either3 39 = .ok (.iconst 1, 1) := dk_4 (dk_at dksX8_either3_1 16 rfl rfl)
theorem dX8_either3_40 : decode cX8_either3 40 = .ok (.goto 4, 3) := dk_167 0 4 (dk_at dksX8_either3_1 17 rfl rfl)
theorem dX8_either3_43 : decode cX8_either3 43 = .ok (.iconst 0, 1) := dk_3 (dk_at dksX8_either3_1 20 rfl rfl)
theorem dX8_either3_44 : decode cX8_either3 44 = .ok (.istore_n 1, 1) := dk_60 (dk_at dksX8_either3_1 21 rfl rfl)
theorem dX8_either3_45 : decode cX8_either3 45 = .ok (.goto (-40), 3) := dk_167 255 216 (dk_at dksX8_either3_2 0 rfl rfl)
theorem dX8_either3_48 : decode cX8_either3 48 = .ok (.iload_n 1, 1) := dk_27 (dk_at dksX8_either3_2 3 rfl rfl)
theorem dX8_either3_49 : decode cX8_either3 49 = .ok (.ireturn, 1) := dk_172 (dk_at dksX8_either3_2 4 rfl rfl)
abbrev cX8_both3 : ByteArray := prog_16_method_42_code
def yX8_both3 : MethodName := ⟨RX8, "both3", "()I"⟩
def dkwX8_both3_2 : List UInt8 := [167, 255, 215, 27, 172]
abbrev dktX8_both3_2 : List UInt8 := dkwX8_both3_2 ++ []
def dkwX8_both3_1 : List UInt8 := [182, 0, 178, 42, 182, 1, 7, 61, 27, 153, 0, 11, 28, 153, 0, 7, 4, 167, 0, 4, 3, 60]
abbrev dktX8_both3_1 : List UInt8 := dkwX8_both3_1 ++ dktX8_both3_2
def dkwX8_both3_0 : List UInt8 := [42, 182, 1, 7, 60, 42, 16, 97, 16, 110, 16, 100, 3, 3, 3, 3, 3, 182, 0, 181, 153, 0, 29, 42]
abbrev dktX8_both3_0 : List UInt8 := dkwX8_both3_0 ++ dktX8_both3_1
theorem dksX8_both3_0 : cX8_both3.data.toList.drop 0 = dktX8_both3_0 := by decide +kernel
theorem dksX8_both3_1 : cX8_both3.data.toList.drop 24 = dktX8_both3_1 := dk_seg dksX8_both3_0 24 rfl rfl
theorem dksX8_both3_2 : cX8_both3.data.toList.drop 46 = dktX8_both3_2 := dk_seg dksX8_both3_1 22 rfl rfl
theorem dX8_both3_0 : decode cX8_both3 0 = .ok (.aload_n 0, 1) := dk_42 (dk_at dksX8_both3_0 0 rfl rfl)
theorem dX8_both3_1 : decode cX8_both3 1 = .ok (.invokevirtual 263, 3) := dk_182 1 7 (dk_at dksX8_both3_0 1 rfl rfl)
theorem dX8_both3_4 : decode cX8_both3 4 = .ok (.istore_n 1, 1) := dk_60 (dk_at dksX8_both3_0 4 rfl rfl)
theorem dX8_both3_5 : decode cX8_both3 5 = .ok (.aload_n 0, 1) := dk_42 (dk_at dksX8_both3_0 5 rfl rfl)
theorem dX8_both3_6 : decode cX8_both3 6 = .ok (.bipush 97, 2) := dk_16 97 (dk_at dksX8_both3_0 6 rfl rfl)
theorem dX8_both3_8 : decode cX8_both3 8 = .ok (.bipush 110, 2) := dk_16 110 (dk_at dksX8_both3_0 8 rfl rfl)
theorem dX8_both3_10 : decode cX8_both3 10 = .ok (.bipush 100, 2) := dk_16 100 (dk_at dksX8_both3_0 10 rfl rfl)
theorem dX8_both3_12 : decode cX8_both3 12 = .ok (.iconst 0, 1) := dk_3 (dk_at dksX8_both3_0 12 rfl rfl)
theorem dX8_both3_13 : decode cX8_both3 13 = .ok (.iconst 0, 1) := dk_3 (dk_at dksX8_both3_0 13 rfl rfl)
theorem dX8_both3_14 : decode cX8_both3 14 = .ok (.iconst 0, 1) := dk_3 (dk_at dksX8_both3_0 14 rfl rfl)
theorem dX8_both3_15 : decode cX8_both3 15 = .ok (.iconst 0, 1) := dk_3 (dk_at dksX8_both3_0 15 rfl rfl)
theorem dX8_both3_16 : decode cX8_both3 16 = .ok (.iconst 0, 1) := dk_3 (dk_at dksX8_both3_0 16 rfl rfl)
theorem dX8_both3_17 : decode cX8_both3 17 = .ok (.invokevirtual 181, 3) := dk_182 0 181 (dk_at dksX8_both3_0 17 rfl rfl)
theorem dX8_both3_20 : decode cX8_both3 20 = .ok (.ifCond .eq 29, 3) := dk_153 0 29 (dk_at dksX8_both3_0 20 rfl rfl)
theorem dX8_both3_23 : decode cX8_both3 23 = .ok (.aload_n 0, 1) := dk_42 (dk_at dksX8_both3_0 23 rfl rfl)
theorem dX8_both3_24 : decode cX8_both3 24 = .ok (.invokevirtual 178, 3) := dk_182 0 178 (dk_at dksX8_both3_1 0 rfl rfl)
theorem dX8_both3_27 : decode cX8_both3 27 = .ok (.aload_n 0, 1) := dk_42 (dk_at dksX8_both3_1 3 rfl rfl)
theorem dX8_both3_28 : decode cX8_both3 28 = .ok (.invokevirtual 263, 3) := dk_182 1 7 (dk_at dksX8_both3_1 4 rfl rfl)
theorem dX8_both3_31 : decode cX8_both3 31 = .ok (.istore_n 2, 1) := dk_61 (dk_at dksX8_both3_1 7 rfl rfl)
theorem dX8_both3_32 : decode cX8_both3 32 = .ok (.iload_n 1, 1) := dk_27 (dk_at dksX8_both3_1 8 rfl rfl)
theorem dX8_both3_33 : decode cX8_both3 33 = .ok (.ifCond .eq 11, 3) := dk_153 0 11 (dk_at dksX8_both3_1 9 rfl rfl)
theorem dX8_both3_36 : decode cX8_both3 36 = .ok (.iload_n 2, 1) := dk_28 (dk_at dksX8_both3_1 12 rfl rfl)
theorem dX8_both3_37 : decode cX8_both3 37 = .ok (.ifCond .eq 7, 3) := dk_153 0 7 (dk_at dksX8_both3_1 13 rfl rfl)
theorem dX8_both3_40 : decode cX8_both3 40 = .ok (.iconst 1, 1) := dk_4 (dk_at dksX8_both3_1 16 rfl rfl)
theorem dX8_both3_41 : decode cX8_both3 41 = .ok (.goto 4, 3) := dk_167 0 4 (dk_at dksX8_both3_1 17 rfl rfl)
theorem dX8_both3_44 : decode cX8_both3 44 = .ok (.iconst 0, 1) := dk_3 (dk_at dksX8_both3_1 20 rfl rfl)
theorem dX8_both3_45 : decode cX8_both3 45 = .ok (.istore_n 1, 1) := dk_60 (dk_at dksX8_both3_1 21 rfl rfl)
theorem dX8_both3_46 : decode cX8_both3 46 = .ok (.goto (-41), 3) := dk_167 255 215 (dk_at dksX8_both3_2 0 rfl rfl)
theorem dX8_both3_49 : decode cX8_both3 49 = .ok (.iload_n 1, 1) := dk_27 (dk_at dksX8_both3_2 3 rfl rfl)
theorem dX8_both3_50 : decode cX8_both3 50 = .ok (.ireturn, 1) := dk_172 (dk_at dksX8_both3_2 4 rfl rfl)
abbrev cX8_added1 : ByteArray := prog_16_method_52_code
def yX8_added1 : MethodName := ⟨RX8, "added1", "()I"⟩
def dkwX8_added1_2 : List UInt8 := [62, 28, 153, 0, 9, 27, 29, 96, 167, 0, 6, 27, 29, 100, 60, 167, 255, 198, 27, 172]
abbrev dktX8_added1_2 : List UInt8 := dkwX8_added1_2 ++ []
def dkwX8_added1_1 : List UInt8 := [180, 0, 155, 20, 0, 220, 148, 154, 0, 7, 4, 167, 0, 4, 3, 61, 42, 182, 0, 178, 42, 182, 1, 37]
abbrev dktX8_added1_1 : List UInt8 := dkwX8_added1_1 ++ dktX8_added1_2
def dkwX8_added1_0 : List UInt8 := [42, 182, 1, 37, 60, 42, 16, 43, 182, 0, 203, 154, 0, 12, 42, 16, 45, 182, 0, 203, 153, 0, 46, 42]
abbrev dktX8_added1_0 : List UInt8 := dkwX8_added1_0 ++ dktX8_added1_1
theorem dksX8_added1_0 : cX8_added1.data.toList.drop 0 = dktX8_added1_0 := by decide +kernel
theorem dksX8_added1_1 : cX8_added1.data.toList.drop 24 = dktX8_added1_1 := dk_seg dksX8_added1_0 24 rfl rfl
theorem dksX8_added1_2 : cX8_added1.data.toList.drop 48 = dktX8_added1_2 := dk_seg dksX8_added1_1 24 rfl rfl
theorem dX8_added1_0 : decode cX8_added1 0 = .ok (.aload_n 0, 1) := dk_42 (dk_at dksX8_added1_0 0 rfl rfl)
theorem dX8_added1_1 : decode cX8_added1 1 = .ok (.invokevirtual 293, 3) := dk_182 1 37 (dk_at dksX8_added1_0 1 rfl rfl)
theorem dX8_added1_4 : decode cX8_added1 4 = .ok (.istore_n 1, 1) := dk_60 (dk_at dksX8_added1_0 4 rfl rfl)
theorem dX8_added1_5 : decode cX8_added1 5 = .ok (.aload_n 0, 1) := dk_42 (dk_at dksX8_added1_0 5 rfl rfl)
theorem dX8_added1_6 : decode cX8_added1 6 = .ok (.bipush 43, 2) := dk_16 43 (dk_at dksX8_added1_0 6 rfl rfl)
theorem dX8_added1_8 : decode cX8_added1 8 = .ok (.invokevirtual 203, 3) := dk_182 0 203 (dk_at dksX8_added1_0 8 rfl rfl)
theorem dX8_added1_11 : decode cX8_added1 11 = .ok (.ifCond .ne 12, 3) := dk_154 0 12 (dk_at dksX8_added1_0 11 rfl rfl)
theorem dX8_added1_14 : decode cX8_added1 14 = .ok (.aload_n 0, 1) := dk_42 (dk_at dksX8_added1_0 14 rfl rfl)
theorem dX8_added1_15 : decode cX8_added1 15 = .ok (.bipush 45, 2) := dk_16 45 (dk_at dksX8_added1_0 15 rfl rfl)
theorem dX8_added1_17 : decode cX8_added1 17 = .ok (.invokevirtual 203, 3) := dk_182 0 203 (dk_at dksX8_added1_0 17 rfl rfl)
theorem dX8_added1_20 : decode cX8_added1 20 = .ok (.ifCond .eq 46, 3) := dk_153 0 46 (dk_at dksX8_added1_0 20 rfl rfl)
theorem dX8_added1_23 : decode cX8_added1 23 = .ok (.aload_n 0, 1) := dk_42 (dk_at dksX8_added1_0 23 rfl rfl)
theorem dX8_added1_24 : decode cX8_added1 24 = .ok (.getfield 155, 3) := dk_180 0 155 (dk_at dksX8_added1_1 0 rfl rfl)
theorem dX8_added1_27 : decode cX8_added1 27 = .ok (.ldc2_w 220, 3) := dk_20 0 220 (dk_at dksX8_added1_1 3 rfl rfl)
theorem dX8_added1_30 : decode cX8_added1 30 = .ok (.lcmp, 1) := dk_148 (dk_at dksX8_added1_1 6 rfl rfl)
theorem dX8_added1_31 : decode cX8_added1 31 = .ok (.ifCond .ne 7, 3) := dk_154 0 7 (dk_at dksX8_added1_1 7 rfl rfl)
theorem dX8_added1_34 : decode cX8_added1 34 = .ok (.iconst 1, 1) := dk_4 (dk_at dksX8_added1_1 10 rfl rfl)
theorem dX8_added1_35 : decode cX8_added1 35 = .ok (.goto 4, 3) := dk_167 0 4 (dk_at dksX8_added1_1 11 rfl rfl)
theorem dX8_added1_38 : decode cX8_added1 38 = .ok (.iconst 0, 1) := dk_3 (dk_at dksX8_added1_1 14 rfl rfl)
theorem dX8_added1_39 : decode cX8_added1 39 = .ok (.istore_n 2, 1) := dk_61 (dk_at dksX8_added1_1 15 rfl rfl)
theorem dX8_added1_40 : decode cX8_added1 40 = .ok (.aload_n 0, 1) := dk_42 (dk_at dksX8_added1_1 16 rfl rfl)
theorem dX8_added1_41 : decode cX8_added1 41 = .ok (.invokevirtual 178, 3) := dk_182 0 178 (dk_at dksX8_added1_1 17 rfl rfl)
theorem dX8_added1_44 : decode cX8_added1 44 = .ok (.aload_n 0, 1) := dk_42 (dk_at dksX8_added1_1 20 rfl rfl)
theorem dX8_added1_45 : decode cX8_added1 45 = .ok (.invokevirtual 293, 3) := dk_182 1 37 (dk_at dksX8_added1_1 21 rfl rfl)
theorem dX8_added1_48 : decode cX8_added1 48 = .ok (.istore_n 3, 1) := dk_62 (dk_at dksX8_added1_2 0 rfl rfl)
theorem dX8_added1_49 : decode cX8_added1 49 = .ok (.iload_n 2, 1) := dk_28 (dk_at dksX8_added1_2 1 rfl rfl)
theorem dX8_added1_50 : decode cX8_added1 50 = .ok (.ifCond .eq 9, 3) := dk_153 0 9 (dk_at dksX8_added1_2 2 rfl rfl)
theorem dX8_added1_53 : decode cX8_added1 53 = .ok (.iload_n 1, 1) := dk_27 (dk_at dksX8_added1_2 5 rfl rfl)
theorem dX8_added1_54 : decode cX8_added1 54 = .ok (.iload_n 3, 1) := dk_29 (dk_at dksX8_added1_2 6 rfl rfl)
theorem dX8_added1_55 : decode cX8_added1 55 = .ok (.iadd, 1) := dk_96 (dk_at dksX8_added1_2 7 rfl rfl)
theorem dX8_added1_56 : decode cX8_added1 56 = .ok (.goto 6, 3) := dk_167 0 6 (dk_at dksX8_added1_2 8 rfl rfl)
theorem dX8_added1_59 : decode cX8_added1 59 = .ok (.iload_n 1, 1) := dk_27 (dk_at dksX8_added1_2 11 rfl rfl)
theorem dX8_added1_60 : decode cX8_added1 60 = .ok (.iload_n 3, 1) := dk_29 (dk_at dksX8_added1_2 12 rfl rfl)
theorem dX8_added1_61 : decode cX8_added1 61 = .ok (.isub, 1) := dk_100 (dk_at dksX8_added1_2 13 rfl rfl)
theorem dX8_added1_62 : decode cX8_added1 62 = .ok (.istore_n 1, 1) := dk_60 (dk_at dksX8_added1_2 14 rfl rfl)
theorem dX8_added1_63 : decode cX8_added1 63 = .ok (.goto (-58), 3) := dk_167 255 198 (dk_at dksX8_added1_2 15 rfl rfl)
theorem dX8_added1_66 : decode cX8_added1 66 = .ok (.iload_n 1, 1) := dk_27 (dk_at dksX8_added1_2 18 rfl rfl)
theorem dX8_added1_67 : decode cX8_added1 67 = .ok (.ireturn, 1) := dk_172 (dk_at dksX8_added1_2 19 rfl rfl)
abbrev cX8_term1 : ByteArray := prog_16_method_51_code
def yX8_term1 : MethodName := ⟨RX8, "term1", "()I"⟩
def dkwX8_term1_1 : List UInt8 := [60, 167, 255, 236, 27, 172]
abbrev dktX8_term1_1 : List UInt8 := dkwX8_term1_1 ++ []
def dkwX8_term1_0 : List UInt8 := [42, 182, 1, 34, 60, 42, 16, 42, 182, 0, 203, 153, 0, 17, 42, 182, 0, 178, 27, 42, 182, 1, 34, 104]
abbrev dktX8_term1_0 : List UInt8 := dkwX8_term1_0 ++ dktX8_term1_1
theorem dksX8_term1_0 : cX8_term1.data.toList.drop 0 = dktX8_term1_0 := by decide +kernel
theorem dksX8_term1_1 : cX8_term1.data.toList.drop 24 = dktX8_term1_1 := dk_seg dksX8_term1_0 24 rfl rfl
theorem dX8_term1_0 : decode cX8_term1 0 = .ok (.aload_n 0, 1) := dk_42 (dk_at dksX8_term1_0 0 rfl rfl)
theorem dX8_term1_1 : decode cX8_term1 1 = .ok (.invokevirtual 290, 3) := dk_182 1 34 (dk_at dksX8_term1_0 1 rfl rfl)
theorem dX8_term1_4 : decode cX8_term1 4 = .ok (.istore_n 1, 1) := dk_60 (dk_at dksX8_term1_0 4 rfl rfl)
theorem dX8_term1_5 : decode cX8_term1 5 = .ok (.aload_n 0, 1) := dk_42 (dk_at dksX8_term1_0 5 rfl rfl)
theorem dX8_term1_6 : decode cX8_term1 6 = .ok (.bipush 42, 2) := dk_16 42 (dk_at dksX8_term1_0 6 rfl rfl)
theorem dX8_term1_8 : decode cX8_term1 8 = .ok (.invokevirtual 203, 3) := dk_182 0 203 (dk_at dksX8_term1_0 8 rfl rfl)
theorem dX8_term1_11 : decode cX8_term1 11 = .ok (.ifCond .eq 17, 3) := dk_153 0 17 (dk_at dksX8_term1_0 11 rfl rfl)
theorem dX8_term1_14 : decode cX8_term1 14 = .ok (.aload_n 0, 1) := dk_42 (dk_at dksX8_term1_0 14 rfl rfl)
theorem dX8_term1_15 : decode cX8_term1 15 = .ok (.invokevirtual 178, 3) := dk_182 0 178 (dk_at dksX8_term1_0 15 rfl rfl)
theorem dX8_term1_18 : decode cX8_term1 18 = .ok (.iload_n 1, 1) := dk_27 (dk_at dksX8_term1_0 18 rfl rfl)
theorem dX8_term1_19 : decode cX8_term1 19 = .ok (.aload_n 0, 1) := dk_42 (dk_at dksX8_term1_0 19 rfl rfl)
theorem dX8_term1_20 : decode cX8_term1 20 = .ok (.invokevirtual 290, 3) := dk_182 1 34 (dk_at dksX8_term1_0 20 rfl rfl)
theorem dX8_term1_23 : decode cX8_term1 23 = .ok (.imul, 1) := dk_104 (dk_at dksX8_term1_0 23 rfl rfl)
theorem dX8_term1_24 : decode cX8_term1 24 = .ok (.istore_n 1, 1) := dk_60 (dk_at dksX8_term1_1 0 rfl rfl)
theorem dX8_term1_25 : decode cX8_term1 25 = .ok (.goto (-20), 3) := dk_167 255 236 (dk_at dksX8_term1_1 1 rfl rfl)
theorem dX8_term1_28 : decode cX8_term1 28 = .ok (.iload_n 1, 1) := dk_27 (dk_at dksX8_term1_1 4 rfl rfl)
theorem dX8_term1_29 : decode cX8_term1 29 = .ok (.ireturn, 1) := dk_172 (dk_at dksX8_term1_1 5 rfl rfl)
abbrev cX8_atom1 : ByteArray := prog_16_method_50_code
def yX8_atom1 : MethodName := ⟨RX8, "atom1", "()I"⟩
def dkwX8_atom1_6 : List UInt8 := [182, 0, 210, 60, 42, 180, 0, 161, 154, 0, 14, 42, 182, 0, 178, 167, 0, 7, 42, 182, 0, 175, 27, 172]
abbrev dktX8_atom1_6 : List UInt8 := dkwX8_atom1_6 ++ []
def dkwX8_atom1_5 : List UInt8 := [182, 0, 178, 167, 0, 41, 42, 180, 0, 161, 154, 0, 30, 42, 180, 0, 144, 4, 160, 0, 22, 42]
abbrev dktX8_atom1_5 : List UInt8 := dkwX8_atom1_5 ++ dktX8_atom1_6
def dkwX8_atom1_4 : List UInt8 := [42, 180, 0, 161, 154, 0, 24, 42, 180, 0, 144, 5, 160, 0, 16, 42, 180, 0, 155, 136, 60, 42]
abbrev dktX8_atom1_4 : List UInt8 := dkwX8_atom1_4 ++ dktX8_atom1_5
def dkwX8_atom1_3 : List UInt8 := [42, 89, 180, 0, 172, 4, 100, 181, 0, 172, 42, 180, 0, 161, 154, 0, 76, 42, 182, 0, 178, 167, 0, 69]
abbrev dktX8_atom1_3 : List UInt8 := dkwX8_atom1_3 ++ dktX8_atom1_4
def dkwX8_atom1_2 : List UInt8 := [182, 0, 206, 153, 0, 111, 42, 182, 1, 31, 60, 42, 16, 41, 182, 0, 203, 154, 0, 7, 42, 182, 0, 175]
abbrev dktX8_atom1_2 : List UInt8 := dkwX8_atom1_2 ++ dktX8_atom1_3
def dkwX8_atom1_1 : List UInt8 := [42, 89, 180, 0, 172, 4, 100, 181, 0, 172, 167, 0, 127, 42, 16, 40, 182, 0, 203, 153, 0, 52, 42]
abbrev dktX8_atom1_1 : List UInt8 := dkwX8_atom1_1 ++ dktX8_atom1_2
def dkwX8_atom1_0 : List UInt8 := [3, 60, 42, 16, 45, 182, 0, 203, 153, 0, 29, 42, 182, 0, 206, 153, 0, 146, 42, 182, 1, 16, 116, 60]
abbrev dktX8_atom1_0 : List UInt8 := dkwX8_atom1_0 ++ dktX8_atom1_1
theorem dksX8_atom1_0 : cX8_atom1.data.toList.drop 0 = dktX8_atom1_0 := by decide +kernel
theorem dksX8_atom1_1 : cX8_atom1.data.toList.drop 24 = dktX8_atom1_1 := dk_seg dksX8_atom1_0 24 rfl rfl
theorem dksX8_atom1_2 : cX8_atom1.data.toList.drop 47 = dktX8_atom1_2 := dk_seg dksX8_atom1_1 23 rfl rfl
theorem dksX8_atom1_3 : cX8_atom1.data.toList.drop 71 = dktX8_atom1_3 := dk_seg dksX8_atom1_2 24 rfl rfl
theorem dksX8_atom1_4 : cX8_atom1.data.toList.drop 95 = dktX8_atom1_4 := dk_seg dksX8_atom1_3 24 rfl rfl
theorem dksX8_atom1_5 : cX8_atom1.data.toList.drop 117 = dktX8_atom1_5 := dk_seg dksX8_atom1_4 22 rfl rfl
theorem dksX8_atom1_6 : cX8_atom1.data.toList.drop 139 = dktX8_atom1_6 := dk_seg dksX8_atom1_5 22 rfl rfl
theorem dX8_atom1_0 : decode cX8_atom1 0 = .ok (.iconst 0, 1) := dk_3 (dk_at dksX8_atom1_0 0 rfl rfl)
theorem dX8_atom1_1 : decode cX8_atom1 1 = .ok (.istore_n 1, 1) := dk_60 (dk_at dksX8_atom1_0 1 rfl rfl)
theorem dX8_atom1_2 : decode cX8_atom1 2 = .ok (.aload_n 0, 1) := dk_42 (dk_at dksX8_atom1_0 2 rfl rfl)
theorem dX8_atom1_3 : decode cX8_atom1 3 = .ok (.bipush 45, 2) := dk_16 45 (dk_at dksX8_atom1_0 3 rfl rfl)
theorem dX8_atom1_5 : decode cX8_atom1 5 = .ok (.invokevirtual 203, 3) := dk_182 0 203 (dk_at dksX8_atom1_0 5 rfl rfl)
theorem dX8_atom1_8 : decode cX8_atom1 8 = .ok (.ifCond .eq 29, 3) := dk_153 0 29 (dk_at dksX8_atom1_0 8 rfl rfl)
theorem dX8_atom1_11 : decode cX8_atom1 11 = .ok (.aload_n 0, 1) := dk_42 (dk_at dksX8_atom1_0 11 rfl rfl)
theorem dX8_atom1_12 : decode cX8_atom1 12 = .ok (.invokevirtual 206, 3) := dk_182 0 206 (dk_at dksX8_atom1_0 12 rfl rfl)
theorem dX8_atom1_15 : decode cX8_atom1 15 = .ok (.ifCond .eq 146, 3) := dk_153 0 146 (dk_at dksX8_atom1_0 15 rfl rfl)
theorem dX8_atom1_18 : decode cX8_atom1 18 = .ok (.aload_n 0, 1) := dk_42 (dk_at dksX8_atom1_0 18 rfl rfl)
theorem dX8_atom1_19 : decode cX8_atom1 19 = .ok (.invokevirtual 272, 3) := dk_182 1 16 (dk_at dksX8_atom1_0 19 rfl rfl)
theorem dX8_atom1_22 : decode cX8_atom1 22 = .ok (.ineg, 1) := dk_116 (dk_at dksX8_atom1_0 22 rfl rfl)
theorem dX8_atom1_23 : decode cX8_atom1 23 = .ok (.istore_n 1, 1) := dk_60 (dk_at dksX8_atom1_0 23 rfl rfl)
theorem dX8_atom1_24 : decode cX8_atom1 24 = .ok (.aload_n 0, 1) := dk_42 (dk_at dksX8_atom1_1 0 rfl rfl)
theorem dX8_atom1_25 : decode cX8_atom1 25 = .ok (.dup, 1) := dk_89 (dk_at dksX8_atom1_1 1 rfl rfl)
theorem dX8_atom1_26 : decode cX8_atom1 26 = .ok (.getfield 172, 3) := dk_180 0 172 (dk_at dksX8_atom1_1 2 rfl rfl)
theorem dX8_atom1_29 : decode cX8_atom1 29 = .ok (.iconst 1, 1) := dk_4 (dk_at dksX8_atom1_1 5 rfl rfl)
theorem dX8_atom1_30 : decode cX8_atom1 30 = .ok (.isub, 1) := dk_100 (dk_at dksX8_atom1_1 6 rfl rfl)
theorem dX8_atom1_31 : decode cX8_atom1 31 = .ok (.putfield 172, 3) := dk_181 0 172 (dk_at dksX8_atom1_1 7 rfl rfl)
theorem dX8_atom1_34 : decode cX8_atom1 34 = .ok (.goto 127, 3) := dk_167 0 127 (dk_at dksX8_atom1_1 10 rfl rfl)
theorem dX8_atom1_37 : decode cX8_atom1 37 = .ok (.aload_n 0, 1) := dk_42 (dk_at dksX8_atom1_1 13 rfl rfl)
theorem dX8_atom1_38 : decode cX8_atom1 38 = .ok (.bipush 40, 2) := dk_16 40 (dk_at dksX8_atom1_1 14 rfl rfl)
theorem dX8_atom1_40 : decode cX8_atom1 40 = .ok (.invokevirtual 203, 3) := dk_182 0 203 (dk_at dksX8_atom1_1 16 rfl rfl)
theorem dX8_atom1_43 : decode cX8_atom1 43 = .ok (.ifCond .eq 52, 3) := dk_153 0 52 (dk_at dksX8_atom1_1 19 rfl rfl)
theorem dX8_atom1_46 : decode cX8_atom1 46 = .ok (.aload_n 0, 1) := dk_42 (dk_at dksX8_atom1_1 22 rfl rfl)
theorem dX8_atom1_47 : decode cX8_atom1 47 = .ok (.invokevirtual 206, 3) := dk_182 0 206 (dk_at dksX8_atom1_2 0 rfl rfl)
theorem dX8_atom1_50 : decode cX8_atom1 50 = .ok (.ifCond .eq 111, 3) := dk_153 0 111 (dk_at dksX8_atom1_2 3 rfl rfl)
theorem dX8_atom1_53 : decode cX8_atom1 53 = .ok (.aload_n 0, 1) := dk_42 (dk_at dksX8_atom1_2 6 rfl rfl)
theorem dX8_atom1_54 : decode cX8_atom1 54 = .ok (.invokevirtual 287, 3) := dk_182 1 31 (dk_at dksX8_atom1_2 7 rfl rfl)
theorem dX8_atom1_57 : decode cX8_atom1 57 = .ok (.istore_n 1, 1) := dk_60 (dk_at dksX8_atom1_2 10 rfl rfl)
theorem dX8_atom1_58 : decode cX8_atom1 58 = .ok (.aload_n 0, 1) := dk_42 (dk_at dksX8_atom1_2 11 rfl rfl)
theorem dX8_atom1_59 : decode cX8_atom1 59 = .ok (.bipush 41, 2) := dk_16 41 (dk_at dksX8_atom1_2 12 rfl rfl)
theorem dX8_atom1_61 : decode cX8_atom1 61 = .ok (.invokevirtual 203, 3) := dk_182 0 203 (dk_at dksX8_atom1_2 14 rfl rfl)
theorem dX8_atom1_64 : decode cX8_atom1 64 = .ok (.ifCond .ne 7, 3) := dk_154 0 7 (dk_at dksX8_atom1_2 17 rfl rfl)
theorem dX8_atom1_67 : decode cX8_atom1 67 = .ok (.aload_n 0, 1) := dk_42 (dk_at dksX8_atom1_2 20 rfl rfl)
theorem dX8_atom1_68 : decode cX8_atom1 68 = .ok (.invokevirtual 175, 3) := dk_182 0 175 (dk_at dksX8_atom1_2 21 rfl rfl)
theorem dX8_atom1_71 : decode cX8_atom1 71 = .ok (.aload_n 0, 1) := dk_42 (dk_at dksX8_atom1_3 0 rfl rfl)
theorem dX8_atom1_72 : decode cX8_atom1 72 = .ok (.dup, 1) := dk_89 (dk_at dksX8_atom1_3 1 rfl rfl)
theorem dX8_atom1_73 : decode cX8_atom1 73 = .ok (.getfield 172, 3) := dk_180 0 172 (dk_at dksX8_atom1_3 2 rfl rfl)
theorem dX8_atom1_76 : decode cX8_atom1 76 = .ok (.iconst 1, 1) := dk_4 (dk_at dksX8_atom1_3 5 rfl rfl)
theorem dX8_atom1_77 : decode cX8_atom1 77 = .ok (.isub, 1) := dk_100 (dk_at dksX8_atom1_3 6 rfl rfl)
theorem dX8_atom1_78 : decode cX8_atom1 78 = .ok (.putfield 172, 3) := dk_181 0 172 (dk_at dksX8_atom1_3 7 rfl rfl)
theorem dX8_atom1_81 : decode cX8_atom1 81 = .ok (.aload_n 0, 1) := dk_42 (dk_at dksX8_atom1_3 10 rfl rfl)
theorem dX8_atom1_82 : decode cX8_atom1 82 = .ok (.getfield 161, 3) := dk_180 0 161 (dk_at dksX8_atom1_3 11 rfl rfl)
theorem dX8_atom1_85 : decode cX8_atom1 85 = .ok (.ifCond .ne 76, 3) := dk_154 0 76 (dk_at dksX8_atom1_3 14 rfl rfl)
theorem dX8_atom1_88 : decode cX8_atom1 88 = .ok (.aload_n 0, 1) := dk_42 (dk_at dksX8_atom1_3 17 rfl rfl)
theorem dX8_atom1_89 : decode cX8_atom1 89 = .ok (.invokevirtual 178, 3) := dk_182 0 178 (dk_at dksX8_atom1_3 18 rfl rfl)
theorem dX8_atom1_92 : decode cX8_atom1 92 = .ok (.goto 69, 3) := dk_167 0 69 (dk_at dksX8_atom1_3 21 rfl rfl)
theorem dX8_atom1_95 : decode cX8_atom1 95 = .ok (.aload_n 0, 1) := dk_42 (dk_at dksX8_atom1_4 0 rfl rfl)
theorem dX8_atom1_96 : decode cX8_atom1 96 = .ok (.getfield 161, 3) := dk_180 0 161 (dk_at dksX8_atom1_4 1 rfl rfl)
theorem dX8_atom1_99 : decode cX8_atom1 99 = .ok (.ifCond .ne 24, 3) := dk_154 0 24 (dk_at dksX8_atom1_4 4 rfl rfl)
theorem dX8_atom1_102 : decode cX8_atom1 102 = .ok (.aload_n 0, 1) := dk_42 (dk_at dksX8_atom1_4 7 rfl rfl)
theorem dX8_atom1_103 : decode cX8_atom1 103 = .ok (.getfield 144, 3) := dk_180 0 144 (dk_at dksX8_atom1_4 8 rfl rfl)
theorem dX8_atom1_106 : decode cX8_atom1 106 = .ok (.iconst 2, 1) := dk_5 (dk_at dksX8_atom1_4 11 rfl rfl)
theorem dX8_atom1_107 : decode cX8_atom1 107 = .ok (.if_icmp .ne 16, 3) := dk_160 0 16 (dk_at dksX8_atom1_4 12 rfl rfl)
theorem dX8_atom1_110 : decode cX8_atom1 110 = .ok (.aload_n 0, 1) := dk_42 (dk_at dksX8_atom1_4 15 rfl rfl)
theorem dX8_atom1_111 : decode cX8_atom1 111 = .ok (.getfield 155, 3) := dk_180 0 155 (dk_at dksX8_atom1_4 16 rfl rfl)
theorem dX8_atom1_114 : decode cX8_atom1 114 = .ok (.l2i, 1) := dk_136 (dk_at dksX8_atom1_4 19 rfl rfl)
theorem dX8_atom1_115 : decode cX8_atom1 115 = .ok (.istore_n 1, 1) := dk_60 (dk_at dksX8_atom1_4 20 rfl rfl)
theorem dX8_atom1_116 : decode cX8_atom1 116 = .ok (.aload_n 0, 1) := dk_42 (dk_at dksX8_atom1_4 21 rfl rfl)
theorem dX8_atom1_117 : decode cX8_atom1 117 = .ok (.invokevirtual 178, 3) := dk_182 0 178 (dk_at dksX8_atom1_5 0 rfl rfl)
theorem dX8_atom1_120 : decode cX8_atom1 120 = .ok (.goto 41, 3) := dk_167 0 41 (dk_at dksX8_atom1_5 3 rfl rfl)
theorem dX8_atom1_123 : decode cX8_atom1 123 = .ok (.aload_n 0, 1) := dk_42 (dk_at dksX8_atom1_5 6 rfl rfl)
theorem dX8_atom1_124 : decode cX8_atom1 124 = .ok (.getfield 161, 3) := dk_180 0 161 (dk_at dksX8_atom1_5 7 rfl rfl)
theorem dX8_atom1_127 : decode cX8_atom1 127 = .ok (.ifCond .ne 30, 3) := dk_154 0 30 (dk_at dksX8_atom1_5 10 rfl rfl)
theorem dX8_atom1_130 : decode cX8_atom1 130 = .ok (.aload_n 0, 1) := dk_42 (dk_at dksX8_atom1_5 13 rfl rfl)
theorem dX8_atom1_131 : decode cX8_atom1 131 = .ok (.getfield 144, 3) := dk_180 0 144 (dk_at dksX8_atom1_5 14 rfl rfl)
theorem dX8_atom1_134 : decode cX8_atom1 134 = .ok (.iconst 1, 1) := dk_4 (dk_at dksX8_atom1_5 17 rfl rfl)
theorem dX8_atom1_135 : decode cX8_atom1 135 = .ok (.if_icmp .ne 22, 3) := dk_160 0 22 (dk_at dksX8_atom1_5 18 rfl rfl)
theorem dX8_atom1_138 : decode cX8_atom1 138 = .ok (.aload_n 0, 1) := dk_42 (dk_at dksX8_atom1_5 21 rfl rfl)
theorem dX8_atom1_139 : decode cX8_atom1 139 = .ok (.invokevirtual 210, 3) := dk_182 0 210 (dk_at dksX8_atom1_6 0 rfl rfl)
theorem dX8_atom1_142 : decode cX8_atom1 142 = .ok (.istore_n 1, 1) := dk_60 (dk_at dksX8_atom1_6 3 rfl rfl)
theorem dX8_atom1_143 : decode cX8_atom1 143 = .ok (.aload_n 0, 1) := dk_42 (dk_at dksX8_atom1_6 4 rfl rfl)
theorem dX8_atom1_144 : decode cX8_atom1 144 = .ok (.getfield 161, 3) := dk_180 0 161 (dk_at dksX8_atom1_6 5 rfl rfl)
theorem dX8_atom1_147 : decode cX8_atom1 147 = .ok (.ifCond .ne 14, 3) := dk_154 0 14 (dk_at dksX8_atom1_6 8 rfl rfl)
theorem dX8_atom1_150 : decode cX8_atom1 150 = .ok (.aload_n 0, 1) := dk_42 (dk_at dksX8_atom1_6 11 rfl rfl)
theorem dX8_atom1_151 : decode cX8_atom1 151 = .ok (.invokevirtual 178, 3) := dk_182 0 178 (dk_at dksX8_atom1_6 12 rfl rfl)
theorem dX8_atom1_154 : decode cX8_atom1 154 = .ok (.goto 7, 3) := dk_167 0 7 (dk_at dksX8_atom1_6 15 rfl rfl)
theorem dX8_atom1_157 : decode cX8_atom1 157 = .ok (.aload_n 0, 1) := dk_42 (dk_at dksX8_atom1_6 18 rfl rfl)
theorem dX8_atom1_158 : decode cX8_atom1 158 = .ok (.invokevirtual 175, 3) := dk_182 0 175 (dk_at dksX8_atom1_6 19 rfl rfl)
theorem dX8_atom1_161 : decode cX8_atom1 161 = .ok (.iload_n 1, 1) := dk_27 (dk_at dksX8_atom1_6 22 rfl rfl)
theorem dX8_atom1_162 : decode cX8_atom1 162 = .ok (.ireturn, 1) := dk_172 (dk_at dksX8_atom1_6 23 rfl rfl)
abbrev cX8_either2 : ByteArray := prog_16_method_49_code
def yX8_either2 : MethodName := ⟨RX8, "either2", "()I"⟩
def dkwX8_either2_2 : List UInt8 := [167, 255, 216, 27, 172]
abbrev dktX8_either2_2 : List UInt8 := dkwX8_either2_2 ++ []
def dkwX8_either2_1 : List UInt8 := [182, 0, 178, 42, 182, 1, 28, 61, 27, 154, 0, 7, 28, 153, 0, 7, 4, 167, 0, 4, 3, 60]
abbrev dktX8_either2_1 : List UInt8 := dkwX8_either2_1 ++ dktX8_either2_2
def dkwX8_either2_0 : List UInt8 := [42, 182, 1, 28, 60, 42, 16, 111, 16, 114, 3, 3, 3, 3, 3, 3, 182, 0, 181, 153, 0, 29, 42]
abbrev dktX8_either2_0 : List UInt8 := dkwX8_either2_0 ++ dktX8_either2_1
theorem dksX8_either2_0 : cX8_either2.data.toList.drop 0 = dktX8_either2_0 := by decide +kernel
theorem dksX8_either2_1 : cX8_either2.data.toList.drop 23 = dktX8_either2_1 := dk_seg dksX8_either2_0 23 rfl rfl
theorem dksX8_either2_2 : cX8_either2.data.toList.drop 45 = dktX8_either2_2 := dk_seg dksX8_either2_1 22 rfl rfl
theorem dX8_either2_0 : decode cX8_either2 0 = .ok (.aload_n 0, 1) := dk_42 (dk_at dksX8_either2_0 0 rfl rfl)
theorem dX8_either2_1 : decode cX8_either2 1 = .ok (.invokevirtual 284, 3) := dk_182 1 28 (dk_at dksX8_either2_0 1 rfl rfl)
theorem dX8_either2_4 : decode cX8_either2 4 = .ok (.istore_n 1, 1) := dk_60 (dk_at dksX8_either2_0 4 rfl rfl)
theorem dX8_either2_5 : decode cX8_either2 5 = .ok (.aload_n 0, 1) := dk_42 (dk_at dksX8_either2_0 5 rfl rfl)
theorem dX8_either2_6 : decode cX8_either2 6 = .ok (.bipush 111, 2) := dk_16 111 (dk_at dksX8_either2_0 6 rfl rfl)
theorem dX8_either2_8 : decode cX8_either2 8 = .ok (.bipush 114, 2) := dk_16 114 (dk_at dksX8_either2_0 8 rfl rfl)
theorem dX8_either2_10 : decode cX8_either2 10 = .ok (.iconst 0, 1) := dk_3 (dk_at dksX8_either2_0 10 rfl rfl)
theorem dX8_either2_11 : decode cX8_either2 11 = .ok (.iconst 0, 1) := dk_3 (dk_at dksX8_either2_0 11 rfl rfl)
theorem dX8_either2_12 : decode cX8_either2 12 = .ok (.iconst 0, 1) := dk_3 (dk_at dksX8_either2_0 12 rfl rfl)
theorem dX8_either2_13 : decode cX8_either2 13 = .ok (.iconst 0, 1) := dk_3 (dk_at dksX8_either2_0 13 rfl rfl)
theorem dX8_either2_14 : decode cX8_either2 14 = .ok (.iconst 0, 1) := dk_3 (dk_at dksX8_either2_0 14 rfl rfl)
theorem dX8_either2_15 : decode cX8_either2 15 = .ok (.iconst 0, 1) := dk_3 (dk_at dksX8_either2_0 15 rfl rfl)
theorem dX8_either2_16 : decode cX8_either2 16 = .ok (.invokevirtual 181, 3) := dk_182 0 181 (dk_at dksX8_either2_0 16 rfl rfl)
theorem dX8_either2_19 : decode cX8_either2 19 = .ok (.ifCond .eq 29, 3) := dk_153 0 29 (dk_at dksX8_either2_0 19 rfl rfl)
theorem dX8_either2_22 : decode cX8_either2 22 = .ok (.aload_n 0, 1) := dk_42 (dk_at dksX8_either2_0 22 rfl rfl)
theorem dX8_either2_23 : decode cX8_either2 23 = .ok (.invokevirtual 178, 3) := dk_182 0 178 (dk_at dksX8_either2_1 0 rfl rfl)
theorem dX8_either2_26 : decode cX8_either2 26 = .ok (.aload_n 0, 1) := dk_42 (dk_at dksX8_either2_1 3 rfl rfl)
theorem dX8_either2_27 : decode cX8_either2 27 = .ok (.invokevirtual 284, 3) := dk_182 1 28 (dk_at dksX8_either2_1 4 rfl rfl)
theorem dX8_either2_30 : decode cX8_either2 30 = .ok (.istore_n 2, 1) := dk_61 (dk_at dksX8_either2_1 7 rfl rfl)
theorem dX8_either2_31 : decode cX8_either2 31 = .ok (.iload_n 1, 1) := dk_27 (dk_at dksX8_either2_1 8 rfl rfl)
theorem dX8_either2_32 : decode cX8_either2 32 = .ok (.ifCond .ne 7, 3) := dk_154 0 7 (dk_at dksX8_either2_1 9 rfl rfl)
theorem dX8_either2_35 : decode cX8_either2 35 = .ok (.iload_n 2, 1) := dk_28 (dk_at dksX8_either2_1 12 rfl rfl)
theorem dX8_either2_36 : decode cX8_either2 36 = .ok (.ifCond .eq 7, 3) := dk_153 0 7 (dk_at dksX8_either2_1 13 rfl rfl)
theorem dX8_either2_39 : decode cX8_either2 39 = .ok (.iconst 1, 1) := dk_4 (dk_at dksX8_either2_1 16 rfl rfl)
theorem dX8_either2_40 : decode cX8_either2 40 = .ok (.goto 4, 3) := dk_167 0 4 (dk_at dksX8_either2_1 17 rfl rfl)
theorem dX8_either2_43 : decode cX8_either2 43 = .ok (.iconst 0, 1) := dk_3 (dk_at dksX8_either2_1 20 rfl rfl)
theorem dX8_either2_44 : decode cX8_either2 44 = .ok (.istore_n 1, 1) := dk_60 (dk_at dksX8_either2_1 21 rfl rfl)
theorem dX8_either2_45 : decode cX8_either2 45 = .ok (.goto (-40), 3) := dk_167 255 216 (dk_at dksX8_either2_2 0 rfl rfl)
theorem dX8_either2_48 : decode cX8_either2 48 = .ok (.iload_n 1, 1) := dk_27 (dk_at dksX8_either2_2 3 rfl rfl)
theorem dX8_either2_49 : decode cX8_either2 49 = .ok (.ireturn, 1) := dk_172 (dk_at dksX8_either2_2 4 rfl rfl)
abbrev cX8_both2 : ByteArray := prog_16_method_48_code
def yX8_both2 : MethodName := ⟨RX8, "both2", "()I"⟩
def dkwX8_both2_2 : List UInt8 := [167, 255, 215, 27, 172]
abbrev dktX8_both2_2 : List UInt8 := dkwX8_both2_2 ++ []
def dkwX8_both2_1 : List UInt8 := [182, 0, 178, 42, 182, 1, 25, 61, 27, 153, 0, 11, 28, 153, 0, 7, 4, 167, 0, 4, 3, 60]
abbrev dktX8_both2_1 : List UInt8 := dkwX8_both2_1 ++ dktX8_both2_2
def dkwX8_both2_0 : List UInt8 := [42, 182, 1, 25, 60, 42, 16, 97, 16, 110, 16, 100, 3, 3, 3, 3, 3, 182, 0, 181, 153, 0, 29, 42]
abbrev dktX8_both2_0 : List UInt8 := dkwX8_both2_0 ++ dktX8_both2_1
theorem dksX8_both2_0 : cX8_both2.data.toList.drop 0 = dktX8_both2_0 := by decide +kernel
theorem dksX8_both2_1 : cX8_both2.data.toList.drop 24 = dktX8_both2_1 := dk_seg dksX8_both2_0 24 rfl rfl
theorem dksX8_both2_2 : cX8_both2.data.toList.drop 46 = dktX8_both2_2 := dk_seg dksX8_both2_1 22 rfl rfl
theorem dX8_both2_0 : decode cX8_both2 0 = .ok (.aload_n 0, 1) := dk_42 (dk_at dksX8_both2_0 0 rfl rfl)
theorem dX8_both2_1 : decode cX8_both2 1 = .ok (.invokevirtual 281, 3) := dk_182 1 25 (dk_at dksX8_both2_0 1 rfl rfl)
theorem dX8_both2_4 : decode cX8_both2 4 = .ok (.istore_n 1, 1) := dk_60 (dk_at dksX8_both2_0 4 rfl rfl)
theorem dX8_both2_5 : decode cX8_both2 5 = .ok (.aload_n 0, 1) := dk_42 (dk_at dksX8_both2_0 5 rfl rfl)
theorem dX8_both2_6 : decode cX8_both2 6 = .ok (.bipush 97, 2) := dk_16 97 (dk_at dksX8_both2_0 6 rfl rfl)
theorem dX8_both2_8 : decode cX8_both2 8 = .ok (.bipush 110, 2) := dk_16 110 (dk_at dksX8_both2_0 8 rfl rfl)
theorem dX8_both2_10 : decode cX8_both2 10 = .ok (.bipush 100, 2) := dk_16 100 (dk_at dksX8_both2_0 10 rfl rfl)
theorem dX8_both2_12 : decode cX8_both2 12 = .ok (.iconst 0, 1) := dk_3 (dk_at dksX8_both2_0 12 rfl rfl)
theorem dX8_both2_13 : decode cX8_both2 13 = .ok (.iconst 0, 1) := dk_3 (dk_at dksX8_both2_0 13 rfl rfl)
theorem dX8_both2_14 : decode cX8_both2 14 = .ok (.iconst 0, 1) := dk_3 (dk_at dksX8_both2_0 14 rfl rfl)
theorem dX8_both2_15 : decode cX8_both2 15 = .ok (.iconst 0, 1) := dk_3 (dk_at dksX8_both2_0 15 rfl rfl)
theorem dX8_both2_16 : decode cX8_both2 16 = .ok (.iconst 0, 1) := dk_3 (dk_at dksX8_both2_0 16 rfl rfl)
theorem dX8_both2_17 : decode cX8_both2 17 = .ok (.invokevirtual 181, 3) := dk_182 0 181 (dk_at dksX8_both2_0 17 rfl rfl)
theorem dX8_both2_20 : decode cX8_both2 20 = .ok (.ifCond .eq 29, 3) := dk_153 0 29 (dk_at dksX8_both2_0 20 rfl rfl)
theorem dX8_both2_23 : decode cX8_both2 23 = .ok (.aload_n 0, 1) := dk_42 (dk_at dksX8_both2_0 23 rfl rfl)
theorem dX8_both2_24 : decode cX8_both2 24 = .ok (.invokevirtual 178, 3) := dk_182 0 178 (dk_at dksX8_both2_1 0 rfl rfl)
theorem dX8_both2_27 : decode cX8_both2 27 = .ok (.aload_n 0, 1) := dk_42 (dk_at dksX8_both2_1 3 rfl rfl)
theorem dX8_both2_28 : decode cX8_both2 28 = .ok (.invokevirtual 281, 3) := dk_182 1 25 (dk_at dksX8_both2_1 4 rfl rfl)
theorem dX8_both2_31 : decode cX8_both2 31 = .ok (.istore_n 2, 1) := dk_61 (dk_at dksX8_both2_1 7 rfl rfl)
theorem dX8_both2_32 : decode cX8_both2 32 = .ok (.iload_n 1, 1) := dk_27 (dk_at dksX8_both2_1 8 rfl rfl)
theorem dX8_both2_33 : decode cX8_both2 33 = .ok (.ifCond .eq 11, 3) := dk_153 0 11 (dk_at dksX8_both2_1 9 rfl rfl)
theorem dX8_both2_36 : decode cX8_both2 36 = .ok (.iload_n 2, 1) := dk_28 (dk_at dksX8_both2_1 12 rfl rfl)
theorem dX8_both2_37 : decode cX8_both2 37 = .ok (.ifCond .eq 7, 3) := dk_153 0 7 (dk_at dksX8_both2_1 13 rfl rfl)
theorem dX8_both2_40 : decode cX8_both2 40 = .ok (.iconst 1, 1) := dk_4 (dk_at dksX8_both2_1 16 rfl rfl)
theorem dX8_both2_41 : decode cX8_both2 41 = .ok (.goto 4, 3) := dk_167 0 4 (dk_at dksX8_both2_1 17 rfl rfl)
theorem dX8_both2_44 : decode cX8_both2 44 = .ok (.iconst 0, 1) := dk_3 (dk_at dksX8_both2_1 20 rfl rfl)
theorem dX8_both2_45 : decode cX8_both2 45 = .ok (.istore_n 1, 1) := dk_60 (dk_at dksX8_both2_1 21 rfl rfl)
theorem dX8_both2_46 : decode cX8_both2 46 = .ok (.goto (-41), 3) := dk_167 255 215 (dk_at dksX8_both2_2 0 rfl rfl)
theorem dX8_both2_49 : decode cX8_both2 49 = .ok (.iload_n 1, 1) := dk_27 (dk_at dksX8_both2_2 3 rfl rfl)
theorem dX8_both2_50 : decode cX8_both2 50 = .ok (.ireturn, 1) := dk_172 (dk_at dksX8_both2_2 4 rfl rfl)
abbrev cX8_added0 : ByteArray := prog_16_method_58_code
def yX8_added0 : MethodName := ⟨RX8, "added0", "()I"⟩
def dkwX8_added0_2 : List UInt8 := [62, 28, 153, 0, 9, 27, 29, 96, 167, 0, 6, 27, 29, 100, 60, 167, 255, 198, 27, 172]
abbrev dktX8_added0_2 : List UInt8 := dkwX8_added0_2 ++ []
def dkwX8_added0_1 : List UInt8 := [180, 0, 155, 20, 0, 220, 148, 154, 0, 7, 4, 167, 0, 4, 3, 61, 42, 182, 0, 178, 42, 182, 1, 55]
abbrev dktX8_added0_1 : List UInt8 := dkwX8_added0_1 ++ dktX8_added0_2
def dkwX8_added0_0 : List UInt8 := [42, 182, 1, 55, 60, 42, 16, 43, 182, 0, 203, 154, 0, 12, 42, 16, 45, 182, 0, 203, 153, 0, 46, 42]
abbrev dktX8_added0_0 : List UInt8 := dkwX8_added0_0 ++ dktX8_added0_1
theorem dksX8_added0_0 : cX8_added0.data.toList.drop 0 = dktX8_added0_0 := by decide +kernel
theorem dksX8_added0_1 : cX8_added0.data.toList.drop 24 = dktX8_added0_1 := dk_seg dksX8_added0_0 24 rfl rfl
theorem dksX8_added0_2 : cX8_added0.data.toList.drop 48 = dktX8_added0_2 := dk_seg dksX8_added0_1 24 rfl rfl
theorem dX8_added0_0 : decode cX8_added0 0 = .ok (.aload_n 0, 1) := dk_42 (dk_at dksX8_added0_0 0 rfl rfl)
theorem dX8_added0_1 : decode cX8_added0 1 = .ok (.invokevirtual 311, 3) := dk_182 1 55 (dk_at dksX8_added0_0 1 rfl rfl)
theorem dX8_added0_4 : decode cX8_added0 4 = .ok (.istore_n 1, 1) := dk_60 (dk_at dksX8_added0_0 4 rfl rfl)
theorem dX8_added0_5 : decode cX8_added0 5 = .ok (.aload_n 0, 1) := dk_42 (dk_at dksX8_added0_0 5 rfl rfl)
theorem dX8_added0_6 : decode cX8_added0 6 = .ok (.bipush 43, 2) := dk_16 43 (dk_at dksX8_added0_0 6 rfl rfl)
theorem dX8_added0_8 : decode cX8_added0 8 = .ok (.invokevirtual 203, 3) := dk_182 0 203 (dk_at dksX8_added0_0 8 rfl rfl)
theorem dX8_added0_11 : decode cX8_added0 11 = .ok (.ifCond .ne 12, 3) := dk_154 0 12 (dk_at dksX8_added0_0 11 rfl rfl)
theorem dX8_added0_14 : decode cX8_added0 14 = .ok (.aload_n 0, 1) := dk_42 (dk_at dksX8_added0_0 14 rfl rfl)
theorem dX8_added0_15 : decode cX8_added0 15 = .ok (.bipush 45, 2) := dk_16 45 (dk_at dksX8_added0_0 15 rfl rfl)
theorem dX8_added0_17 : decode cX8_added0 17 = .ok (.invokevirtual 203, 3) := dk_182 0 203 (dk_at dksX8_added0_0 17 rfl rfl)
theorem dX8_added0_20 : decode cX8_added0 20 = .ok (.ifCond .eq 46, 3) := dk_153 0 46 (dk_at dksX8_added0_0 20 rfl rfl)
theorem dX8_added0_23 : decode cX8_added0 23 = .ok (.aload_n 0, 1) := dk_42 (dk_at dksX8_added0_0 23 rfl rfl)
theorem dX8_added0_24 : decode cX8_added0 24 = .ok (.getfield 155, 3) := dk_180 0 155 (dk_at dksX8_added0_1 0 rfl rfl)
theorem dX8_added0_27 : decode cX8_added0 27 = .ok (.ldc2_w 220, 3) := dk_20 0 220 (dk_at dksX8_added0_1 3 rfl rfl)
theorem dX8_added0_30 : decode cX8_added0 30 = .ok (.lcmp, 1) := dk_148 (dk_at dksX8_added0_1 6 rfl rfl)
theorem dX8_added0_31 : decode cX8_added0 31 = .ok (.ifCond .ne 7, 3) := dk_154 0 7 (dk_at dksX8_added0_1 7 rfl rfl)
theorem dX8_added0_34 : decode cX8_added0 34 = .ok (.iconst 1, 1) := dk_4 (dk_at dksX8_added0_1 10 rfl rfl)
theorem dX8_added0_35 : decode cX8_added0 35 = .ok (.goto 4, 3) := dk_167 0 4 (dk_at dksX8_added0_1 11 rfl rfl)
theorem dX8_added0_38 : decode cX8_added0 38 = .ok (.iconst 0, 1) := dk_3 (dk_at dksX8_added0_1 14 rfl rfl)
theorem dX8_added0_39 : decode cX8_added0 39 = .ok (.istore_n 2, 1) := dk_61 (dk_at dksX8_added0_1 15 rfl rfl)
theorem dX8_added0_40 : decode cX8_added0 40 = .ok (.aload_n 0, 1) := dk_42 (dk_at dksX8_added0_1 16 rfl rfl)
theorem dX8_added0_41 : decode cX8_added0 41 = .ok (.invokevirtual 178, 3) := dk_182 0 178 (dk_at dksX8_added0_1 17 rfl rfl)
theorem dX8_added0_44 : decode cX8_added0 44 = .ok (.aload_n 0, 1) := dk_42 (dk_at dksX8_added0_1 20 rfl rfl)
theorem dX8_added0_45 : decode cX8_added0 45 = .ok (.invokevirtual 311, 3) := dk_182 1 55 (dk_at dksX8_added0_1 21 rfl rfl)
theorem dX8_added0_48 : decode cX8_added0 48 = .ok (.istore_n 3, 1) := dk_62 (dk_at dksX8_added0_2 0 rfl rfl)
theorem dX8_added0_49 : decode cX8_added0 49 = .ok (.iload_n 2, 1) := dk_28 (dk_at dksX8_added0_2 1 rfl rfl)
theorem dX8_added0_50 : decode cX8_added0 50 = .ok (.ifCond .eq 9, 3) := dk_153 0 9 (dk_at dksX8_added0_2 2 rfl rfl)
theorem dX8_added0_53 : decode cX8_added0 53 = .ok (.iload_n 1, 1) := dk_27 (dk_at dksX8_added0_2 5 rfl rfl)
theorem dX8_added0_54 : decode cX8_added0 54 = .ok (.iload_n 3, 1) := dk_29 (dk_at dksX8_added0_2 6 rfl rfl)
theorem dX8_added0_55 : decode cX8_added0 55 = .ok (.iadd, 1) := dk_96 (dk_at dksX8_added0_2 7 rfl rfl)
theorem dX8_added0_56 : decode cX8_added0 56 = .ok (.goto 6, 3) := dk_167 0 6 (dk_at dksX8_added0_2 8 rfl rfl)
theorem dX8_added0_59 : decode cX8_added0 59 = .ok (.iload_n 1, 1) := dk_27 (dk_at dksX8_added0_2 11 rfl rfl)
theorem dX8_added0_60 : decode cX8_added0 60 = .ok (.iload_n 3, 1) := dk_29 (dk_at dksX8_added0_2 12 rfl rfl)
theorem dX8_added0_61 : decode cX8_added0 61 = .ok (.isub, 1) := dk_100 (dk_at dksX8_added0_2 13 rfl rfl)
theorem dX8_added0_62 : decode cX8_added0 62 = .ok (.istore_n 1, 1) := dk_60 (dk_at dksX8_added0_2 14 rfl rfl)
theorem dX8_added0_63 : decode cX8_added0 63 = .ok (.goto (-58), 3) := dk_167 255 198 (dk_at dksX8_added0_2 15 rfl rfl)
theorem dX8_added0_66 : decode cX8_added0 66 = .ok (.iload_n 1, 1) := dk_27 (dk_at dksX8_added0_2 18 rfl rfl)
theorem dX8_added0_67 : decode cX8_added0 67 = .ok (.ireturn, 1) := dk_172 (dk_at dksX8_added0_2 19 rfl rfl)
abbrev cX8_term0 : ByteArray := prog_16_method_57_code
def yX8_term0 : MethodName := ⟨RX8, "term0", "()I"⟩
def dkwX8_term0_1 : List UInt8 := [60, 167, 255, 236, 27, 172]
abbrev dktX8_term0_1 : List UInt8 := dkwX8_term0_1 ++ []
def dkwX8_term0_0 : List UInt8 := [42, 182, 1, 52, 60, 42, 16, 42, 182, 0, 203, 153, 0, 17, 42, 182, 0, 178, 27, 42, 182, 1, 52, 104]
abbrev dktX8_term0_0 : List UInt8 := dkwX8_term0_0 ++ dktX8_term0_1
theorem dksX8_term0_0 : cX8_term0.data.toList.drop 0 = dktX8_term0_0 := by decide +kernel
theorem dksX8_term0_1 : cX8_term0.data.toList.drop 24 = dktX8_term0_1 := dk_seg dksX8_term0_0 24 rfl rfl
theorem dX8_term0_0 : decode cX8_term0 0 = .ok (.aload_n 0, 1) := dk_42 (dk_at dksX8_term0_0 0 rfl rfl)
theorem dX8_term0_1 : decode cX8_term0 1 = .ok (.invokevirtual 308, 3) := dk_182 1 52 (dk_at dksX8_term0_0 1 rfl rfl)
theorem dX8_term0_4 : decode cX8_term0 4 = .ok (.istore_n 1, 1) := dk_60 (dk_at dksX8_term0_0 4 rfl rfl)
theorem dX8_term0_5 : decode cX8_term0 5 = .ok (.aload_n 0, 1) := dk_42 (dk_at dksX8_term0_0 5 rfl rfl)
theorem dX8_term0_6 : decode cX8_term0 6 = .ok (.bipush 42, 2) := dk_16 42 (dk_at dksX8_term0_0 6 rfl rfl)
theorem dX8_term0_8 : decode cX8_term0 8 = .ok (.invokevirtual 203, 3) := dk_182 0 203 (dk_at dksX8_term0_0 8 rfl rfl)
theorem dX8_term0_11 : decode cX8_term0 11 = .ok (.ifCond .eq 17, 3) := dk_153 0 17 (dk_at dksX8_term0_0 11 rfl rfl)
theorem dX8_term0_14 : decode cX8_term0 14 = .ok (.aload_n 0, 1) := dk_42 (dk_at dksX8_term0_0 14 rfl rfl)
theorem dX8_term0_15 : decode cX8_term0 15 = .ok (.invokevirtual 178, 3) := dk_182 0 178 (dk_at dksX8_term0_0 15 rfl rfl)
theorem dX8_term0_18 : decode cX8_term0 18 = .ok (.iload_n 1, 1) := dk_27 (dk_at dksX8_term0_0 18 rfl rfl)
theorem dX8_term0_19 : decode cX8_term0 19 = .ok (.aload_n 0, 1) := dk_42 (dk_at dksX8_term0_0 19 rfl rfl)
theorem dX8_term0_20 : decode cX8_term0 20 = .ok (.invokevirtual 308, 3) := dk_182 1 52 (dk_at dksX8_term0_0 20 rfl rfl)
theorem dX8_term0_23 : decode cX8_term0 23 = .ok (.imul, 1) := dk_104 (dk_at dksX8_term0_0 23 rfl rfl)
theorem dX8_term0_24 : decode cX8_term0 24 = .ok (.istore_n 1, 1) := dk_60 (dk_at dksX8_term0_1 0 rfl rfl)
theorem dX8_term0_25 : decode cX8_term0 25 = .ok (.goto (-20), 3) := dk_167 255 236 (dk_at dksX8_term0_1 1 rfl rfl)
theorem dX8_term0_28 : decode cX8_term0 28 = .ok (.iload_n 1, 1) := dk_27 (dk_at dksX8_term0_1 4 rfl rfl)
theorem dX8_term0_29 : decode cX8_term0 29 = .ok (.ireturn, 1) := dk_172 (dk_at dksX8_term0_1 5 rfl rfl)
abbrev cX8_atom0 : ByteArray := prog_16_method_56_code
def yX8_atom0 : MethodName := ⟨RX8, "atom0", "()I"⟩
def dkwX8_atom0_6 : List UInt8 := [182, 0, 210, 60, 42, 180, 0, 161, 154, 0, 14, 42, 182, 0, 178, 167, 0, 7, 42, 182, 0, 175, 27, 172]
abbrev dktX8_atom0_6 : List UInt8 := dkwX8_atom0_6 ++ []
def dkwX8_atom0_5 : List UInt8 := [182, 0, 178, 167, 0, 41, 42, 180, 0, 161, 154, 0, 30, 42, 180, 0, 144, 4, 160, 0, 22, 42]
abbrev dktX8_atom0_5 : List UInt8 := dkwX8_atom0_5 ++ dktX8_atom0_6
def dkwX8_atom0_4 : List UInt8 := [42, 180, 0, 161, 154, 0, 24, 42, 180, 0, 144, 5, 160, 0, 16, 42, 180, 0, 155, 136, 60, 42]
abbrev dktX8_atom0_4 : List UInt8 := dkwX8_atom0_4 ++ dktX8_atom0_5
def dkwX8_atom0_3 : List UInt8 := [42, 89, 180, 0, 172, 4, 100, 181, 0, 172, 42, 180, 0, 161, 154, 0, 76, 42, 182, 0, 178, 167, 0, 69]
abbrev dktX8_atom0_3 : List UInt8 := dkwX8_atom0_3 ++ dktX8_atom0_4
def dkwX8_atom0_2 : List UInt8 := [182, 0, 206, 153, 0, 111, 42, 182, 1, 49, 60, 42, 16, 41, 182, 0, 203, 154, 0, 7, 42, 182, 0, 175]
abbrev dktX8_atom0_2 : List UInt8 := dkwX8_atom0_2 ++ dktX8_atom0_3
def dkwX8_atom0_1 : List UInt8 := [42, 89, 180, 0, 172, 4, 100, 181, 0, 172, 167, 0, 127, 42, 16, 40, 182, 0, 203, 153, 0, 52, 42]
abbrev dktX8_atom0_1 : List UInt8 := dkwX8_atom0_1 ++ dktX8_atom0_2
def dkwX8_atom0_0 : List UInt8 := [3, 60, 42, 16, 45, 182, 0, 203, 153, 0, 29, 42, 182, 0, 206, 153, 0, 146, 42, 182, 1, 34, 116, 60]
abbrev dktX8_atom0_0 : List UInt8 := dkwX8_atom0_0 ++ dktX8_atom0_1
theorem dksX8_atom0_0 : cX8_atom0.data.toList.drop 0 = dktX8_atom0_0 := by decide +kernel
theorem dksX8_atom0_1 : cX8_atom0.data.toList.drop 24 = dktX8_atom0_1 := dk_seg dksX8_atom0_0 24 rfl rfl
theorem dksX8_atom0_2 : cX8_atom0.data.toList.drop 47 = dktX8_atom0_2 := dk_seg dksX8_atom0_1 23 rfl rfl
theorem dksX8_atom0_3 : cX8_atom0.data.toList.drop 71 = dktX8_atom0_3 := dk_seg dksX8_atom0_2 24 rfl rfl
theorem dksX8_atom0_4 : cX8_atom0.data.toList.drop 95 = dktX8_atom0_4 := dk_seg dksX8_atom0_3 24 rfl rfl
theorem dksX8_atom0_5 : cX8_atom0.data.toList.drop 117 = dktX8_atom0_5 := dk_seg dksX8_atom0_4 22 rfl rfl
theorem dksX8_atom0_6 : cX8_atom0.data.toList.drop 139 = dktX8_atom0_6 := dk_seg dksX8_atom0_5 22 rfl rfl
theorem dX8_atom0_0 : decode cX8_atom0 0 = .ok (.iconst 0, 1) := dk_3 (dk_at dksX8_atom0_0 0 rfl rfl)
theorem dX8_atom0_1 : decode cX8_atom0 1 = .ok (.istore_n 1, 1) := dk_60 (dk_at dksX8_atom0_0 1 rfl rfl)
theorem dX8_atom0_2 : decode cX8_atom0 2 = .ok (.aload_n 0, 1) := dk_42 (dk_at dksX8_atom0_0 2 rfl rfl)
theorem dX8_atom0_3 : decode cX8_atom0 3 = .ok (.bipush 45, 2) := dk_16 45 (dk_at dksX8_atom0_0 3 rfl rfl)
theorem dX8_atom0_5 : decode cX8_atom0 5 = .ok (.invokevirtual 203, 3) := dk_182 0 203 (dk_at dksX8_atom0_0 5 rfl rfl)
theorem dX8_atom0_8 : decode cX8_atom0 8 = .ok (.ifCond .eq 29, 3) := dk_153 0 29 (dk_at dksX8_atom0_0 8 rfl rfl)
theorem dX8_atom0_11 : decode cX8_atom0 11 = .ok (.aload_n 0, 1) := dk_42 (dk_at dksX8_atom0_0 11 rfl rfl)
theorem dX8_atom0_12 : decode cX8_atom0 12 = .ok (.invokevirtual 206, 3) := dk_182 0 206 (dk_at dksX8_atom0_0 12 rfl rfl)
theorem dX8_atom0_15 : decode cX8_atom0 15 = .ok (.ifCond .eq 146, 3) := dk_153 0 146 (dk_at dksX8_atom0_0 15 rfl rfl)
theorem dX8_atom0_18 : decode cX8_atom0 18 = .ok (.aload_n 0, 1) := dk_42 (dk_at dksX8_atom0_0 18 rfl rfl)
theorem dX8_atom0_19 : decode cX8_atom0 19 = .ok (.invokevirtual 290, 3) := dk_182 1 34 (dk_at dksX8_atom0_0 19 rfl rfl)
theorem dX8_atom0_22 : decode cX8_atom0 22 = .ok (.ineg, 1) := dk_116 (dk_at dksX8_atom0_0 22 rfl rfl)
theorem dX8_atom0_23 : decode cX8_atom0 23 = .ok (.istore_n 1, 1) := dk_60 (dk_at dksX8_atom0_0 23 rfl rfl)
theorem dX8_atom0_24 : decode cX8_atom0 24 = .ok (.aload_n 0, 1) := dk_42 (dk_at dksX8_atom0_1 0 rfl rfl)
theorem dX8_atom0_25 : decode cX8_atom0 25 = .ok (.dup, 1) := dk_89 (dk_at dksX8_atom0_1 1 rfl rfl)
theorem dX8_atom0_26 : decode cX8_atom0 26 = .ok (.getfield 172, 3) := dk_180 0 172 (dk_at dksX8_atom0_1 2 rfl rfl)
theorem dX8_atom0_29 : decode cX8_atom0 29 = .ok (.iconst 1, 1) := dk_4 (dk_at dksX8_atom0_1 5 rfl rfl)
theorem dX8_atom0_30 : decode cX8_atom0 30 = .ok (.isub, 1) := dk_100 (dk_at dksX8_atom0_1 6 rfl rfl)
theorem dX8_atom0_31 : decode cX8_atom0 31 = .ok (.putfield 172, 3) := dk_181 0 172 (dk_at dksX8_atom0_1 7 rfl rfl)
theorem dX8_atom0_34 : decode cX8_atom0 34 = .ok (.goto 127, 3) := dk_167 0 127 (dk_at dksX8_atom0_1 10 rfl rfl)
theorem dX8_atom0_37 : decode cX8_atom0 37 = .ok (.aload_n 0, 1) := dk_42 (dk_at dksX8_atom0_1 13 rfl rfl)
theorem dX8_atom0_38 : decode cX8_atom0 38 = .ok (.bipush 40, 2) := dk_16 40 (dk_at dksX8_atom0_1 14 rfl rfl)
theorem dX8_atom0_40 : decode cX8_atom0 40 = .ok (.invokevirtual 203, 3) := dk_182 0 203 (dk_at dksX8_atom0_1 16 rfl rfl)
theorem dX8_atom0_43 : decode cX8_atom0 43 = .ok (.ifCond .eq 52, 3) := dk_153 0 52 (dk_at dksX8_atom0_1 19 rfl rfl)
theorem dX8_atom0_46 : decode cX8_atom0 46 = .ok (.aload_n 0, 1) := dk_42 (dk_at dksX8_atom0_1 22 rfl rfl)
theorem dX8_atom0_47 : decode cX8_atom0 47 = .ok (.invokevirtual 206, 3) := dk_182 0 206 (dk_at dksX8_atom0_2 0 rfl rfl)
theorem dX8_atom0_50 : decode cX8_atom0 50 = .ok (.ifCond .eq 111, 3) := dk_153 0 111 (dk_at dksX8_atom0_2 3 rfl rfl)
theorem dX8_atom0_53 : decode cX8_atom0 53 = .ok (.aload_n 0, 1) := dk_42 (dk_at dksX8_atom0_2 6 rfl rfl)
theorem dX8_atom0_54 : decode cX8_atom0 54 = .ok (.invokevirtual 305, 3) := dk_182 1 49 (dk_at dksX8_atom0_2 7 rfl rfl)
theorem dX8_atom0_57 : decode cX8_atom0 57 = .ok (.istore_n 1, 1) := dk_60 (dk_at dksX8_atom0_2 10 rfl rfl)
theorem dX8_atom0_58 : decode cX8_atom0 58 = .ok (.aload_n 0, 1) := dk_42 (dk_at dksX8_atom0_2 11 rfl rfl)
theorem dX8_atom0_59 : decode cX8_atom0 59 = .ok (.bipush 41, 2) := dk_16 41 (dk_at dksX8_atom0_2 12 rfl rfl)
theorem dX8_atom0_61 : decode cX8_atom0 61 = .ok (.invokevirtual 203, 3) := dk_182 0 203 (dk_at dksX8_atom0_2 14 rfl rfl)
theorem dX8_atom0_64 : decode cX8_atom0 64 = .ok (.ifCond .ne 7, 3) := dk_154 0 7 (dk_at dksX8_atom0_2 17 rfl rfl)
theorem dX8_atom0_67 : decode cX8_atom0 67 = .ok (.aload_n 0, 1) := dk_42 (dk_at dksX8_atom0_2 20 rfl rfl)
theorem dX8_atom0_68 : decode cX8_atom0 68 = .ok (.invokevirtual 175, 3) := dk_182 0 175 (dk_at dksX8_atom0_2 21 rfl rfl)
theorem dX8_atom0_71 : decode cX8_atom0 71 = .ok (.aload_n 0, 1) := dk_42 (dk_at dksX8_atom0_3 0 rfl rfl)
theorem dX8_atom0_72 : decode cX8_atom0 72 = .ok (.dup, 1) := dk_89 (dk_at dksX8_atom0_3 1 rfl rfl)
theorem dX8_atom0_73 : decode cX8_atom0 73 = .ok (.getfield 172, 3) := dk_180 0 172 (dk_at dksX8_atom0_3 2 rfl rfl)
theorem dX8_atom0_76 : decode cX8_atom0 76 = .ok (.iconst 1, 1) := dk_4 (dk_at dksX8_atom0_3 5 rfl rfl)
theorem dX8_atom0_77 : decode cX8_atom0 77 = .ok (.isub, 1) := dk_100 (dk_at dksX8_atom0_3 6 rfl rfl)
theorem dX8_atom0_78 : decode cX8_atom0 78 = .ok (.putfield 172, 3) := dk_181 0 172 (dk_at dksX8_atom0_3 7 rfl rfl)
theorem dX8_atom0_81 : decode cX8_atom0 81 = .ok (.aload_n 0, 1) := dk_42 (dk_at dksX8_atom0_3 10 rfl rfl)
theorem dX8_atom0_82 : decode cX8_atom0 82 = .ok (.getfield 161, 3) := dk_180 0 161 (dk_at dksX8_atom0_3 11 rfl rfl)
theorem dX8_atom0_85 : decode cX8_atom0 85 = .ok (.ifCond .ne 76, 3) := dk_154 0 76 (dk_at dksX8_atom0_3 14 rfl rfl)
theorem dX8_atom0_88 : decode cX8_atom0 88 = .ok (.aload_n 0, 1) := dk_42 (dk_at dksX8_atom0_3 17 rfl rfl)
theorem dX8_atom0_89 : decode cX8_atom0 89 = .ok (.invokevirtual 178, 3) := dk_182 0 178 (dk_at dksX8_atom0_3 18 rfl rfl)
theorem dX8_atom0_92 : decode cX8_atom0 92 = .ok (.goto 69, 3) := dk_167 0 69 (dk_at dksX8_atom0_3 21 rfl rfl)
theorem dX8_atom0_95 : decode cX8_atom0 95 = .ok (.aload_n 0, 1) := dk_42 (dk_at dksX8_atom0_4 0 rfl rfl)
theorem dX8_atom0_96 : decode cX8_atom0 96 = .ok (.getfield 161, 3) := dk_180 0 161 (dk_at dksX8_atom0_4 1 rfl rfl)
theorem dX8_atom0_99 : decode cX8_atom0 99 = .ok (.ifCond .ne 24, 3) := dk_154 0 24 (dk_at dksX8_atom0_4 4 rfl rfl)
theorem dX8_atom0_102 : decode cX8_atom0 102 = .ok (.aload_n 0, 1) := dk_42 (dk_at dksX8_atom0_4 7 rfl rfl)
theorem dX8_atom0_103 : decode cX8_atom0 103 = .ok (.getfield 144, 3) := dk_180 0 144 (dk_at dksX8_atom0_4 8 rfl rfl)
theorem dX8_atom0_106 : decode cX8_atom0 106 = .ok (.iconst 2, 1) := dk_5 (dk_at dksX8_atom0_4 11 rfl rfl)
theorem dX8_atom0_107 : decode cX8_atom0 107 = .ok (.if_icmp .ne 16, 3) := dk_160 0 16 (dk_at dksX8_atom0_4 12 rfl rfl)
theorem dX8_atom0_110 : decode cX8_atom0 110 = .ok (.aload_n 0, 1) := dk_42 (dk_at dksX8_atom0_4 15 rfl rfl)
theorem dX8_atom0_111 : decode cX8_atom0 111 = .ok (.getfield 155, 3) := dk_180 0 155 (dk_at dksX8_atom0_4 16 rfl rfl)
theorem dX8_atom0_114 : decode cX8_atom0 114 = .ok (.l2i, 1) := dk_136 (dk_at dksX8_atom0_4 19 rfl rfl)
theorem dX8_atom0_115 : decode cX8_atom0 115 = .ok (.istore_n 1, 1) := dk_60 (dk_at dksX8_atom0_4 20 rfl rfl)
theorem dX8_atom0_116 : decode cX8_atom0 116 = .ok (.aload_n 0, 1) := dk_42 (dk_at dksX8_atom0_4 21 rfl rfl)
theorem dX8_atom0_117 : decode cX8_atom0 117 = .ok (.invokevirtual 178, 3) := dk_182 0 178 (dk_at dksX8_atom0_5 0 rfl rfl)
theorem dX8_atom0_120 : decode cX8_atom0 120 = .ok (.goto 41, 3) := dk_167 0 41 (dk_at dksX8_atom0_5 3 rfl rfl)
theorem dX8_atom0_123 : decode cX8_atom0 123 = .ok (.aload_n 0, 1) := dk_42 (dk_at dksX8_atom0_5 6 rfl rfl)
theorem dX8_atom0_124 : decode cX8_atom0 124 = .ok (.getfield 161, 3) := dk_180 0 161 (dk_at dksX8_atom0_5 7 rfl rfl)
theorem dX8_atom0_127 : decode cX8_atom0 127 = .ok (.ifCond .ne 30, 3) := dk_154 0 30 (dk_at dksX8_atom0_5 10 rfl rfl)
theorem dX8_atom0_130 : decode cX8_atom0 130 = .ok (.aload_n 0, 1) := dk_42 (dk_at dksX8_atom0_5 13 rfl rfl)
theorem dX8_atom0_131 : decode cX8_atom0 131 = .ok (.getfield 144, 3) := dk_180 0 144 (dk_at dksX8_atom0_5 14 rfl rfl)
theorem dX8_atom0_134 : decode cX8_atom0 134 = .ok (.iconst 1, 1) := dk_4 (dk_at dksX8_atom0_5 17 rfl rfl)
theorem dX8_atom0_135 : decode cX8_atom0 135 = .ok (.if_icmp .ne 22, 3) := dk_160 0 22 (dk_at dksX8_atom0_5 18 rfl rfl)
theorem dX8_atom0_138 : decode cX8_atom0 138 = .ok (.aload_n 0, 1) := dk_42 (dk_at dksX8_atom0_5 21 rfl rfl)
theorem dX8_atom0_139 : decode cX8_atom0 139 = .ok (.invokevirtual 210, 3) := dk_182 0 210 (dk_at dksX8_atom0_6 0 rfl rfl)
theorem dX8_atom0_142 : decode cX8_atom0 142 = .ok (.istore_n 1, 1) := dk_60 (dk_at dksX8_atom0_6 3 rfl rfl)
theorem dX8_atom0_143 : decode cX8_atom0 143 = .ok (.aload_n 0, 1) := dk_42 (dk_at dksX8_atom0_6 4 rfl rfl)
theorem dX8_atom0_144 : decode cX8_atom0 144 = .ok (.getfield 161, 3) := dk_180 0 161 (dk_at dksX8_atom0_6 5 rfl rfl)
theorem dX8_atom0_147 : decode cX8_atom0 147 = .ok (.ifCond .ne 14, 3) := dk_154 0 14 (dk_at dksX8_atom0_6 8 rfl rfl)
theorem dX8_atom0_150 : decode cX8_atom0 150 = .ok (.aload_n 0, 1) := dk_42 (dk_at dksX8_atom0_6 11 rfl rfl)
theorem dX8_atom0_151 : decode cX8_atom0 151 = .ok (.invokevirtual 178, 3) := dk_182 0 178 (dk_at dksX8_atom0_6 12 rfl rfl)
theorem dX8_atom0_154 : decode cX8_atom0 154 = .ok (.goto 7, 3) := dk_167 0 7 (dk_at dksX8_atom0_6 15 rfl rfl)
theorem dX8_atom0_157 : decode cX8_atom0 157 = .ok (.aload_n 0, 1) := dk_42 (dk_at dksX8_atom0_6 18 rfl rfl)
theorem dX8_atom0_158 : decode cX8_atom0 158 = .ok (.invokevirtual 175, 3) := dk_182 0 175 (dk_at dksX8_atom0_6 19 rfl rfl)
theorem dX8_atom0_161 : decode cX8_atom0 161 = .ok (.iload_n 1, 1) := dk_27 (dk_at dksX8_atom0_6 22 rfl rfl)
theorem dX8_atom0_162 : decode cX8_atom0 162 = .ok (.ireturn, 1) := dk_172 (dk_at dksX8_atom0_6 23 rfl rfl)
abbrev cX8_either1 : ByteArray := prog_16_method_55_code
def yX8_either1 : MethodName := ⟨RX8, "either1", "()I"⟩
def dkwX8_either1_2 : List UInt8 := [167, 255, 216, 27, 172]
abbrev dktX8_either1_2 : List UInt8 := dkwX8_either1_2 ++ []
def dkwX8_either1_1 : List UInt8 := [182, 0, 178, 42, 182, 1, 46, 61, 27, 154, 0, 7, 28, 153, 0, 7, 4, 167, 0, 4, 3, 60]
abbrev dktX8_either1_1 : List UInt8 := dkwX8_either1_1 ++ dktX8_either1_2
def dkwX8_either1_0 : List UInt8 := [42, 182, 1, 46, 60, 42, 16, 111, 16, 114, 3, 3, 3, 3, 3, 3, 182, 0, 181, 153, 0, 29, 42]
abbrev dktX8_either1_0 : List UInt8 := dkwX8_either1_0 ++ dktX8_either1_1
theorem dksX8_either1_0 : cX8_either1.data.toList.drop 0 = dktX8_either1_0 := by decide +kernel
theorem dksX8_either1_1 : cX8_either1.data.toList.drop 23 = dktX8_either1_1 := dk_seg dksX8_either1_0 23 rfl rfl
theorem dksX8_either1_2 : cX8_either1.data.toList.drop 45 = dktX8_either1_2 := dk_seg dksX8_either1_1 22 rfl rfl
theorem dX8_either1_0 : decode cX8_either1 0 = .ok (.aload_n 0, 1) := dk_42 (dk_at dksX8_either1_0 0 rfl rfl)
theorem dX8_either1_1 : decode cX8_either1 1 = .ok (.invokevirtual 302, 3) := dk_182 1 46 (dk_at dksX8_either1_0 1 rfl rfl)
theorem dX8_either1_4 : decode cX8_either1 4 = .ok (.istore_n 1, 1) := dk_60 (dk_at dksX8_either1_0 4 rfl rfl)
theorem dX8_either1_5 : decode cX8_either1 5 = .ok (.aload_n 0, 1) := dk_42 (dk_at dksX8_either1_0 5 rfl rfl)
theorem dX8_either1_6 : decode cX8_either1 6 = .ok (.bipush 111, 2) := dk_16 111 (dk_at dksX8_either1_0 6 rfl rfl)
theorem dX8_either1_8 : decode cX8_either1 8 = .ok (.bipush 114, 2) := dk_16 114 (dk_at dksX8_either1_0 8 rfl rfl)
theorem dX8_either1_10 : decode cX8_either1 10 = .ok (.iconst 0, 1) := dk_3 (dk_at dksX8_either1_0 10 rfl rfl)
theorem dX8_either1_11 : decode cX8_either1 11 = .ok (.iconst 0, 1) := dk_3 (dk_at dksX8_either1_0 11 rfl rfl)
theorem dX8_either1_12 : decode cX8_either1 12 = .ok (.iconst 0, 1) := dk_3 (dk_at dksX8_either1_0 12 rfl rfl)
theorem dX8_either1_13 : decode cX8_either1 13 = .ok (.iconst 0, 1) := dk_3 (dk_at dksX8_either1_0 13 rfl rfl)
theorem dX8_either1_14 : decode cX8_either1 14 = .ok (.iconst 0, 1) := dk_3 (dk_at dksX8_either1_0 14 rfl rfl)
theorem dX8_either1_15 : decode cX8_either1 15 = .ok (.iconst 0, 1) := dk_3 (dk_at dksX8_either1_0 15 rfl rfl)
theorem dX8_either1_16 : decode cX8_either1 16 = .ok (.invokevirtual 181, 3) := dk_182 0 181 (dk_at dksX8_either1_0 16 rfl rfl)
theorem dX8_either1_19 : decode cX8_either1 19 = .ok (.ifCond .eq 29, 3) := dk_153 0 29 (dk_at dksX8_either1_0 19 rfl rfl)
theorem dX8_either1_22 : decode cX8_either1 22 = .ok (.aload_n 0, 1) := dk_42 (dk_at dksX8_either1_0 22 rfl rfl)
theorem dX8_either1_23 : decode cX8_either1 23 = .ok (.invokevirtual 178, 3) := dk_182 0 178 (dk_at dksX8_either1_1 0 rfl rfl)
theorem dX8_either1_26 : decode cX8_either1 26 = .ok (.aload_n 0, 1) := dk_42 (dk_at dksX8_either1_1 3 rfl rfl)
theorem dX8_either1_27 : decode cX8_either1 27 = .ok (.invokevirtual 302, 3) := dk_182 1 46 (dk_at dksX8_either1_1 4 rfl rfl)
theorem dX8_either1_30 : decode cX8_either1 30 = .ok (.istore_n 2, 1) := dk_61 (dk_at dksX8_either1_1 7 rfl rfl)
theorem dX8_either1_31 : decode cX8_either1 31 = .ok (.iload_n 1, 1) := dk_27 (dk_at dksX8_either1_1 8 rfl rfl)
theorem dX8_either1_32 : decode cX8_either1 32 = .ok (.ifCond .ne 7, 3) := dk_154 0 7 (dk_at dksX8_either1_1 9 rfl rfl)
theorem dX8_either1_35 : decode cX8_either1 35 = .ok (.iload_n 2, 1) := dk_28 (dk_at dksX8_either1_1 12 rfl rfl)
theorem dX8_either1_36 : decode cX8_either1 36 = .ok (.ifCond .eq 7, 3) := dk_153 0 7 (dk_at dksX8_either1_1 13 rfl rfl)
theorem dX8_either1_39 : decode cX8_either1 39 = .ok (.iconst 1, 1) := dk_4 (dk_at dksX8_either1_1 16 rfl rfl)
theorem dX8_either1_40 : decode cX8_either1 40 = .ok (.goto 4, 3) := dk_167 0 4 (dk_at dksX8_either1_1 17 rfl rfl)
theorem dX8_either1_43 : decode cX8_either1 43 = .ok (.iconst 0, 1) := dk_3 (dk_at dksX8_either1_1 20 rfl rfl)
theorem dX8_either1_44 : decode cX8_either1 44 = .ok (.istore_n 1, 1) := dk_60 (dk_at dksX8_either1_1 21 rfl rfl)
theorem dX8_either1_45 : decode cX8_either1 45 = .ok (.goto (-40), 3) := dk_167 255 216 (dk_at dksX8_either1_2 0 rfl rfl)
theorem dX8_either1_48 : decode cX8_either1 48 = .ok (.iload_n 1, 1) := dk_27 (dk_at dksX8_either1_2 3 rfl rfl)
theorem dX8_either1_49 : decode cX8_either1 49 = .ok (.ireturn, 1) := dk_172 (dk_at dksX8_either1_2 4 rfl rfl)
abbrev cX8_both1 : ByteArray := prog_16_method_54_code
def yX8_both1 : MethodName := ⟨RX8, "both1", "()I"⟩
def dkwX8_both1_2 : List UInt8 := [167, 255, 215, 27, 172]
abbrev dktX8_both1_2 : List UInt8 := dkwX8_both1_2 ++ []
def dkwX8_both1_1 : List UInt8 := [182, 0, 178, 42, 182, 1, 43, 61, 27, 153, 0, 11, 28, 153, 0, 7, 4, 167, 0, 4, 3, 60]
abbrev dktX8_both1_1 : List UInt8 := dkwX8_both1_1 ++ dktX8_both1_2
def dkwX8_both1_0 : List UInt8 := [42, 182, 1, 43, 60, 42, 16, 97, 16, 110, 16, 100, 3, 3, 3, 3, 3, 182, 0, 181, 153, 0, 29, 42]
abbrev dktX8_both1_0 : List UInt8 := dkwX8_both1_0 ++ dktX8_both1_1
theorem dksX8_both1_0 : cX8_both1.data.toList.drop 0 = dktX8_both1_0 := by decide +kernel
theorem dksX8_both1_1 : cX8_both1.data.toList.drop 24 = dktX8_both1_1 := dk_seg dksX8_both1_0 24 rfl rfl
theorem dksX8_both1_2 : cX8_both1.data.toList.drop 46 = dktX8_both1_2 := dk_seg dksX8_both1_1 22 rfl rfl
theorem dX8_both1_0 : decode cX8_both1 0 = .ok (.aload_n 0, 1) := dk_42 (dk_at dksX8_both1_0 0 rfl rfl)
theorem dX8_both1_1 : decode cX8_both1 1 = .ok (.invokevirtual 299, 3) := dk_182 1 43 (dk_at dksX8_both1_0 1 rfl rfl)
theorem dX8_both1_4 : decode cX8_both1 4 = .ok (.istore_n 1, 1) := dk_60 (dk_at dksX8_both1_0 4 rfl rfl)
theorem dX8_both1_5 : decode cX8_both1 5 = .ok (.aload_n 0, 1) := dk_42 (dk_at dksX8_both1_0 5 rfl rfl)
theorem dX8_both1_6 : decode cX8_both1 6 = .ok (.bipush 97, 2) := dk_16 97 (dk_at dksX8_both1_0 6 rfl rfl)
theorem dX8_both1_8 : decode cX8_both1 8 = .ok (.bipush 110, 2) := dk_16 110 (dk_at dksX8_both1_0 8 rfl rfl)
theorem dX8_both1_10 : decode cX8_both1 10 = .ok (.bipush 100, 2) := dk_16 100 (dk_at dksX8_both1_0 10 rfl rfl)
theorem dX8_both1_12 : decode cX8_both1 12 = .ok (.iconst 0, 1) := dk_3 (dk_at dksX8_both1_0 12 rfl rfl)
theorem dX8_both1_13 : decode cX8_both1 13 = .ok (.iconst 0, 1) := dk_3 (dk_at dksX8_both1_0 13 rfl rfl)
theorem dX8_both1_14 : decode cX8_both1 14 = .ok (.iconst 0, 1) := dk_3 (dk_at dksX8_both1_0 14 rfl rfl)
theorem dX8_both1_15 : decode cX8_both1 15 = .ok (.iconst 0, 1) := dk_3 (dk_at dksX8_both1_0 15 rfl rfl)
theorem dX8_both1_16 : decode cX8_both1 16 = .ok (.iconst 0, 1) := dk_3 (dk_at dksX8_both1_0 16 rfl rfl)
theorem dX8_both1_17 : decode cX8_both1 17 = .ok (.invokevirtual 181, 3) := dk_182 0 181 (dk_at dksX8_both1_0 17 rfl rfl)
theorem dX8_both1_20 : decode cX8_both1 20 = .ok (.ifCond .eq 29, 3) := dk_153 0 29 (dk_at dksX8_both1_0 20 rfl rfl)
theorem dX8_both1_23 : decode cX8_both1 23 = .ok (.aload_n 0, 1) := dk_42 (dk_at dksX8_both1_0 23 rfl rfl)
theorem dX8_both1_24 : decode cX8_both1 24 = .ok (.invokevirtual 178, 3) := dk_182 0 178 (dk_at dksX8_both1_1 0 rfl rfl)
theorem dX8_both1_27 : decode cX8_both1 27 = .ok (.aload_n 0, 1) := dk_42 (dk_at dksX8_both1_1 3 rfl rfl)
theorem dX8_both1_28 : decode cX8_both1 28 = .ok (.invokevirtual 299, 3) := dk_182 1 43 (dk_at dksX8_both1_1 4 rfl rfl)
theorem dX8_both1_31 : decode cX8_both1 31 = .ok (.istore_n 2, 1) := dk_61 (dk_at dksX8_both1_1 7 rfl rfl)
theorem dX8_both1_32 : decode cX8_both1 32 = .ok (.iload_n 1, 1) := dk_27 (dk_at dksX8_both1_1 8 rfl rfl)
theorem dX8_both1_33 : decode cX8_both1 33 = .ok (.ifCond .eq 11, 3) := dk_153 0 11 (dk_at dksX8_both1_1 9 rfl rfl)
theorem dX8_both1_36 : decode cX8_both1 36 = .ok (.iload_n 2, 1) := dk_28 (dk_at dksX8_both1_1 12 rfl rfl)
theorem dX8_both1_37 : decode cX8_both1 37 = .ok (.ifCond .eq 7, 3) := dk_153 0 7 (dk_at dksX8_both1_1 13 rfl rfl)
theorem dX8_both1_40 : decode cX8_both1 40 = .ok (.iconst 1, 1) := dk_4 (dk_at dksX8_both1_1 16 rfl rfl)
theorem dX8_both1_41 : decode cX8_both1 41 = .ok (.goto 4, 3) := dk_167 0 4 (dk_at dksX8_both1_1 17 rfl rfl)
theorem dX8_both1_44 : decode cX8_both1 44 = .ok (.iconst 0, 1) := dk_3 (dk_at dksX8_both1_1 20 rfl rfl)
theorem dX8_both1_45 : decode cX8_both1 45 = .ok (.istore_n 1, 1) := dk_60 (dk_at dksX8_both1_1 21 rfl rfl)
theorem dX8_both1_46 : decode cX8_both1 46 = .ok (.goto (-41), 3) := dk_167 255 215 (dk_at dksX8_both1_2 0 rfl rfl)
theorem dX8_both1_49 : decode cX8_both1 49 = .ok (.iload_n 1, 1) := dk_27 (dk_at dksX8_both1_2 3 rfl rfl)
theorem dX8_both1_50 : decode cX8_both1 50 = .ok (.ireturn, 1) := dk_172 (dk_at dksX8_both1_2 4 rfl rfl)
abbrev cX8_within : ByteArray := prog_16_method_3_code
def yX8_within : MethodName := ⟨RX8, "within", "(III)I"⟩
def dkwX8_within_0 : List UInt8 := [26, 27, 162, 0, 7, 27, 167, 0, 13, 26, 28, 164, 0, 7, 28, 167, 0, 4, 26, 172]
abbrev dktX8_within_0 : List UInt8 := dkwX8_within_0 ++ []
theorem dksX8_within_0 : cX8_within.data.toList.drop 0 = dktX8_within_0 := by decide +kernel
theorem dX8_within_0 : decode cX8_within 0 = .ok (.iload_n 0, 1) := dk_26 (dk_at dksX8_within_0 0 rfl rfl)
theorem dX8_within_1 : decode cX8_within 1 = .ok (.iload_n 1, 1) := dk_27 (dk_at dksX8_within_0 1 rfl rfl)
theorem dX8_within_2 : decode cX8_within 2 = .ok (.if_icmp .ge 7, 3) := dk_162 0 7 (dk_at dksX8_within_0 2 rfl rfl)
theorem dX8_within_5 : decode cX8_within 5 = .ok (.iload_n 1, 1) := dk_27 (dk_at dksX8_within_0 5 rfl rfl)
theorem dX8_within_6 : decode cX8_within 6 = .ok (.goto 13, 3) := dk_167 0 13 (dk_at dksX8_within_0 6 rfl rfl)
theorem dX8_within_9 : decode cX8_within 9 = .ok (.iload_n 0, 1) := dk_26 (dk_at dksX8_within_0 9 rfl rfl)
theorem dX8_within_10 : decode cX8_within 10 = .ok (.iload_n 2, 1) := dk_28 (dk_at dksX8_within_0 10 rfl rfl)
theorem dX8_within_11 : decode cX8_within 11 = .ok (.if_icmp .le 7, 3) := dk_164 0 7 (dk_at dksX8_within_0 11 rfl rfl)
theorem dX8_within_14 : decode cX8_within 14 = .ok (.iload_n 2, 1) := dk_28 (dk_at dksX8_within_0 14 rfl rfl)
theorem dX8_within_15 : decode cX8_within 15 = .ok (.goto 4, 3) := dk_167 0 4 (dk_at dksX8_within_0 15 rfl rfl)
theorem dX8_within_18 : decode cX8_within 18 = .ok (.iload_n 0, 1) := dk_26 (dk_at dksX8_within_0 18 rfl rfl)
theorem dX8_within_19 : decode cX8_within 19 = .ok (.ireturn, 1) := dk_172 (dk_at dksX8_within_0 19 rfl rfl)
abbrev cX8_moodOf : ByteArray := prog_16_method_69_code
def yX8_moodOf : MethodName := ⟨RX8, "moodOf", "(IIZII)I"⟩
def dkwX8_moodOf_3 : List UInt8 := [167, 0, 5, 21, 7, 3, 17, 3, 231, 184, 1, 80, 172]
abbrev dktX8_moodOf_3 : List UInt8 := dkwX8_moodOf_3 ++ []
def dkwX8_moodOf_2 : List UInt8 := [21, 7, 42, 180, 0, 32, 6, 27, 104, 46, 96, 167, 0, 18, 21, 6, 8, 160, 0, 10, 21, 7, 5, 108]
abbrev dktX8_moodOf_2 : List UInt8 := dkwX8_moodOf_2 ++ dktX8_moodOf_3
def dkwX8_moodOf_1 : List UInt8 := [4, 159, 0, 9, 21, 6, 6, 160, 0, 10, 21, 7, 6, 100, 167, 0, 38, 21, 6, 7, 160, 0, 17]
abbrev dktX8_moodOf_1 : List UInt8 := dkwX8_moodOf_1 ++ dktX8_moodOf_2
def dkwX8_moodOf_0 : List UInt8 := [42, 180, 0, 29, 27, 46, 54, 6, 42, 4, 27, 28, 29, 21, 4, 21, 5, 182, 1, 84, 54, 7, 21, 6]
abbrev dktX8_moodOf_0 : List UInt8 := dkwX8_moodOf_0 ++ dktX8_moodOf_1
theorem dksX8_moodOf_0 : cX8_moodOf.data.toList.drop 0 = dktX8_moodOf_0 := by decide +kernel
theorem dksX8_moodOf_1 : cX8_moodOf.data.toList.drop 24 = dktX8_moodOf_1 := dk_seg dksX8_moodOf_0 24 rfl rfl
theorem dksX8_moodOf_2 : cX8_moodOf.data.toList.drop 47 = dktX8_moodOf_2 := dk_seg dksX8_moodOf_1 23 rfl rfl
theorem dksX8_moodOf_3 : cX8_moodOf.data.toList.drop 71 = dktX8_moodOf_3 := dk_seg dksX8_moodOf_2 24 rfl rfl
theorem dX8_moodOf_0 : decode cX8_moodOf 0 = .ok (.aload_n 0, 1) := dk_42 (dk_at dksX8_moodOf_0 0 rfl rfl)
theorem dX8_moodOf_1 : decode cX8_moodOf 1 = .ok (.getfield 29, 3) := dk_180 0 29 (dk_at dksX8_moodOf_0 1 rfl rfl)
theorem dX8_moodOf_4 : decode cX8_moodOf 4 = .ok (.iload_n 1, 1) := dk_27 (dk_at dksX8_moodOf_0 4 rfl rfl)
theorem dX8_moodOf_5 : decode cX8_moodOf 5 = .ok (.iaload, 1) := dk_46 (dk_at dksX8_moodOf_0 5 rfl rfl)
theorem dX8_moodOf_6 : decode cX8_moodOf 6 = .ok (.istore 6, 2) := dk_54 6 (dk_at dksX8_moodOf_0 6 rfl rfl)
theorem dX8_moodOf_8 : decode cX8_moodOf 8 = .ok (.aload_n 0, 1) := dk_42 (dk_at dksX8_moodOf_0 8 rfl rfl)
theorem dX8_moodOf_9 : decode cX8_moodOf 9 = .ok (.iconst 1, 1) := dk_4 (dk_at dksX8_moodOf_0 9 rfl rfl)
theorem dX8_moodOf_10 : decode cX8_moodOf 10 = .ok (.iload_n 1, 1) := dk_27 (dk_at dksX8_moodOf_0 10 rfl rfl)
theorem dX8_moodOf_11 : decode cX8_moodOf 11 = .ok (.iload_n 2, 1) := dk_28 (dk_at dksX8_moodOf_0 11 rfl rfl)
theorem dX8_moodOf_12 : decode cX8_moodOf 12 = .ok (.iload_n 3, 1) := dk_29 (dk_at dksX8_moodOf_0 12 rfl rfl)
theorem dX8_moodOf_13 : decode cX8_moodOf 13 = .ok (.iload 4, 2) := dk_21 4 (dk_at dksX8_moodOf_0 13 rfl rfl)
theorem dX8_moodOf_15 : decode cX8_moodOf 15 = .ok (.iload 5, 2) := dk_21 5 (dk_at dksX8_moodOf_0 15 rfl rfl)
theorem dX8_moodOf_17 : decode cX8_moodOf 17 = .ok (.invokevirtual 340, 3) := dk_182 1 84 (dk_at dksX8_moodOf_0 17 rfl rfl)
theorem dX8_moodOf_20 : decode cX8_moodOf 20 = .ok (.istore 7, 2) := dk_54 7 (dk_at dksX8_moodOf_0 20 rfl rfl)
theorem dX8_moodOf_22 : decode cX8_moodOf 22 = .ok (.iload 6, 2) := dk_21 6 (dk_at dksX8_moodOf_0 22 rfl rfl)
theorem dX8_moodOf_24 : decode cX8_moodOf 24 = .ok (.iconst 1, 1) := dk_4 (dk_at dksX8_moodOf_1 0 rfl rfl)
theorem dX8_moodOf_25 : decode cX8_moodOf 25 = .ok (.if_icmp .eq 9, 3) := dk_159 0 9 (dk_at dksX8_moodOf_1 1 rfl rfl)
theorem dX8_moodOf_28 : decode cX8_moodOf 28 = .ok (.iload 6, 2) := dk_21 6 (dk_at dksX8_moodOf_1 4 rfl rfl)
theorem dX8_moodOf_30 : decode cX8_moodOf 30 = .ok (.iconst 3, 1) := dk_6 (dk_at dksX8_moodOf_1 6 rfl rfl)
theorem dX8_moodOf_31 : decode cX8_moodOf 31 = .ok (.if_icmp .ne 10, 3) := dk_160 0 10 (dk_at dksX8_moodOf_1 7 rfl rfl)
theorem dX8_moodOf_34 : decode cX8_moodOf 34 = .ok (.iload 7, 2) := dk_21 7 (dk_at dksX8_moodOf_1 10 rfl rfl)
theorem dX8_moodOf_36 : decode cX8_moodOf 36 = .ok (.iconst 3, 1) := dk_6 (dk_at dksX8_moodOf_1 12 rfl rfl)
theorem dX8_moodOf_37 : decode cX8_moodOf 37 = .ok (.isub, 1) := dk_100 (dk_at dksX8_moodOf_1 13 rfl rfl)
theorem dX8_moodOf_38 : decode cX8_moodOf 38 = .ok (.goto 38, 3) := dk_167 0 38 (dk_at dksX8_moodOf_1 14 rfl rfl)
theorem dX8_moodOf_41 : decode cX8_moodOf 41 = .ok (.iload 6, 2) := dk_21 6 (dk_at dksX8_moodOf_1 17 rfl rfl)
theorem dX8_moodOf_43 : decode cX8_moodOf 43 = .ok (.iconst 4, 1) := dk_7 (dk_at dksX8_moodOf_1 19 rfl rfl)
theorem dX8_moodOf_44 : decode cX8_moodOf 44 = .ok (.if_icmp .ne 17, 3) := dk_160 0 17 (dk_at dksX8_moodOf_1 20 rfl rfl)
theorem dX8_moodOf_47 : decode cX8_moodOf 47 = .ok (.iload 7, 2) := dk_21 7 (dk_at dksX8_moodOf_2 0 rfl rfl)
theorem dX8_moodOf_49 : decode cX8_moodOf 49 = .ok (.aload_n 0, 1) := dk_42 (dk_at dksX8_moodOf_2 2 rfl rfl)
theorem dX8_moodOf_50 : decode cX8_moodOf 50 = .ok (.getfield 32, 3) := dk_180 0 32 (dk_at dksX8_moodOf_2 3 rfl rfl)
theorem dX8_moodOf_53 : decode cX8_moodOf 53 = .ok (.iconst 3, 1) := dk_6 (dk_at dksX8_moodOf_2 6 rfl rfl)
theorem dX8_moodOf_54 : decode cX8_moodOf 54 = .ok (.iload_n 1, 1) := dk_27 (dk_at dksX8_moodOf_2 7 rfl rfl)
theorem dX8_moodOf_55 : decode cX8_moodOf 55 = .ok (.imul, 1) := dk_104 (dk_at dksX8_moodOf_2 8 rfl rfl)
theorem dX8_moodOf_56 : decode cX8_moodOf 56 = .ok (.iaload, 1) := dk_46 (dk_at dksX8_moodOf_2 9 rfl rfl)
theorem dX8_moodOf_57 : decode cX8_moodOf 57 = .ok (.iadd, 1) := dk_96 (dk_at dksX8_moodOf_2 10 rfl rfl)
theorem dX8_moodOf_58 : decode cX8_moodOf 58 = .ok (.goto 18, 3) := dk_167 0 18 (dk_at dksX8_moodOf_2 11 rfl rfl)
theorem dX8_moodOf_61 : decode cX8_moodOf 61 = .ok (.iload 6, 2) := dk_21 6 (dk_at dksX8_moodOf_2 14 rfl rfl)
theorem dX8_moodOf_63 : decode cX8_moodOf 63 = .ok (.iconst 5, 1) := dk_8 (dk_at dksX8_moodOf_2 16 rfl rfl)
theorem dX8_moodOf_64 : decode cX8_moodOf 64 = .ok (.if_icmp .ne 10, 3) := dk_160 0 10 (dk_at dksX8_moodOf_2 17 rfl rfl)
theorem dX8_moodOf_67 : decode cX8_moodOf 67 = .ok (.iload 7, 2) := dk_21 7 (dk_at dksX8_moodOf_2 20 rfl rfl)
theorem dX8_moodOf_69 : decode cX8_moodOf 69 = .ok (.iconst 2, 1) := dk_5 (dk_at dksX8_moodOf_2 22 rfl rfl)
theorem dX8_moodOf_70 : decode cX8_moodOf 70 = .ok (.idiv, 1) := dk_108 (dk_at dksX8_moodOf_2 23 rfl rfl)
theorem dX8_moodOf_71 : decode cX8_moodOf 71 = .ok (.goto 5, 3) := dk_167 0 5 (dk_at dksX8_moodOf_3 0 rfl rfl)
theorem dX8_moodOf_74 : decode cX8_moodOf 74 = .ok (.iload 7, 2) := dk_21 7 (dk_at dksX8_moodOf_3 3 rfl rfl)
theorem dX8_moodOf_76 : decode cX8_moodOf 76 = .ok (.iconst 0, 1) := dk_3 (dk_at dksX8_moodOf_3 5 rfl rfl)
theorem dX8_moodOf_77 : decode cX8_moodOf 77 = .ok (.sipush 999, 3) := dk_17 3 231 (dk_at dksX8_moodOf_3 6 rfl rfl)
theorem dX8_moodOf_80 : decode cX8_moodOf 80 = .ok (.invokestatic 336, 3) := dk_184 1 80 (dk_at dksX8_moodOf_3 9 rfl rfl)
theorem dX8_moodOf_83 : decode cX8_moodOf 83 = .ok (.ireturn, 1) := dk_172 (dk_at dksX8_moodOf_3 12 rfl rfl)
abbrev cX8_lays : ByteArray := prog_16_method_11_code
def yX8_lays : MethodName := ⟨RX8, "lays", "(III)V"⟩
def dkwX8_lays_2 : List UInt8 := [42, 29, 181, 0, 106, 177]
abbrev dktX8_lays_2 : List UInt8 := dkwX8_lays_2 ++ []
def dkwX8_lays_1 : List UInt8 := [27, 96, 4, 100, 29, 79, 167, 0, 23, 27, 6, 160, 0, 13, 42, 180, 0, 29, 28, 29, 79, 167, 0, 8]
abbrev dktX8_lays_1 : List UInt8 := dkwX8_lays_1 ++ dktX8_lays_2
def dkwX8_lays_0 : List UInt8 := [27, 154, 0, 11, 42, 29, 181, 0, 23, 167, 0, 44, 27, 6, 162, 0, 19, 42, 180, 0, 32, 6, 28, 104]
abbrev dktX8_lays_0 : List UInt8 := dkwX8_lays_0 ++ dktX8_lays_1
theorem dksX8_lays_0 : cX8_lays.data.toList.drop 0 = dktX8_lays_0 := by decide +kernel
theorem dksX8_lays_1 : cX8_lays.data.toList.drop 24 = dktX8_lays_1 := dk_seg dksX8_lays_0 24 rfl rfl
theorem dksX8_lays_2 : cX8_lays.data.toList.drop 48 = dktX8_lays_2 := dk_seg dksX8_lays_1 24 rfl rfl
theorem dX8_lays_0 : decode cX8_lays 0 = .ok (.iload_n 1, 1) := dk_27 (dk_at dksX8_lays_0 0 rfl rfl)
theorem dX8_lays_1 : decode cX8_lays 1 = .ok (.ifCond .ne 11, 3) := dk_154 0 11 (dk_at dksX8_lays_0 1 rfl rfl)
theorem dX8_lays_4 : decode cX8_lays 4 = .ok (.aload_n 0, 1) := dk_42 (dk_at dksX8_lays_0 4 rfl rfl)
theorem dX8_lays_5 : decode cX8_lays 5 = .ok (.iload_n 3, 1) := dk_29 (dk_at dksX8_lays_0 5 rfl rfl)
theorem dX8_lays_6 : decode cX8_lays 6 = .ok (.putfield 23, 3) := dk_181 0 23 (dk_at dksX8_lays_0 6 rfl rfl)
theorem dX8_lays_9 : decode cX8_lays 9 = .ok (.goto 44, 3) := dk_167 0 44 (dk_at dksX8_lays_0 9 rfl rfl)
theorem dX8_lays_12 : decode cX8_lays 12 = .ok (.iload_n 1, 1) := dk_27 (dk_at dksX8_lays_0 12 rfl rfl)
theorem dX8_lays_13 : decode cX8_lays 13 = .ok (.iconst 3, 1) := dk_6 (dk_at dksX8_lays_0 13 rfl rfl)
theorem dX8_lays_14 : decode cX8_lays 14 = .ok (.if_icmp .ge 19, 3) := dk_162 0 19 (dk_at dksX8_lays_0 14 rfl rfl)
theorem dX8_lays_17 : decode cX8_lays 17 = .ok (.aload_n 0, 1) := dk_42 (dk_at dksX8_lays_0 17 rfl rfl)
theorem dX8_lays_18 : decode cX8_lays 18 = .ok (.getfield 32, 3) := dk_180 0 32 (dk_at dksX8_lays_0 18 rfl rfl)
theorem dX8_lays_21 : decode cX8_lays 21 = .ok (.iconst 3, 1) := dk_6 (dk_at dksX8_lays_0 21 rfl rfl)
theorem dX8_lays_22 : decode cX8_lays 22 = .ok (.iload_n 2, 1) := dk_28 (dk_at dksX8_lays_0 22 rfl rfl)
theorem dX8_lays_23 : decode cX8_lays 23 = .ok (.imul, 1) := dk_104 (dk_at dksX8_lays_0 23 rfl rfl)
theorem dX8_lays_24 : decode cX8_lays 24 = .ok (.iload_n 1, 1) := dk_27 (dk_at dksX8_lays_1 0 rfl rfl)
theorem dX8_lays_25 : decode cX8_lays 25 = .ok (.iadd, 1) := dk_96 (dk_at dksX8_lays_1 1 rfl rfl)
theorem dX8_lays_26 : decode cX8_lays 26 = .ok (.iconst 1, 1) := dk_4 (dk_at dksX8_lays_1 2 rfl rfl)
theorem dX8_lays_27 : decode cX8_lays 27 = .ok (.isub, 1) := dk_100 (dk_at dksX8_lays_1 3 rfl rfl)
theorem dX8_lays_28 : decode cX8_lays 28 = .ok (.iload_n 3, 1) := dk_29 (dk_at dksX8_lays_1 4 rfl rfl)
theorem dX8_lays_29 : decode cX8_lays 29 = .ok (.iastore, 1) := dk_79 (dk_at dksX8_lays_1 5 rfl rfl)
theorem dX8_lays_30 : decode cX8_lays 30 = .ok (.goto 23, 3) := dk_167 0 23 (dk_at dksX8_lays_1 6 rfl rfl)
theorem dX8_lays_33 : decode cX8_lays 33 = .ok (.iload_n 1, 1) := dk_27 (dk_at dksX8_lays_1 9 rfl rfl)
theorem dX8_lays_34 : decode cX8_lays 34 = .ok (.iconst 3, 1) := dk_6 (dk_at dksX8_lays_1 10 rfl rfl)
theorem dX8_lays_35 : decode cX8_lays 35 = .ok (.if_icmp .ne 13, 3) := dk_160 0 13 (dk_at dksX8_lays_1 11 rfl rfl)
theorem dX8_lays_38 : decode cX8_lays 38 = .ok (.aload_n 0, 1) := dk_42 (dk_at dksX8_lays_1 14 rfl rfl)
theorem dX8_lays_39 : decode cX8_lays 39 = .ok (.getfield 29, 3) := dk_180 0 29 (dk_at dksX8_lays_1 15 rfl rfl)
theorem dX8_lays_42 : decode cX8_lays 42 = .ok (.iload_n 2, 1) := dk_28 (dk_at dksX8_lays_1 18 rfl rfl)
theorem dX8_lays_43 : decode cX8_lays 43 = .ok (.iload_n 3, 1) := dk_29 (dk_at dksX8_lays_1 19 rfl rfl)
theorem dX8_lays_44 : decode cX8_lays 44 = .ok (.iastore, 1) := dk_79 (dk_at dksX8_lays_1 20 rfl rfl)
theorem dX8_lays_45 : decode cX8_lays 45 = .ok (.goto 8, 3) := dk_167 0 8 (dk_at dksX8_lays_1 21 rfl rfl)
theorem dX8_lays_48 : decode cX8_lays 48 = .ok (.aload_n 0, 1) := dk_42 (dk_at dksX8_lays_2 0 rfl rfl)
theorem dX8_lays_49 : decode cX8_lays 49 = .ok (.iload_n 3, 1) := dk_29 (dk_at dksX8_lays_2 1 rfl rfl)
theorem dX8_lays_50 : decode cX8_lays 50 = .ok (.putfield 106, 3) := dk_181 0 106 (dk_at dksX8_lays_2 2 rfl rfl)
theorem dX8_lays_53 : decode cX8_lays 53 = .ok (.return_, 1) := dk_177 (dk_at dksX8_lays_2 5 rfl rfl)
abbrev cX8_road : ByteArray := prog_16_method_14_code
def yX8_road : MethodName := ⟨RX8, "road", "(III)I"⟩
def dkwX8_road_2 : List UInt8 := [54, 4, 42, 27, 28, 29, 182, 0, 114, 21, 4, 172]
abbrev dktX8_road_2 : List UInt8 := dkwX8_road_2 ++ []
def dkwX8_road_1 : List UInt8 := [20, 0, 112, 184, 0, 82, 154, 0, 6, 16, 254, 172, 42, 180, 0, 26, 16, 8, 27, 104, 28, 96, 46]
abbrev dktX8_road_1 : List UInt8 := dkwX8_road_1 ++ dktX8_road_2
def dkwX8_road_0 : List UInt8 := [27, 184, 0, 109, 153, 0, 27, 28, 184, 0, 109, 153, 0, 20, 27, 28, 159, 0, 15, 29, 133, 9]
abbrev dktX8_road_0 : List UInt8 := dkwX8_road_0 ++ dktX8_road_1
theorem dksX8_road_0 : cX8_road.data.toList.drop 0 = dktX8_road_0 := by decide +kernel
theorem dksX8_road_1 : cX8_road.data.toList.drop 22 = dktX8_road_1 := dk_seg dksX8_road_0 22 rfl rfl
theorem dksX8_road_2 : cX8_road.data.toList.drop 45 = dktX8_road_2 := dk_seg dksX8_road_1 23 rfl rfl
theorem dX8_road_0 : decode cX8_road 0 = .ok (.iload_n 1, 1) := dk_27 (dk_at dksX8_road_0 0 rfl rfl)
theorem dX8_road_1 : decode cX8_road 1 = .ok (.invokestatic 109, 3) := dk_184 0 109 (dk_at dksX8_road_0 1 rfl rfl)
theorem dX8_road_4 : decode cX8_road 4 = .ok (.ifCond .eq 27, 3) := dk_153 0 27 (dk_at dksX8_road_0 4 rfl rfl)
theorem dX8_road_7 : decode cX8_road 7 = .ok (.iload_n 2, 1) := dk_28 (dk_at dksX8_road_0 7 rfl rfl)
theorem dX8_road_8 : decode cX8_road 8 = .ok (.invokestatic 109, 3) := dk_184 0 109 (dk_at dksX8_road_0 8 rfl rfl)
theorem dX8_road_11 : decode cX8_road 11 = .ok (.ifCond .eq 20, 3) := dk_153 0 20 (dk_at dksX8_road_0 11 rfl rfl)
theorem dX8_road_14 : decode cX8_road 14 = .ok (.iload_n 1, 1) := dk_27 (dk_at dksX8_road_0 14 rfl rfl)
theorem dX8_road_15 : decode cX8_road 15 = .ok (.iload_n 2, 1) := dk_28 (dk_at dksX8_road_0 15 rfl rfl)
theorem dX8_road_16 : decode cX8_road 16 = .ok (.if_icmp .eq 15, 3) := dk_159 0 15 (dk_at dksX8_road_0 16 rfl rfl)
theorem dX8_road_19 : decode cX8_road 19 = .ok (.iload_n 3, 1) := dk_29 (dk_at dksX8_road_0 19 rfl rfl)
theorem dX8_road_20 : decode cX8_road 20 = .ok (.i2l, 1) := dk_133 (dk_at dksX8_road_0 20 rfl rfl)
theorem dX8_road_21 : decode cX8_road 21 = .ok (.lconst 0, 1) := dk_9 (dk_at dksX8_road_0 21 rfl rfl)
theorem dX8_road_22 : decode cX8_road 22 = .ok (.ldc2_w 112, 3) := dk_20 0 112 (dk_at dksX8_road_1 0 rfl rfl)
theorem dX8_road_25 : decode cX8_road 25 = .ok (.invokestatic 82, 3) := dk_184 0 82 (dk_at dksX8_road_1 3 rfl rfl)
theorem dX8_road_28 : decode cX8_road 28 = .ok (.ifCond .ne 6, 3) := dk_154 0 6 (dk_at dksX8_road_1 6 rfl rfl)
theorem dX8_road_31 : decode cX8_road 31 = .ok (.bipush (-2), 2) := dk_16 254 (dk_at dksX8_road_1 9 rfl rfl)
theorem dX8_road_33 : decode cX8_road 33 = .ok (.ireturn, 1) := dk_172 (dk_at dksX8_road_1 11 rfl rfl)
theorem dX8_road_34 : decode cX8_road 34 = .ok (.aload_n 0, 1) := dk_42 (dk_at dksX8_road_1 12 rfl rfl)
theorem dX8_road_35 : decode cX8_road 35 = .ok (.getfield 26, 3) := dk_180 0 26 (dk_at dksX8_road_1 13 rfl rfl)
theorem dX8_road_38 : decode cX8_road 38 = .ok (.bipush 8, 2) := dk_16 8 (dk_at dksX8_road_1 16 rfl rfl)
theorem dX8_road_40 : decode cX8_road 40 = .ok (.iload_n 1, 1) := dk_27 (dk_at dksX8_road_1 18 rfl rfl)
theorem dX8_road_41 : decode cX8_road 41 = .ok (.imul, 1) := dk_104 (dk_at dksX8_road_1 19 rfl rfl)
theorem dX8_road_42 : decode cX8_road 42 = .ok (.iload_n 2, 1) := dk_28 (dk_at dksX8_road_1 20 rfl rfl)
theorem dX8_road_43 : decode cX8_road 43 = .ok (.iadd, 1) := dk_96 (dk_at dksX8_road_1 21 rfl rfl)
theorem dX8_road_44 : decode cX8_road 44 = .ok (.iaload, 1) := dk_46 (dk_at dksX8_road_1 22 rfl rfl)
theorem dX8_road_45 : decode cX8_road 45 = .ok (.istore 4, 2) := dk_54 4 (dk_at dksX8_road_2 0 rfl rfl)
theorem dX8_road_47 : decode cX8_road 47 = .ok (.aload_n 0, 1) := dk_42 (dk_at dksX8_road_2 2 rfl rfl)
theorem dX8_road_48 : decode cX8_road 48 = .ok (.iload_n 1, 1) := dk_27 (dk_at dksX8_road_2 3 rfl rfl)
theorem dX8_road_49 : decode cX8_road 49 = .ok (.iload_n 2, 1) := dk_28 (dk_at dksX8_road_2 4 rfl rfl)
theorem dX8_road_50 : decode cX8_road 50 = .ok (.iload_n 3, 1) := dk_29 (dk_at dksX8_road_2 5 rfl rfl)
theorem dX8_road_51 : decode cX8_road 51 = .ok (.invokevirtual 114, 3) := dk_182 0 114 (dk_at dksX8_road_2 6 rfl rfl)
theorem dX8_road_54 : decode cX8_road 54 = .ok (.iload 4, 2) := dk_21 4 (dk_at dksX8_road_2 9 rfl rfl)
theorem dX8_road_56 : decode cX8_road 56 = .ok (.ireturn, 1) := dk_172 (dk_at dksX8_road_2 11 rfl rfl)
abbrev cX8_isPlace : ByteArray := prog_16_method_8_code
def yX8_isPlace : MethodName := ⟨RX8, "isPlace", "(I)Z"⟩
def dkwX8_isPlace_0 : List UInt8 := [26, 133, 9, 20, 0, 90, 184, 0, 82, 172]
abbrev dktX8_isPlace_0 : List UInt8 := dkwX8_isPlace_0 ++ []
theorem dksX8_isPlace_0 : cX8_isPlace.data.toList.drop 0 = dktX8_isPlace_0 := by decide +kernel
theorem dX8_isPlace_0 : decode cX8_isPlace 0 = .ok (.iload_n 0, 1) := dk_26 (dk_at dksX8_isPlace_0 0 rfl rfl)
theorem dX8_isPlace_1 : decode cX8_isPlace 1 = .ok (.i2l, 1) := dk_133 (dk_at dksX8_isPlace_0 1 rfl rfl)
theorem dX8_isPlace_2 : decode cX8_isPlace 2 = .ok (.lconst 0, 1) := dk_9 (dk_at dksX8_isPlace_0 2 rfl rfl)
theorem dX8_isPlace_3 : decode cX8_isPlace 3 = .ok (.ldc2_w 90, 3) := dk_20 0 90 (dk_at dksX8_isPlace_0 3 rfl rfl)
theorem dX8_isPlace_6 : decode cX8_isPlace 6 = .ok (.invokestatic 82, 3) := dk_184 0 82 (dk_at dksX8_isPlace_0 6 rfl rfl)
theorem dX8_isPlace_9 : decode cX8_isPlace 9 = .ok (.ireturn, 1) := dk_172 (dk_at dksX8_isPlace_0 9 rfl rfl)
abbrev cX8_lays1 : ByteArray := prog_16_method_13_code
def yX8_lays1 : MethodName := ⟨RX8, "lays1", "(III)V"⟩
def dkwX8_lays1_1 : List UInt8 := [42, 182, 0, 69, 177]
abbrev dktX8_lays1_1 : List UInt8 := dkwX8_lays1_1 ++ []
def dkwX8_lays1_0 : List UInt8 := [42, 180, 0, 26, 16, 8, 27, 104, 28, 96, 29, 79, 42, 180, 0, 26, 16, 8, 28, 104, 27, 96, 29, 79]
abbrev dktX8_lays1_0 : List UInt8 := dkwX8_lays1_0 ++ dktX8_lays1_1
theorem dksX8_lays1_0 : cX8_lays1.data.toList.drop 0 = dktX8_lays1_0 := by decide +kernel
theorem dksX8_lays1_1 : cX8_lays1.data.toList.drop 24 = dktX8_lays1_1 := dk_seg dksX8_lays1_0 24 rfl rfl
theorem dX8_lays1_0 : decode cX8_lays1 0 = .ok (.aload_n 0, 1) := dk_42 (dk_at dksX8_lays1_0 0 rfl rfl)
theorem dX8_lays1_1 : decode cX8_lays1 1 = .ok (.getfield 26, 3) := dk_180 0 26 (dk_at dksX8_lays1_0 1 rfl rfl)
theorem dX8_lays1_4 : decode cX8_lays1 4 = .ok (.bipush 8, 2) := dk_16 8 (dk_at dksX8_lays1_0 4 rfl rfl)
theorem dX8_lays1_6 : decode cX8_lays1 6 = .ok (.iload_n 1, 1) := dk_27 (dk_at dksX8_lays1_0 6 rfl rfl)
theorem dX8_lays1_7 : decode cX8_lays1 7 = .ok (.imul, 1) := dk_104 (dk_at dksX8_lays1_0 7 rfl rfl)
theorem dX8_lays1_8 : decode cX8_lays1 8 = .ok (.iload_n 2, 1) := dk_28 (dk_at dksX8_lays1_0 8 rfl rfl)
theorem dX8_lays1_9 : decode cX8_lays1 9 = .ok (.iadd, 1) := dk_96 (dk_at dksX8_lays1_0 9 rfl rfl)
theorem dX8_lays1_10 : decode cX8_lays1 10 = .ok (.iload_n 3, 1) := dk_29 (dk_at dksX8_lays1_0 10 rfl rfl)
theorem dX8_lays1_11 : decode cX8_lays1 11 = .ok (.iastore, 1) := dk_79 (dk_at dksX8_lays1_0 11 rfl rfl)
theorem dX8_lays1_12 : decode cX8_lays1 12 = .ok (.aload_n 0, 1) := dk_42 (dk_at dksX8_lays1_0 12 rfl rfl)
theorem dX8_lays1_13 : decode cX8_lays1 13 = .ok (.getfield 26, 3) := dk_180 0 26 (dk_at dksX8_lays1_0 13 rfl rfl)
theorem dX8_lays1_16 : decode cX8_lays1 16 = .ok (.bipush 8, 2) := dk_16 8 (dk_at dksX8_lays1_0 16 rfl rfl)
theorem dX8_lays1_18 : decode cX8_lays1 18 = .ok (.iload_n 2, 1) := dk_28 (dk_at dksX8_lays1_0 18 rfl rfl)
theorem dX8_lays1_19 : decode cX8_lays1 19 = .ok (.imul, 1) := dk_104 (dk_at dksX8_lays1_0 19 rfl rfl)
theorem dX8_lays1_20 : decode cX8_lays1 20 = .ok (.iload_n 1, 1) := dk_27 (dk_at dksX8_lays1_0 20 rfl rfl)
theorem dX8_lays1_21 : decode cX8_lays1 21 = .ok (.iadd, 1) := dk_96 (dk_at dksX8_lays1_0 21 rfl rfl)
theorem dX8_lays1_22 : decode cX8_lays1 22 = .ok (.iload_n 3, 1) := dk_29 (dk_at dksX8_lays1_0 22 rfl rfl)
theorem dX8_lays1_23 : decode cX8_lays1 23 = .ok (.iastore, 1) := dk_79 (dk_at dksX8_lays1_0 23 rfl rfl)
theorem dX8_lays1_24 : decode cX8_lays1 24 = .ok (.aload_n 0, 1) := dk_42 (dk_at dksX8_lays1_1 0 rfl rfl)
theorem dX8_lays1_25 : decode cX8_lays1 25 = .ok (.invokevirtual 69, 3) := dk_182 0 69 (dk_at dksX8_lays1_1 1 rfl rfl)
theorem dX8_lays1_28 : decode cX8_lays1 28 = .ok (.return_, 1) := dk_177 (dk_at dksX8_lays1_1 4 rfl rfl)
abbrev cX8_person : ByteArray := prog_16_method_15_code
def yX8_person : MethodName := ⟨RX8, "person", "(III)I"⟩
def dkwX8_person_4 : List UInt8 := [96, 3, 79, 42, 89, 180, 0, 79, 4, 96, 181, 0, 79, 42, 180, 0, 79, 4, 100, 172]
abbrev dktX8_person_4 : List UInt8 := dkwX8_person_4 ++ []
def dkwX8_person_3 : List UInt8 := [180, 0, 32, 6, 42, 180, 0, 79, 104, 4, 96, 29, 79, 42, 180, 0, 32, 6, 42, 180, 0, 79, 104, 5]
abbrev dktX8_person_3 : List UInt8 := dkwX8_person_3 ++ dktX8_person_4
def dkwX8_person_2 : List UInt8 := [180, 0, 29, 42, 180, 0, 79, 27, 79, 42, 180, 0, 32, 6, 42, 180, 0, 79, 104, 28, 79, 42]
abbrev dktX8_person_2 : List UInt8 := dkwX8_person_2 ++ dktX8_person_3
def dkwX8_person_1 : List UInt8 := [29, 184, 0, 109, 154, 0, 6, 16, 254, 172, 42, 180, 0, 79, 16, 6, 160, 0, 6, 16, 252, 172, 42]
abbrev dktX8_person_1 : List UInt8 := dkwX8_person_1 ++ dktX8_person_2
def dkwX8_person_0 : List UInt8 := [27, 133, 9, 20, 0, 117, 184, 0, 82, 153, 0, 22, 28, 133, 9, 20, 0, 119, 184, 0, 82, 153, 0, 10]
abbrev dktX8_person_0 : List UInt8 := dkwX8_person_0 ++ dktX8_person_1
theorem dksX8_person_0 : cX8_person.data.toList.drop 0 = dktX8_person_0 := by decide +kernel
theorem dksX8_person_1 : cX8_person.data.toList.drop 24 = dktX8_person_1 := dk_seg dksX8_person_0 24 rfl rfl
theorem dksX8_person_2 : cX8_person.data.toList.drop 47 = dktX8_person_2 := dk_seg dksX8_person_1 23 rfl rfl
theorem dksX8_person_3 : cX8_person.data.toList.drop 69 = dktX8_person_3 := dk_seg dksX8_person_2 22 rfl rfl
theorem dksX8_person_4 : cX8_person.data.toList.drop 93 = dktX8_person_4 := dk_seg dksX8_person_3 24 rfl rfl
theorem dX8_person_0 : decode cX8_person 0 = .ok (.iload_n 1, 1) := dk_27 (dk_at dksX8_person_0 0 rfl rfl)
theorem dX8_person_1 : decode cX8_person 1 = .ok (.i2l, 1) := dk_133 (dk_at dksX8_person_0 1 rfl rfl)
theorem dX8_person_2 : decode cX8_person 2 = .ok (.lconst 0, 1) := dk_9 (dk_at dksX8_person_0 2 rfl rfl)
theorem dX8_person_3 : decode cX8_person 3 = .ok (.ldc2_w 117, 3) := dk_20 0 117 (dk_at dksX8_person_0 3 rfl rfl)
theorem dX8_person_6 : decode cX8_person 6 = .ok (.invokestatic 82, 3) := dk_184 0 82 (dk_at dksX8_person_0 6 rfl rfl)
theorem dX8_person_9 : decode cX8_person 9 = .ok (.ifCond .eq 22, 3) := dk_153 0 22 (dk_at dksX8_person_0 9 rfl rfl)
theorem dX8_person_12 : decode cX8_person 12 = .ok (.iload_n 2, 1) := dk_28 (dk_at dksX8_person_0 12 rfl rfl)
theorem dX8_person_13 : decode cX8_person 13 = .ok (.i2l, 1) := dk_133 (dk_at dksX8_person_0 13 rfl rfl)
theorem dX8_person_14 : decode cX8_person 14 = .ok (.lconst 0, 1) := dk_9 (dk_at dksX8_person_0 14 rfl rfl)
theorem dX8_person_15 : decode cX8_person 15 = .ok (.ldc2_w 119, 3) := dk_20 0 119 (dk_at dksX8_person_0 15 rfl rfl)
theorem dX8_person_18 : decode cX8_person 18 = .ok (.invokestatic 82, 3) := dk_184 0 82 (dk_at dksX8_person_0 18 rfl rfl)
theorem dX8_person_21 : decode cX8_person 21 = .ok (.ifCond .eq 10, 3) := dk_153 0 10 (dk_at dksX8_person_0 21 rfl rfl)
theorem dX8_person_24 : decode cX8_person 24 = .ok (.iload_n 3, 1) := dk_29 (dk_at dksX8_person_1 0 rfl rfl)
theorem dX8_person_25 : decode cX8_person 25 = .ok (.invokestatic 109, 3) := dk_184 0 109 (dk_at dksX8_person_1 1 rfl rfl)
theorem dX8_person_28 : decode cX8_person 28 = .ok (.ifCond .ne 6, 3) := dk_154 0 6 (dk_at dksX8_person_1 4 rfl rfl)
theorem dX8_person_31 : decode cX8_person 31 = .ok (.bipush (-2), 2) := dk_16 254 (dk_at dksX8_person_1 7 rfl rfl)
theorem dX8_person_33 : decode cX8_person 33 = .ok (.ireturn, 1) := dk_172 (dk_at dksX8_person_1 9 rfl rfl)
theorem dX8_person_34 : decode cX8_person 34 = .ok (.aload_n 0, 1) := dk_42 (dk_at dksX8_person_1 10 rfl rfl)
theorem dX8_person_35 : decode cX8_person 35 = .ok (.getfield 79, 3) := dk_180 0 79 (dk_at dksX8_person_1 11 rfl rfl)
theorem dX8_person_38 : decode cX8_person 38 = .ok (.bipush 6, 2) := dk_16 6 (dk_at dksX8_person_1 14 rfl rfl)
theorem dX8_person_40 : decode cX8_person 40 = .ok (.if_icmp .ne 6, 3) := dk_160 0 6 (dk_at dksX8_person_1 16 rfl rfl)
theorem dX8_person_43 : decode cX8_person 43 = .ok (.bipush (-4), 2) := dk_16 252 (dk_at dksX8_person_1 19 rfl rfl)
theorem dX8_person_45 : decode cX8_person 45 = .ok (.ireturn, 1) := dk_172 (dk_at dksX8_person_1 21 rfl rfl)
theorem dX8_person_46 : decode cX8_person 46 = .ok (.aload_n 0, 1) := dk_42 (dk_at dksX8_person_1 22 rfl rfl)
theorem dX8_person_47 : decode cX8_person 47 = .ok (.getfield 29, 3) := dk_180 0 29 (dk_at dksX8_person_2 0 rfl rfl)
theorem dX8_person_50 : decode cX8_person 50 = .ok (.aload_n 0, 1) := dk_42 (dk_at dksX8_person_2 3 rfl rfl)
theorem dX8_person_51 : decode cX8_person 51 = .ok (.getfield 79, 3) := dk_180 0 79 (dk_at dksX8_person_2 4 rfl rfl)
theorem dX8_person_54 : decode cX8_person 54 = .ok (.iload_n 1, 1) := dk_27 (dk_at dksX8_person_2 7 rfl rfl)
theorem dX8_person_55 : decode cX8_person 55 = .ok (.iastore, 1) := dk_79 (dk_at dksX8_person_2 8 rfl rfl)
theorem dX8_person_56 : decode cX8_person 56 = .ok (.aload_n 0, 1) := dk_42 (dk_at dksX8_person_2 9 rfl rfl)
theorem dX8_person_57 : decode cX8_person 57 = .ok (.getfield 32, 3) := dk_180 0 32 (dk_at dksX8_person_2 10 rfl rfl)
theorem dX8_person_60 : decode cX8_person 60 = .ok (.iconst 3, 1) := dk_6 (dk_at dksX8_person_2 13 rfl rfl)
theorem dX8_person_61 : decode cX8_person 61 = .ok (.aload_n 0, 1) := dk_42 (dk_at dksX8_person_2 14 rfl rfl)
theorem dX8_person_62 : decode cX8_person 62 = .ok (.getfield 79, 3) := dk_180 0 79 (dk_at dksX8_person_2 15 rfl rfl)
theorem dX8_person_65 : decode cX8_person 65 = .ok (.imul, 1) := dk_104 (dk_at dksX8_person_2 18 rfl rfl)
theorem dX8_person_66 : decode cX8_person 66 = .ok (.iload_n 2, 1) := dk_28 (dk_at dksX8_person_2 19 rfl rfl)
theorem dX8_person_67 : decode cX8_person 67 = .ok (.iastore, 1) := dk_79 (dk_at dksX8_person_2 20 rfl rfl)
theorem dX8_person_68 : decode cX8_person 68 = .ok (.aload_n 0, 1) := dk_42 (dk_at dksX8_person_2 21 rfl rfl)
theorem dX8_person_69 : decode cX8_person 69 = .ok (.getfield 32, 3) := dk_180 0 32 (dk_at dksX8_person_3 0 rfl rfl)
theorem dX8_person_72 : decode cX8_person 72 = .ok (.iconst 3, 1) := dk_6 (dk_at dksX8_person_3 3 rfl rfl)
theorem dX8_person_73 : decode cX8_person 73 = .ok (.aload_n 0, 1) := dk_42 (dk_at dksX8_person_3 4 rfl rfl)
theorem dX8_person_74 : decode cX8_person 74 = .ok (.getfield 79, 3) := dk_180 0 79 (dk_at dksX8_person_3 5 rfl rfl)
theorem dX8_person_77 : decode cX8_person 77 = .ok (.imul, 1) := dk_104 (dk_at dksX8_person_3 8 rfl rfl)
theorem dX8_person_78 : decode cX8_person 78 = .ok (.iconst 1, 1) := dk_4 (dk_at dksX8_person_3 9 rfl rfl)
theorem dX8_person_79 : decode cX8_person 79 = .ok (.iadd, 1) := dk_96 (dk_at dksX8_person_3 10 rfl rfl)
theorem dX8_person_80 : decode cX8_person 80 = .ok (.iload_n 3, 1) := dk_29 (dk_at dksX8_person_3 11 rfl rfl)
theorem dX8_person_81 : decode cX8_person 81 = .ok (.iastore, 1) := dk_79 (dk_at dksX8_person_3 12 rfl rfl)
theorem dX8_person_82 : decode cX8_person 82 = .ok (.aload_n 0, 1) := dk_42 (dk_at dksX8_person_3 13 rfl rfl)
theorem dX8_person_83 : decode cX8_person 83 = .ok (.getfield 32, 3) := dk_180 0 32 (dk_at dksX8_person_3 14 rfl rfl)
theorem dX8_person_86 : decode cX8_person 86 = .ok (.iconst 3, 1) := dk_6 (dk_at dksX8_person_3 17 rfl rfl)
theorem dX8_person_87 : decode cX8_person 87 = .ok (.aload_n 0, 1) := dk_42 (dk_at dksX8_person_3 18 rfl rfl)
theorem dX8_person_88 : decode cX8_person 88 = .ok (.getfield 79, 3) := dk_180 0 79 (dk_at dksX8_person_3 19 rfl rfl)
theorem dX8_person_91 : decode cX8_person 91 = .ok (.imul, 1) := dk_104 (dk_at dksX8_person_3 22 rfl rfl)
theorem dX8_person_92 : decode cX8_person 92 = .ok (.iconst 2, 1) := dk_5 (dk_at dksX8_person_3 23 rfl rfl)
theorem dX8_person_93 : decode cX8_person 93 = .ok (.iadd, 1) := dk_96 (dk_at dksX8_person_4 0 rfl rfl)
theorem dX8_person_94 : decode cX8_person 94 = .ok (.iconst 0, 1) := dk_3 (dk_at dksX8_person_4 1 rfl rfl)
theorem dX8_person_95 : decode cX8_person 95 = .ok (.iastore, 1) := dk_79 (dk_at dksX8_person_4 2 rfl rfl)
theorem dX8_person_96 : decode cX8_person 96 = .ok (.aload_n 0, 1) := dk_42 (dk_at dksX8_person_4 3 rfl rfl)
theorem dX8_person_97 : decode cX8_person 97 = .ok (.dup, 1) := dk_89 (dk_at dksX8_person_4 4 rfl rfl)
theorem dX8_person_98 : decode cX8_person 98 = .ok (.getfield 79, 3) := dk_180 0 79 (dk_at dksX8_person_4 5 rfl rfl)
theorem dX8_person_101 : decode cX8_person 101 = .ok (.iconst 1, 1) := dk_4 (dk_at dksX8_person_4 8 rfl rfl)
theorem dX8_person_102 : decode cX8_person 102 = .ok (.iadd, 1) := dk_96 (dk_at dksX8_person_4 9 rfl rfl)
theorem dX8_person_103 : decode cX8_person 103 = .ok (.putfield 79, 3) := dk_181 0 79 (dk_at dksX8_person_4 10 rfl rfl)
theorem dX8_person_106 : decode cX8_person 106 = .ok (.aload_n 0, 1) := dk_42 (dk_at dksX8_person_4 13 rfl rfl)
theorem dX8_person_107 : decode cX8_person 107 = .ok (.getfield 79, 3) := dk_180 0 79 (dk_at dksX8_person_4 14 rfl rfl)
theorem dX8_person_110 : decode cX8_person 110 = .ok (.iconst 1, 1) := dk_4 (dk_at dksX8_person_4 17 rfl rfl)
theorem dX8_person_111 : decode cX8_person 111 = .ok (.isub, 1) := dk_100 (dk_at dksX8_person_4 18 rfl rfl)
theorem dX8_person_112 : decode cX8_person 112 = .ok (.ireturn, 1) := dk_172 (dk_at dksX8_person_4 19 rfl rfl)
abbrev cX8_feed : ByteArray := prog_16_method_17_code
def yX8_feed : MethodName := ⟨RX8, "feed", "(I)I"⟩
def dkwX8_feed_2 : List UInt8 := [181, 0, 126, 42, 180, 0, 126, 172]
abbrev dktX8_feed_2 : List UInt8 := dkwX8_feed_2 ++ []
def dkwX8_feed_1 : List UInt8 := [160, 0, 6, 16, 252, 172, 42, 180, 0, 20, 42, 180, 0, 126, 27, 79, 42, 89, 180, 0, 126, 4, 96]
abbrev dktX8_feed_1 : List UInt8 := dkwX8_feed_1 ++ dktX8_feed_2
def dkwX8_feed_0 : List UInt8 := [27, 133, 9, 20, 0, 124, 184, 0, 82, 154, 0, 6, 16, 254, 172, 42, 180, 0, 126, 17, 0, 160]
abbrev dktX8_feed_0 : List UInt8 := dkwX8_feed_0 ++ dktX8_feed_1
theorem dksX8_feed_0 : cX8_feed.data.toList.drop 0 = dktX8_feed_0 := by decide +kernel
theorem dksX8_feed_1 : cX8_feed.data.toList.drop 22 = dktX8_feed_1 := dk_seg dksX8_feed_0 22 rfl rfl
theorem dksX8_feed_2 : cX8_feed.data.toList.drop 45 = dktX8_feed_2 := dk_seg dksX8_feed_1 23 rfl rfl
theorem dX8_feed_0 : decode cX8_feed 0 = .ok (.iload_n 1, 1) := dk_27 (dk_at dksX8_feed_0 0 rfl rfl)
theorem dX8_feed_1 : decode cX8_feed 1 = .ok (.i2l, 1) := dk_133 (dk_at dksX8_feed_0 1 rfl rfl)
theorem dX8_feed_2 : decode cX8_feed 2 = .ok (.lconst 0, 1) := dk_9 (dk_at dksX8_feed_0 2 rfl rfl)
theorem dX8_feed_3 : decode cX8_feed 3 = .ok (.ldc2_w 124, 3) := dk_20 0 124 (dk_at dksX8_feed_0 3 rfl rfl)
theorem dX8_feed_6 : decode cX8_feed 6 = .ok (.invokestatic 82, 3) := dk_184 0 82 (dk_at dksX8_feed_0 6 rfl rfl)
theorem dX8_feed_9 : decode cX8_feed 9 = .ok (.ifCond .ne 6, 3) := dk_154 0 6 (dk_at dksX8_feed_0 9 rfl rfl)
theorem dX8_feed_12 : decode cX8_feed 12 = .ok (.bipush (-2), 2) := dk_16 254 (dk_at dksX8_feed_0 12 rfl rfl)
theorem dX8_feed_14 : decode cX8_feed 14 = .ok (.ireturn, 1) := dk_172 (dk_at dksX8_feed_0 14 rfl rfl)
theorem dX8_feed_15 : decode cX8_feed 15 = .ok (.aload_n 0, 1) := dk_42 (dk_at dksX8_feed_0 15 rfl rfl)
theorem dX8_feed_16 : decode cX8_feed 16 = .ok (.getfield 126, 3) := dk_180 0 126 (dk_at dksX8_feed_0 16 rfl rfl)
theorem dX8_feed_19 : decode cX8_feed 19 = .ok (.sipush 160, 3) := dk_17 0 160 (dk_at dksX8_feed_0 19 rfl rfl)
theorem dX8_feed_22 : decode cX8_feed 22 = .ok (.if_icmp .ne 6, 3) := dk_160 0 6 (dk_at dksX8_feed_1 0 rfl rfl)
theorem dX8_feed_25 : decode cX8_feed 25 = .ok (.bipush (-4), 2) := dk_16 252 (dk_at dksX8_feed_1 3 rfl rfl)
theorem dX8_feed_27 : decode cX8_feed 27 = .ok (.ireturn, 1) := dk_172 (dk_at dksX8_feed_1 5 rfl rfl)
theorem dX8_feed_28 : decode cX8_feed 28 = .ok (.aload_n 0, 1) := dk_42 (dk_at dksX8_feed_1 6 rfl rfl)
theorem dX8_feed_29 : decode cX8_feed 29 = .ok (.getfield 20, 3) := dk_180 0 20 (dk_at dksX8_feed_1 7 rfl rfl)
theorem dX8_feed_32 : decode cX8_feed 32 = .ok (.aload_n 0, 1) := dk_42 (dk_at dksX8_feed_1 10 rfl rfl)
theorem dX8_feed_33 : decode cX8_feed 33 = .ok (.getfield 126, 3) := dk_180 0 126 (dk_at dksX8_feed_1 11 rfl rfl)
theorem dX8_feed_36 : decode cX8_feed 36 = .ok (.iload_n 1, 1) := dk_27 (dk_at dksX8_feed_1 14 rfl rfl)
theorem dX8_feed_37 : decode cX8_feed 37 = .ok (.iastore, 1) := dk_79 (dk_at dksX8_feed_1 15 rfl rfl)
theorem dX8_feed_38 : decode cX8_feed 38 = .ok (.aload_n 0, 1) := dk_42 (dk_at dksX8_feed_1 16 rfl rfl)
theorem dX8_feed_39 : decode cX8_feed 39 = .ok (.dup, 1) := dk_89 (dk_at dksX8_feed_1 17 rfl rfl)
theorem dX8_feed_40 : decode cX8_feed 40 = .ok (.getfield 126, 3) := dk_180 0 126 (dk_at dksX8_feed_1 18 rfl rfl)
theorem dX8_feed_43 : decode cX8_feed 43 = .ok (.iconst 1, 1) := dk_4 (dk_at dksX8_feed_1 21 rfl rfl)
theorem dX8_feed_44 : decode cX8_feed 44 = .ok (.iadd, 1) := dk_96 (dk_at dksX8_feed_1 22 rfl rfl)
theorem dX8_feed_45 : decode cX8_feed 45 = .ok (.putfield 126, 3) := dk_181 0 126 (dk_at dksX8_feed_2 0 rfl rfl)
theorem dX8_feed_48 : decode cX8_feed 48 = .ok (.aload_n 0, 1) := dk_42 (dk_at dksX8_feed_2 3 rfl rfl)
theorem dX8_feed_49 : decode cX8_feed 49 = .ok (.getfield 126, 3) := dk_180 0 126 (dk_at dksX8_feed_2 4 rfl rfl)
theorem dX8_feed_52 : decode cX8_feed 52 = .ok (.ireturn, 1) := dk_172 (dk_at dksX8_feed_2 7 rfl rfl)
abbrev cX8_text : ByteArray := prog_16_method_64_code
def yX8_text : MethodName := ⟨RX8, "text", "()I"⟩
def dkwX8_text_4 : List UInt8 := [89, 180, 0, 76, 4, 96, 181, 0, 76, 42, 180, 0, 76, 4, 100, 172]
abbrev dktX8_text_4 : List UInt8 := dkwX8_text_4 ++ []
def dkwX8_text_3 : List UInt8 := [180, 0, 76, 3, 182, 1, 74, 60, 42, 180, 0, 161, 153, 0, 11, 16, 156, 42, 180, 0, 165, 100, 172, 42]
abbrev dktX8_text_3 : List UInt8 := dkwX8_text_3 ++ dktX8_text_4
def dkwX8_text_2 : List UInt8 := [167, 255, 224, 42, 180, 0, 17, 42, 180, 0, 76, 42, 180, 0, 126, 79, 42, 3, 181, 0, 126, 42, 42]
abbrev dktX8_text_2 : List UInt8 := dkwX8_text_2 ++ dktX8_text_3
def dkwX8_text_1 : List UInt8 := [180, 0, 13, 17, 0, 160, 42, 180, 0, 76, 104, 27, 96, 42, 180, 0, 20, 27, 46, 79, 132, 1, 1]
abbrev dktX8_text_1 : List UInt8 := dkwX8_text_1 ++ dktX8_text_2
def dkwX8_text_0 : List UInt8 := [42, 180, 0, 76, 16, 6, 160, 0, 6, 16, 252, 172, 3, 60, 27, 42, 180, 0, 126, 162, 0, 30, 42]
abbrev dktX8_text_0 : List UInt8 := dkwX8_text_0 ++ dktX8_text_1
theorem dksX8_text_0 : cX8_text.data.toList.drop 0 = dktX8_text_0 := by decide +kernel
theorem dksX8_text_1 : cX8_text.data.toList.drop 23 = dktX8_text_1 := dk_seg dksX8_text_0 23 rfl rfl
theorem dksX8_text_2 : cX8_text.data.toList.drop 46 = dktX8_text_2 := dk_seg dksX8_text_1 23 rfl rfl
theorem dksX8_text_3 : cX8_text.data.toList.drop 69 = dktX8_text_3 := dk_seg dksX8_text_2 23 rfl rfl
theorem dksX8_text_4 : cX8_text.data.toList.drop 93 = dktX8_text_4 := dk_seg dksX8_text_3 24 rfl rfl
theorem dX8_text_0 : decode cX8_text 0 = .ok (.aload_n 0, 1) := dk_42 (dk_at dksX8_text_0 0 rfl rfl)
theorem dX8_text_1 : decode cX8_text 1 = .ok (.getfield 76, 3) := dk_180 0 76 (dk_at dksX8_text_0 1 rfl rfl)
theorem dX8_text_4 : decode cX8_text 4 = .ok (.bipush 6, 2) := dk_16 6 (dk_at dksX8_text_0 4 rfl rfl)
theorem dX8_text_6 : decode cX8_text 6 = .ok (.if_icmp .ne 6, 3) := dk_160 0 6 (dk_at dksX8_text_0 6 rfl rfl)
theorem dX8_text_9 : decode cX8_text 9 = .ok (.bipush (-4), 2) := dk_16 252 (dk_at dksX8_text_0 9 rfl rfl)
theorem dX8_text_11 : decode cX8_text 11 = .ok (.ireturn, 1) := dk_172 (dk_at dksX8_text_0 11 rfl rfl)
theorem dX8_text_12 : decode cX8_text 12 = .ok (.iconst 0, 1) := dk_3 (dk_at dksX8_text_0 12 rfl rfl)
theorem dX8_text_13 : decode cX8_text 13 = .ok (.istore_n 1, 1) := dk_60 (dk_at dksX8_text_0 13 rfl rfl)
theorem dX8_text_14 : decode cX8_text 14 = .ok (.iload_n 1, 1) := dk_27 (dk_at dksX8_text_0 14 rfl rfl)
theorem dX8_text_15 : decode cX8_text 15 = .ok (.aload_n 0, 1) := dk_42 (dk_at dksX8_text_0 15 rfl rfl)
theorem dX8_text_16 : decode cX8_text 16 = .ok (.getfield 126, 3) := dk_180 0 126 (dk_at dksX8_text_0 16 rfl rfl)
theorem dX8_text_19 : decode cX8_text 19 = .ok (.if_icmp .ge 30, 3) := dk_162 0 30 (dk_at dksX8_text_0 19 rfl rfl)
theorem dX8_text_22 : decode cX8_text 22 = .ok (.aload_n 0, 1) := dk_42 (dk_at dksX8_text_0 22 rfl rfl)
theorem dX8_text_23 : decode cX8_text 23 = .ok (.getfield 13, 3) := dk_180 0 13 (dk_at dksX8_text_1 0 rfl rfl)
theorem dX8_text_26 : decode cX8_text 26 = .ok (.sipush 160, 3) := dk_17 0 160 (dk_at dksX8_text_1 3 rfl rfl)
theorem dX8_text_29 : decode cX8_text 29 = .ok (.aload_n 0, 1) := dk_42 (dk_at dksX8_text_1 6 rfl rfl)
theorem dX8_text_30 : decode cX8_text 30 = .ok (.getfield 76, 3) := dk_180 0 76 (dk_at dksX8_text_1 7 rfl rfl)
theorem dX8_text_33 : decode cX8_text 33 = .ok (.imul, 1) := dk_104 (dk_at dksX8_text_1 10 rfl rfl)
theorem dX8_text_34 : decode cX8_text 34 = .ok (.iload_n 1, 1) := dk_27 (dk_at dksX8_text_1 11 rfl rfl)
theorem dX8_text_35 : decode cX8_text 35 = .ok (.iadd, 1) := dk_96 (dk_at dksX8_text_1 12 rfl rfl)
theorem dX8_text_36 : decode cX8_text 36 = .ok (.aload_n 0, 1) := dk_42 (dk_at dksX8_text_1 13 rfl rfl)
theorem dX8_text_37 : decode cX8_text 37 = .ok (.getfield 20, 3) := dk_180 0 20 (dk_at dksX8_text_1 14 rfl rfl)
theorem dX8_text_40 : decode cX8_text 40 = .ok (.iload_n 1, 1) := dk_27 (dk_at dksX8_text_1 17 rfl rfl)
theorem dX8_text_41 : decode cX8_text 41 = .ok (.iaload, 1) := dk_46 (dk_at dksX8_text_1 18 rfl rfl)
theorem dX8_text_42 : decode cX8_text 42 = .ok (.iastore, 1) := dk_79 (dk_at dksX8_text_1 19 rfl rfl)
theorem dX8_text_43 : decode cX8_text 43 = .ok (.iinc 1 1, 3) := dk_132 1 1 (dk_at dksX8_text_1 20 rfl rfl)
theorem dX8_text_46 : decode cX8_text 46 = .ok (.goto (-32), 3) := dk_167 255 224 (dk_at dksX8_text_2 0 rfl rfl)
theorem dX8_text_49 : decode cX8_text 49 = .ok (.aload_n 0, 1) := dk_42 (dk_at dksX8_text_2 3 rfl rfl)
theorem dX8_text_50 : decode cX8_text 50 = .ok (.getfield 17, 3) := dk_180 0 17 (dk_at dksX8_text_2 4 rfl rfl)
theorem dX8_text_53 : decode cX8_text 53 = .ok (.aload_n 0, 1) := dk_42 (dk_at dksX8_text_2 7 rfl rfl)
theorem dX8_text_54 : decode cX8_text 54 = .ok (.getfield 76, 3) := dk_180 0 76 (dk_at dksX8_text_2 8 rfl rfl)
theorem dX8_text_57 : decode cX8_text 57 = .ok (.aload_n 0, 1) := dk_42 (dk_at dksX8_text_2 11 rfl rfl)
theorem dX8_text_58 : decode cX8_text 58 = .ok (.getfield 126, 3) := dk_180 0 126 (dk_at dksX8_text_2 12 rfl rfl)
theorem dX8_text_61 : decode cX8_text 61 = .ok (.iastore, 1) := dk_79 (dk_at dksX8_text_2 15 rfl rfl)
theorem dX8_text_62 : decode cX8_text 62 = .ok (.aload_n 0, 1) := dk_42 (dk_at dksX8_text_2 16 rfl rfl)
theorem dX8_text_63 : decode cX8_text 63 = .ok (.iconst 0, 1) := dk_3 (dk_at dksX8_text_2 17 rfl rfl)
theorem dX8_text_64 : decode cX8_text 64 = .ok (.putfield 126, 3) := dk_181 0 126 (dk_at dksX8_text_2 18 rfl rfl)
theorem dX8_text_67 : decode cX8_text 67 = .ok (.aload_n 0, 1) := dk_42 (dk_at dksX8_text_2 21 rfl rfl)
theorem dX8_text_68 : decode cX8_text 68 = .ok (.aload_n 0, 1) := dk_42 (dk_at dksX8_text_2 22 rfl rfl)
theorem dX8_text_69 : decode cX8_text 69 = .ok (.getfield 76, 3) := dk_180 0 76 (dk_at dksX8_text_3 0 rfl rfl)
theorem dX8_text_72 : decode cX8_text 72 = .ok (.iconst 0, 1) := dk_3 (dk_at dksX8_text_3 3 rfl rfl)
theorem dX8_text_73 : decode cX8_text 73 = .ok (.invokevirtual 330, 3) := dk_182 1 74 (dk_at dksX8_text_3 4 rfl rfl)
theorem dX8_text_76 : decode cX8_text 76 = .ok (.istore_n 1, 1) := dk_60 (dk_at dksX8_text_3 7 rfl rfl)
theorem dX8_text_77 : decode cX8_text 77 = .ok (.aload_n 0, 1) := dk_42 (dk_at dksX8_text_3 8 rfl rfl)
theorem dX8_text_78 : decode cX8_text 78 = .ok (.getfield 161, 3) := dk_180 0 161 (dk_at dksX8_text_3 9 rfl rfl)
theorem dX8_text_81 : decode cX8_text 81 = .ok (.ifCond .eq 11, 3) := dk_153 0 11 (dk_at dksX8_text_3 12 rfl rfl)
theorem dX8_text_84 : decode cX8_text 84 = .ok (.bipush (-100), 2) := dk_16 156 (dk_at dksX8_text_3 15 rfl rfl)
theorem dX8_text_86 : decode cX8_text 86 = .ok (.aload_n 0, 1) := dk_42 (dk_at dksX8_text_3 17 rfl rfl)
theorem dX8_text_87 : decode cX8_text 87 = .ok (.getfield 165, 3) := dk_180 0 165 (dk_at dksX8_text_3 18 rfl rfl)
theorem dX8_text_90 : decode cX8_text 90 = .ok (.isub, 1) := dk_100 (dk_at dksX8_text_3 21 rfl rfl)
theorem dX8_text_91 : decode cX8_text 91 = .ok (.ireturn, 1) := dk_172 (dk_at dksX8_text_3 22 rfl rfl)
theorem dX8_text_92 : decode cX8_text 92 = .ok (.aload_n 0, 1) := dk_42 (dk_at dksX8_text_3 23 rfl rfl)
theorem dX8_text_93 : decode cX8_text 93 = .ok (.dup, 1) := dk_89 (dk_at dksX8_text_4 0 rfl rfl)
theorem dX8_text_94 : decode cX8_text 94 = .ok (.getfield 76, 3) := dk_180 0 76 (dk_at dksX8_text_4 1 rfl rfl)
theorem dX8_text_97 : decode cX8_text 97 = .ok (.iconst 1, 1) := dk_4 (dk_at dksX8_text_4 4 rfl rfl)
theorem dX8_text_98 : decode cX8_text 98 = .ok (.iadd, 1) := dk_96 (dk_at dksX8_text_4 5 rfl rfl)
theorem dX8_text_99 : decode cX8_text 99 = .ok (.putfield 76, 3) := dk_181 0 76 (dk_at dksX8_text_4 6 rfl rfl)
theorem dX8_text_102 : decode cX8_text 102 = .ok (.aload_n 0, 1) := dk_42 (dk_at dksX8_text_4 9 rfl rfl)
theorem dX8_text_103 : decode cX8_text 103 = .ok (.getfield 76, 3) := dk_180 0 76 (dk_at dksX8_text_4 10 rfl rfl)
theorem dX8_text_106 : decode cX8_text 106 = .ok (.iconst 1, 1) := dk_4 (dk_at dksX8_text_4 13 rfl rfl)
theorem dX8_text_107 : decode cX8_text 107 = .ok (.isub, 1) := dk_100 (dk_at dksX8_text_4 14 rfl rfl)
theorem dX8_text_108 : decode cX8_text 108 = .ok (.ireturn, 1) := dk_172 (dk_at dksX8_text_4 15 rfl rfl)
abbrev cX8_force : ByteArray := prog_16_method_65_code
def yX8_force : MethodName := ⟨RX8, "force", "(I)I"⟩
def dkwX8_force_1 : List UInt8 := [42, 27, 181, 0, 106, 28, 172]
abbrev dktX8_force_1 : List UInt8 := dkwX8_force_1 ++ []
def dkwX8_force_0 : List UInt8 := [27, 133, 9, 42, 180, 0, 76, 4, 100, 133, 184, 0, 82, 154, 0, 6, 16, 254, 172, 42, 180, 0, 106, 61]
abbrev dktX8_force_0 : List UInt8 := dkwX8_force_0 ++ dktX8_force_1
theorem dksX8_force_0 : cX8_force.data.toList.drop 0 = dktX8_force_0 := by decide +kernel
theorem dksX8_force_1 : cX8_force.data.toList.drop 24 = dktX8_force_1 := dk_seg dksX8_force_0 24 rfl rfl
theorem dX8_force_0 : decode cX8_force 0 = .ok (.iload_n 1, 1) := dk_27 (dk_at dksX8_force_0 0 rfl rfl)
theorem dX8_force_1 : decode cX8_force 1 = .ok (.i2l, 1) := dk_133 (dk_at dksX8_force_0 1 rfl rfl)
theorem dX8_force_2 : decode cX8_force 2 = .ok (.lconst 0, 1) := dk_9 (dk_at dksX8_force_0 2 rfl rfl)
theorem dX8_force_3 : decode cX8_force 3 = .ok (.aload_n 0, 1) := dk_42 (dk_at dksX8_force_0 3 rfl rfl)
theorem dX8_force_4 : decode cX8_force 4 = .ok (.getfield 76, 3) := dk_180 0 76 (dk_at dksX8_force_0 4 rfl rfl)
theorem dX8_force_7 : decode cX8_force 7 = .ok (.iconst 1, 1) := dk_4 (dk_at dksX8_force_0 7 rfl rfl)
theorem dX8_force_8 : decode cX8_force 8 = .ok (.isub, 1) := dk_100 (dk_at dksX8_force_0 8 rfl rfl)
theorem dX8_force_9 : decode cX8_force 9 = .ok (.i2l, 1) := dk_133 (dk_at dksX8_force_0 9 rfl rfl)
theorem dX8_force_10 : decode cX8_force 10 = .ok (.invokestatic 82, 3) := dk_184 0 82 (dk_at dksX8_force_0 10 rfl rfl)
theorem dX8_force_13 : decode cX8_force 13 = .ok (.ifCond .ne 6, 3) := dk_154 0 6 (dk_at dksX8_force_0 13 rfl rfl)
theorem dX8_force_16 : decode cX8_force 16 = .ok (.bipush (-2), 2) := dk_16 254 (dk_at dksX8_force_0 16 rfl rfl)
theorem dX8_force_18 : decode cX8_force 18 = .ok (.ireturn, 1) := dk_172 (dk_at dksX8_force_0 18 rfl rfl)
theorem dX8_force_19 : decode cX8_force 19 = .ok (.aload_n 0, 1) := dk_42 (dk_at dksX8_force_0 19 rfl rfl)
theorem dX8_force_20 : decode cX8_force 20 = .ok (.getfield 106, 3) := dk_180 0 106 (dk_at dksX8_force_0 20 rfl rfl)
theorem dX8_force_23 : decode cX8_force 23 = .ok (.istore_n 2, 1) := dk_61 (dk_at dksX8_force_0 23 rfl rfl)
theorem dX8_force_24 : decode cX8_force 24 = .ok (.aload_n 0, 1) := dk_42 (dk_at dksX8_force_1 0 rfl rfl)
theorem dX8_force_25 : decode cX8_force 25 = .ok (.iload_n 1, 1) := dk_27 (dk_at dksX8_force_1 1 rfl rfl)
theorem dX8_force_26 : decode cX8_force 26 = .ok (.putfield 106, 3) := dk_181 0 106 (dk_at dksX8_force_1 2 rfl rfl)
theorem dX8_force_29 : decode cX8_force 29 = .ok (.iload_n 2, 1) := dk_28 (dk_at dksX8_force_1 5 rfl rfl)
theorem dX8_force_30 : decode cX8_force 30 = .ok (.ireturn, 1) := dk_172 (dk_at dksX8_force_1 6 rfl rfl)
abbrev cX8_asks : ByteArray := prog_16_method_73_code
def yX8_asks : MethodName := ⟨RX8, "asks", "(IIIII)I"⟩
def dkwX8_asks_6 : List UInt8 := [172]
abbrev dktX8_asks_6 : List UInt8 := dkwX8_asks_6 ++ []
def dkwX8_asks_5 : List UInt8 := [160, 0, 15, 42, 27, 28, 29, 21, 4, 182, 1, 104, 167, 0, 12, 42, 27, 28, 29, 21, 4, 182, 1, 108]
abbrev dktX8_asks_5 : List UInt8 := dkwX8_asks_5 ++ dktX8_asks_6
def dkwX8_asks_4 : List UInt8 := [3, 29, 21, 4, 182, 1, 92, 167, 0, 13, 42, 28, 27, 4, 29, 21, 4, 182, 1, 92, 172, 21, 5, 7]
abbrev dktX8_asks_4 : List UInt8 := dkwX8_asks_4 ++ dktX8_asks_5
def dkwX8_asks_3 : List UInt8 := [27, 4, 29, 21, 4, 182, 1, 88, 172, 21, 5, 7, 162, 0, 33, 21, 5, 5, 160, 0, 16, 42, 27, 28]
abbrev dktX8_asks_3 : List UInt8 := dkwX8_asks_3 ++ dktX8_asks_4
def dkwX8_asks_2 : List UInt8 := [5, 162, 0, 32, 21, 5, 154, 0, 16, 42, 27, 28, 3, 29, 21, 4, 182, 1, 88, 167, 0, 13, 42, 28]
abbrev dktX8_asks_2 : List UInt8 := dkwX8_asks_2 ++ dktX8_asks_3
def dkwX8_asks_1 : List UInt8 := [184, 0, 82, 153, 0, 16, 21, 5, 133, 9, 20, 0, 117, 184, 0, 82, 154, 0, 6, 16, 254, 172, 21, 5]
abbrev dktX8_asks_1 : List UInt8 := dkwX8_asks_1 ++ dktX8_asks_2
def dkwX8_asks_0 : List UInt8 := [42, 27, 28, 182, 1, 99, 153, 0, 36, 29, 184, 0, 109, 153, 0, 29, 21, 4, 133, 9, 20, 1, 102]
abbrev dktX8_asks_0 : List UInt8 := dkwX8_asks_0 ++ dktX8_asks_1
theorem dksX8_asks_0 : cX8_asks.data.toList.drop 0 = dktX8_asks_0 := by decide +kernel
theorem dksX8_asks_1 : cX8_asks.data.toList.drop 23 = dktX8_asks_1 := dk_seg dksX8_asks_0 23 rfl rfl
theorem dksX8_asks_2 : cX8_asks.data.toList.drop 47 = dktX8_asks_2 := dk_seg dksX8_asks_1 24 rfl rfl
theorem dksX8_asks_3 : cX8_asks.data.toList.drop 71 = dktX8_asks_3 := dk_seg dksX8_asks_2 24 rfl rfl
theorem dksX8_asks_4 : cX8_asks.data.toList.drop 95 = dktX8_asks_4 := dk_seg dksX8_asks_3 24 rfl rfl
theorem dksX8_asks_5 : cX8_asks.data.toList.drop 119 = dktX8_asks_5 := dk_seg dksX8_asks_4 24 rfl rfl
theorem dksX8_asks_6 : cX8_asks.data.toList.drop 143 = dktX8_asks_6 := dk_seg dksX8_asks_5 24 rfl rfl
theorem dX8_asks_0 : decode cX8_asks 0 = .ok (.aload_n 0, 1) := dk_42 (dk_at dksX8_asks_0 0 rfl rfl)
theorem dX8_asks_1 : decode cX8_asks 1 = .ok (.iload_n 1, 1) := dk_27 (dk_at dksX8_asks_0 1 rfl rfl)
theorem dX8_asks_2 : decode cX8_asks 2 = .ok (.iload_n 2, 1) := dk_28 (dk_at dksX8_asks_0 2 rfl rfl)
theorem dX8_asks_3 : decode cX8_asks 3 = .ok (.invokevirtual 355, 3) := dk_182 1 99 (dk_at dksX8_asks_0 3 rfl rfl)
theorem dX8_asks_6 : decode cX8_asks 6 = .ok (.ifCond .eq 36, 3) := dk_153 0 36 (dk_at dksX8_asks_0 6 rfl rfl)
theorem dX8_asks_9 : decode cX8_asks 9 = .ok (.iload_n 3, 1) := dk_29 (dk_at dksX8_asks_0 9 rfl rfl)
theorem dX8_asks_10 : decode cX8_asks 10 = .ok (.invokestatic 109, 3) := dk_184 0 109 (dk_at dksX8_asks_0 10 rfl rfl)
theorem dX8_asks_13 : decode cX8_asks 13 = .ok (.ifCond .eq 29, 3) := dk_153 0 29 (dk_at dksX8_asks_0 13 rfl rfl)
theorem dX8_asks_16 : decode cX8_asks 16 = .ok (.iload 4, 2) := dk_21 4 (dk_at dksX8_asks_0 16 rfl rfl)
theorem dX8_asks_18 : decode cX8_asks 18 = .ok (.i2l, 1) := dk_133 (dk_at dksX8_asks_0 18 rfl rfl)
theorem dX8_asks_19 : decode cX8_asks 19 = .ok (.lconst 0, 1) := dk_9 (dk_at dksX8_asks_0 19 rfl rfl)
theorem dX8_asks_20 : decode cX8_asks 20 = .ok (.ldc2_w 358, 3) := dk_20 1 102 (dk_at dksX8_asks_0 20 rfl rfl)
theorem dX8_asks_23 : decode cX8_asks 23 = .ok (.invokestatic 82, 3) := dk_184 0 82 (dk_at dksX8_asks_1 0 rfl rfl)
theorem dX8_asks_26 : decode cX8_asks 26 = .ok (.ifCond .eq 16, 3) := dk_153 0 16 (dk_at dksX8_asks_1 3 rfl rfl)
theorem dX8_asks_29 : decode cX8_asks 29 = .ok (.iload 5, 2) := dk_21 5 (dk_at dksX8_asks_1 6 rfl rfl)
theorem dX8_asks_31 : decode cX8_asks 31 = .ok (.i2l, 1) := dk_133 (dk_at dksX8_asks_1 8 rfl rfl)
theorem dX8_asks_32 : decode cX8_asks 32 = .ok (.lconst 0, 1) := dk_9 (dk_at dksX8_asks_1 9 rfl rfl)
theorem dX8_asks_33 : decode cX8_asks 33 = .ok (.ldc2_w 117, 3) := dk_20 0 117 (dk_at dksX8_asks_1 10 rfl rfl)
theorem dX8_asks_36 : decode cX8_asks 36 = .ok (.invokestatic 82, 3) := dk_184 0 82 (dk_at dksX8_asks_1 13 rfl rfl)
theorem dX8_asks_39 : decode cX8_asks 39 = .ok (.ifCond .ne 6, 3) := dk_154 0 6 (dk_at dksX8_asks_1 16 rfl rfl)
theorem dX8_asks_42 : decode cX8_asks 42 = .ok (.bipush (-2), 2) := dk_16 254 (dk_at dksX8_asks_1 19 rfl rfl)
theorem dX8_asks_44 : decode cX8_asks 44 = .ok (.ireturn, 1) := dk_172 (dk_at dksX8_asks_1 21 rfl rfl)
theorem dX8_asks_45 : decode cX8_asks 45 = .ok (.iload 5, 2) := dk_21 5 (dk_at dksX8_asks_1 22 rfl rfl)
theorem dX8_asks_47 : decode cX8_asks 47 = .ok (.iconst 2, 1) := dk_5 (dk_at dksX8_asks_2 0 rfl rfl)
theorem dX8_asks_48 : decode cX8_asks 48 = .ok (.if_icmp .ge 32, 3) := dk_162 0 32 (dk_at dksX8_asks_2 1 rfl rfl)
theorem dX8_asks_51 : decode cX8_asks 51 = .ok (.iload 5, 2) := dk_21 5 (dk_at dksX8_asks_2 4 rfl rfl)
theorem dX8_asks_53 : decode cX8_asks 53 = .ok (.ifCond .ne 16, 3) := dk_154 0 16 (dk_at dksX8_asks_2 6 rfl rfl)
theorem dX8_asks_56 : decode cX8_asks 56 = .ok (.aload_n 0, 1) := dk_42 (dk_at dksX8_asks_2 9 rfl rfl)
theorem dX8_asks_57 : decode cX8_asks 57 = .ok (.iload_n 1, 1) := dk_27 (dk_at dksX8_asks_2 10 rfl rfl)
theorem dX8_asks_58 : decode cX8_asks 58 = .ok (.iload_n 2, 1) := dk_28 (dk_at dksX8_asks_2 11 rfl rfl)
theorem dX8_asks_59 : decode cX8_asks 59 = .ok (.iconst 0, 1) := dk_3 (dk_at dksX8_asks_2 12 rfl rfl)
theorem dX8_asks_60 : decode cX8_asks 60 = .ok (.iload_n 3, 1) := dk_29 (dk_at dksX8_asks_2 13 rfl rfl)
theorem dX8_asks_61 : decode cX8_asks 61 = .ok (.iload 4, 2) := dk_21 4 (dk_at dksX8_asks_2 14 rfl rfl)
theorem dX8_asks_63 : decode cX8_asks 63 = .ok (.invokevirtual 344, 3) := dk_182 1 88 (dk_at dksX8_asks_2 16 rfl rfl)
theorem dX8_asks_66 : decode cX8_asks 66 = .ok (.goto 13, 3) := dk_167 0 13 (dk_at dksX8_asks_2 19 rfl rfl)
theorem dX8_asks_69 : decode cX8_asks 69 = .ok (.aload_n 0, 1) := dk_42 (dk_at dksX8_asks_2 22 rfl rfl)
theorem dX8_asks_70 : decode cX8_asks 70 = .ok (.iload_n 2, 1) := dk_28 (dk_at dksX8_asks_2 23 rfl rfl)
theorem dX8_asks_71 : decode cX8_asks 71 = .ok (.iload_n 1, 1) := dk_27 (dk_at dksX8_asks_3 0 rfl rfl)
theorem dX8_asks_72 : decode cX8_asks 72 = .ok (.iconst 1, 1) := dk_4 (dk_at dksX8_asks_3 1 rfl rfl)
theorem dX8_asks_73 : decode cX8_asks 73 = .ok (.iload_n 3, 1) := dk_29 (dk_at dksX8_asks_3 2 rfl rfl)
theorem dX8_asks_74 : decode cX8_asks 74 = .ok (.iload 4, 2) := dk_21 4 (dk_at dksX8_asks_3 3 rfl rfl)
theorem dX8_asks_76 : decode cX8_asks 76 = .ok (.invokevirtual 344, 3) := dk_182 1 88 (dk_at dksX8_asks_3 5 rfl rfl)
theorem dX8_asks_79 : decode cX8_asks 79 = .ok (.ireturn, 1) := dk_172 (dk_at dksX8_asks_3 8 rfl rfl)
theorem dX8_asks_80 : decode cX8_asks 80 = .ok (.iload 5, 2) := dk_21 5 (dk_at dksX8_asks_3 9 rfl rfl)
theorem dX8_asks_82 : decode cX8_asks 82 = .ok (.iconst 4, 1) := dk_7 (dk_at dksX8_asks_3 11 rfl rfl)
theorem dX8_asks_83 : decode cX8_asks 83 = .ok (.if_icmp .ge 33, 3) := dk_162 0 33 (dk_at dksX8_asks_3 12 rfl rfl)
theorem dX8_asks_86 : decode cX8_asks 86 = .ok (.iload 5, 2) := dk_21 5 (dk_at dksX8_asks_3 15 rfl rfl)
theorem dX8_asks_88 : decode cX8_asks 88 = .ok (.iconst 2, 1) := dk_5 (dk_at dksX8_asks_3 17 rfl rfl)
theorem dX8_asks_89 : decode cX8_asks 89 = .ok (.if_icmp .ne 16, 3) := dk_160 0 16 (dk_at dksX8_asks_3 18 rfl rfl)
theorem dX8_asks_92 : decode cX8_asks 92 = .ok (.aload_n 0, 1) := dk_42 (dk_at dksX8_asks_3 21 rfl rfl)
theorem dX8_asks_93 : decode cX8_asks 93 = .ok (.iload_n 1, 1) := dk_27 (dk_at dksX8_asks_3 22 rfl rfl)
theorem dX8_asks_94 : decode cX8_asks 94 = .ok (.iload_n 2, 1) := dk_28 (dk_at dksX8_asks_3 23 rfl rfl)
theorem dX8_asks_95 : decode cX8_asks 95 = .ok (.iconst 0, 1) := dk_3 (dk_at dksX8_asks_4 0 rfl rfl)
theorem dX8_asks_96 : decode cX8_asks 96 = .ok (.iload_n 3, 1) := dk_29 (dk_at dksX8_asks_4 1 rfl rfl)
theorem dX8_asks_97 : decode cX8_asks 97 = .ok (.iload 4, 2) := dk_21 4 (dk_at dksX8_asks_4 2 rfl rfl)
theorem dX8_asks_99 : decode cX8_asks 99 = .ok (.invokevirtual 348, 3) := dk_182 1 92 (dk_at dksX8_asks_4 4 rfl rfl)
theorem dX8_asks_102 : decode cX8_asks 102 = .ok (.goto 13, 3) := dk_167 0 13 (dk_at dksX8_asks_4 7 rfl rfl)
theorem dX8_asks_105 : decode cX8_asks 105 = .ok (.aload_n 0, 1) := dk_42 (dk_at dksX8_asks_4 10 rfl rfl)
theorem dX8_asks_106 : decode cX8_asks 106 = .ok (.iload_n 2, 1) := dk_28 (dk_at dksX8_asks_4 11 rfl rfl)
theorem dX8_asks_107 : decode cX8_asks 107 = .ok (.iload_n 1, 1) := dk_27 (dk_at dksX8_asks_4 12 rfl rfl)
theorem dX8_asks_108 : decode cX8_asks 108 = .ok (.iconst 1, 1) := dk_4 (dk_at dksX8_asks_4 13 rfl rfl)
theorem dX8_asks_109 : decode cX8_asks 109 = .ok (.iload_n 3, 1) := dk_29 (dk_at dksX8_asks_4 14 rfl rfl)
theorem dX8_asks_110 : decode cX8_asks 110 = .ok (.iload 4, 2) := dk_21 4 (dk_at dksX8_asks_4 15 rfl rfl)
theorem dX8_asks_112 : decode cX8_asks 112 = .ok (.invokevirtual 348, 3) := dk_182 1 92 (dk_at dksX8_asks_4 17 rfl rfl)
theorem dX8_asks_115 : decode cX8_asks 115 = .ok (.ireturn, 1) := dk_172 (dk_at dksX8_asks_4 20 rfl rfl)
theorem dX8_asks_116 : decode cX8_asks 116 = .ok (.iload 5, 2) := dk_21 5 (dk_at dksX8_asks_4 21 rfl rfl)
theorem dX8_asks_118 : decode cX8_asks 118 = .ok (.iconst 4, 1) := dk_7 (dk_at dksX8_asks_4 23 rfl rfl)
theorem dX8_asks_119 : decode cX8_asks 119 = .ok (.if_icmp .ne 15, 3) := dk_160 0 15 (dk_at dksX8_asks_5 0 rfl rfl)
theorem dX8_asks_122 : decode cX8_asks 122 = .ok (.aload_n 0, 1) := dk_42 (dk_at dksX8_asks_5 3 rfl rfl)
theorem dX8_asks_123 : decode cX8_asks 123 = .ok (.iload_n 1, 1) := dk_27 (dk_at dksX8_asks_5 4 rfl rfl)
theorem dX8_asks_124 : decode cX8_asks 124 = .ok (.iload_n 2, 1) := dk_28 (dk_at dksX8_asks_5 5 rfl rfl)
theorem dX8_asks_125 : decode cX8_asks 125 = .ok (.iload_n 3, 1) := dk_29 (dk_at dksX8_asks_5 6 rfl rfl)
theorem dX8_asks_126 : decode cX8_asks 126 = .ok (.iload 4, 2) := dk_21 4 (dk_at dksX8_asks_5 7 rfl rfl)
theorem dX8_asks_128 : decode cX8_asks 128 = .ok (.invokevirtual 360, 3) := dk_182 1 104 (dk_at dksX8_asks_5 9 rfl rfl)
theorem dX8_asks_131 : decode cX8_asks 131 = .ok (.goto 12, 3) := dk_167 0 12 (dk_at dksX8_asks_5 12 rfl rfl)
theorem dX8_asks_134 : decode cX8_asks 134 = .ok (.aload_n 0, 1) := dk_42 (dk_at dksX8_asks_5 15 rfl rfl)
theorem dX8_asks_135 : decode cX8_asks 135 = .ok (.iload_n 1, 1) := dk_27 (dk_at dksX8_asks_5 16 rfl rfl)
theorem dX8_asks_136 : decode cX8_asks 136 = .ok (.iload_n 2, 1) := dk_28 (dk_at dksX8_asks_5 17 rfl rfl)
theorem dX8_asks_137 : decode cX8_asks 137 = .ok (.iload_n 3, 1) := dk_29 (dk_at dksX8_asks_5 18 rfl rfl)
theorem dX8_asks_138 : decode cX8_asks 138 = .ok (.iload 4, 2) := dk_21 4 (dk_at dksX8_asks_5 19 rfl rfl)
theorem dX8_asks_140 : decode cX8_asks 140 = .ok (.invokevirtual 364, 3) := dk_182 1 108 (dk_at dksX8_asks_5 21 rfl rfl)
theorem dX8_asks_143 : decode cX8_asks 143 = .ok (.ireturn, 1) := dk_172 (dk_at dksX8_asks_6 0 rfl rfl)
abbrev cX8_areTwo : ByteArray := prog_16_method_7_code
def yX8_areTwo : MethodName := ⟨RX8, "areTwo", "(II)Z"⟩
def dkwX8_areTwo_1 : List UInt8 := [167, 0, 4, 3, 172]
abbrev dktX8_areTwo_1 : List UInt8 := dkwX8_areTwo_1 ++ []
def dkwX8_areTwo_0 : List UInt8 := [42, 27, 182, 0, 86, 153, 0, 20, 42, 28, 182, 0, 86, 153, 0, 12, 27, 28, 159, 0, 7, 4]
abbrev dktX8_areTwo_0 : List UInt8 := dkwX8_areTwo_0 ++ dktX8_areTwo_1
theorem dksX8_areTwo_0 : cX8_areTwo.data.toList.drop 0 = dktX8_areTwo_0 := by decide +kernel
theorem dksX8_areTwo_1 : cX8_areTwo.data.toList.drop 22 = dktX8_areTwo_1 := dk_seg dksX8_areTwo_0 22 rfl rfl
theorem dX8_areTwo_0 : decode cX8_areTwo 0 = .ok (.aload_n 0, 1) := dk_42 (dk_at dksX8_areTwo_0 0 rfl rfl)
theorem dX8_areTwo_1 : decode cX8_areTwo 1 = .ok (.iload_n 1, 1) := dk_27 (dk_at dksX8_areTwo_0 1 rfl rfl)
theorem dX8_areTwo_2 : decode cX8_areTwo 2 = .ok (.invokevirtual 86, 3) := dk_182 0 86 (dk_at dksX8_areTwo_0 2 rfl rfl)
theorem dX8_areTwo_5 : decode cX8_areTwo 5 = .ok (.ifCond .eq 20, 3) := dk_153 0 20 (dk_at dksX8_areTwo_0 5 rfl rfl)
theorem dX8_areTwo_8 : decode cX8_areTwo 8 = .ok (.aload_n 0, 1) := dk_42 (dk_at dksX8_areTwo_0 8 rfl rfl)
theorem dX8_areTwo_9 : decode cX8_areTwo 9 = .ok (.iload_n 2, 1) := dk_28 (dk_at dksX8_areTwo_0 9 rfl rfl)
theorem dX8_areTwo_10 : decode cX8_areTwo 10 = .ok (.invokevirtual 86, 3) := dk_182 0 86 (dk_at dksX8_areTwo_0 10 rfl rfl)
theorem dX8_areTwo_13 : decode cX8_areTwo 13 = .ok (.ifCond .eq 12, 3) := dk_153 0 12 (dk_at dksX8_areTwo_0 13 rfl rfl)
theorem dX8_areTwo_16 : decode cX8_areTwo 16 = .ok (.iload_n 1, 1) := dk_27 (dk_at dksX8_areTwo_0 16 rfl rfl)
theorem dX8_areTwo_17 : decode cX8_areTwo 17 = .ok (.iload_n 2, 1) := dk_28 (dk_at dksX8_areTwo_0 17 rfl rfl)
theorem dX8_areTwo_18 : decode cX8_areTwo 18 = .ok (.if_icmp .eq 7, 3) := dk_159 0 7 (dk_at dksX8_areTwo_0 18 rfl rfl)
theorem dX8_areTwo_21 : decode cX8_areTwo 21 = .ok (.iconst 1, 1) := dk_4 (dk_at dksX8_areTwo_0 21 rfl rfl)
theorem dX8_areTwo_22 : decode cX8_areTwo 22 = .ok (.goto 4, 3) := dk_167 0 4 (dk_at dksX8_areTwo_1 0 rfl rfl)
theorem dX8_areTwo_25 : decode cX8_areTwo 25 = .ok (.iconst 0, 1) := dk_3 (dk_at dksX8_areTwo_1 3 rfl rfl)
theorem dX8_areTwo_26 : decode cX8_areTwo 26 = .ok (.ireturn, 1) := dk_172 (dk_at dksX8_areTwo_1 4 rfl rfl)
abbrev cX8_enoughSet : ByteArray := prog_16_method_72_code
def yX8_enoughSet : MethodName := ⟨RX8, "enoughSet", "(IIII)I"⟩
def dkwX8_enoughSet_1 : List UInt8 := [21, 4, 182, 1, 95, 153, 0, 7, 5, 167, 0, 4, 3, 96, 172]
abbrev dktX8_enoughSet_1 : List UInt8 := dkwX8_enoughSet_1 ++ []
def dkwX8_enoughSet_0 : List UInt8 := [42, 27, 28, 3, 29, 21, 4, 182, 1, 95, 153, 0, 7, 4, 167, 0, 4, 3, 42, 28, 27, 4, 29]
abbrev dktX8_enoughSet_0 : List UInt8 := dkwX8_enoughSet_0 ++ dktX8_enoughSet_1
theorem dksX8_enoughSet_0 : cX8_enoughSet.data.toList.drop 0 = dktX8_enoughSet_0 := by decide +kernel
theorem dksX8_enoughSet_1 : cX8_enoughSet.data.toList.drop 23 = dktX8_enoughSet_1 := dk_seg dksX8_enoughSet_0 23 rfl rfl
theorem dX8_enoughSet_0 : decode cX8_enoughSet 0 = .ok (.aload_n 0, 1) := dk_42 (dk_at dksX8_enoughSet_0 0 rfl rfl)
theorem dX8_enoughSet_1 : decode cX8_enoughSet 1 = .ok (.iload_n 1, 1) := dk_27 (dk_at dksX8_enoughSet_0 1 rfl rfl)
theorem dX8_enoughSet_2 : decode cX8_enoughSet 2 = .ok (.iload_n 2, 1) := dk_28 (dk_at dksX8_enoughSet_0 2 rfl rfl)
theorem dX8_enoughSet_3 : decode cX8_enoughSet 3 = .ok (.iconst 0, 1) := dk_3 (dk_at dksX8_enoughSet_0 3 rfl rfl)
theorem dX8_enoughSet_4 : decode cX8_enoughSet 4 = .ok (.iload_n 3, 1) := dk_29 (dk_at dksX8_enoughSet_0 4 rfl rfl)
theorem dX8_enoughSet_5 : decode cX8_enoughSet 5 = .ok (.iload 4, 2) := dk_21 4 (dk_at dksX8_enoughSet_0 5 rfl rfl)
theorem dX8_enoughSet_7 : decode cX8_enoughSet 7 = .ok (.invokevirtual 351, 3) := dk_182 1 95 (dk_at dksX8_enoughSet_0 7 rfl rfl)
theorem dX8_enoughSet_10 : decode cX8_enoughSet 10 = .ok (.ifCond .eq 7, 3) := dk_153 0 7 (dk_at dksX8_enoughSet_0 10 rfl rfl)
theorem dX8_enoughSet_13 : decode cX8_enoughSet 13 = .ok (.iconst 1, 1) := dk_4 (dk_at dksX8_enoughSet_0 13 rfl rfl)
theorem dX8_enoughSet_14 : decode cX8_enoughSet 14 = .ok (.goto 4, 3) := dk_167 0 4 (dk_at dksX8_enoughSet_0 14 rfl rfl)
theorem dX8_enoughSet_17 : decode cX8_enoughSet 17 = .ok (.iconst 0, 1) := dk_3 (dk_at dksX8_enoughSet_0 17 rfl rfl)
theorem dX8_enoughSet_18 : decode cX8_enoughSet 18 = .ok (.aload_n 0, 1) := dk_42 (dk_at dksX8_enoughSet_0 18 rfl rfl)
theorem dX8_enoughSet_19 : decode cX8_enoughSet 19 = .ok (.iload_n 2, 1) := dk_28 (dk_at dksX8_enoughSet_0 19 rfl rfl)
theorem dX8_enoughSet_20 : decode cX8_enoughSet 20 = .ok (.iload_n 1, 1) := dk_27 (dk_at dksX8_enoughSet_0 20 rfl rfl)
theorem dX8_enoughSet_21 : decode cX8_enoughSet 21 = .ok (.iconst 1, 1) := dk_4 (dk_at dksX8_enoughSet_0 21 rfl rfl)
theorem dX8_enoughSet_22 : decode cX8_enoughSet 22 = .ok (.iload_n 3, 1) := dk_29 (dk_at dksX8_enoughSet_0 22 rfl rfl)
theorem dX8_enoughSet_23 : decode cX8_enoughSet 23 = .ok (.iload 4, 2) := dk_21 4 (dk_at dksX8_enoughSet_1 0 rfl rfl)
theorem dX8_enoughSet_25 : decode cX8_enoughSet 25 = .ok (.invokevirtual 351, 3) := dk_182 1 95 (dk_at dksX8_enoughSet_1 2 rfl rfl)
theorem dX8_enoughSet_28 : decode cX8_enoughSet 28 = .ok (.ifCond .eq 7, 3) := dk_153 0 7 (dk_at dksX8_enoughSet_1 5 rfl rfl)
theorem dX8_enoughSet_31 : decode cX8_enoughSet 31 = .ok (.iconst 2, 1) := dk_5 (dk_at dksX8_enoughSet_1 8 rfl rfl)
theorem dX8_enoughSet_32 : decode cX8_enoughSet 32 = .ok (.goto 4, 3) := dk_167 0 4 (dk_at dksX8_enoughSet_1 9 rfl rfl)
theorem dX8_enoughSet_35 : decode cX8_enoughSet 35 = .ok (.iconst 0, 1) := dk_3 (dk_at dksX8_enoughSet_1 12 rfl rfl)
theorem dX8_enoughSet_36 : decode cX8_enoughSet 36 = .ok (.iadd, 1) := dk_96 (dk_at dksX8_enoughSet_1 13 rfl rfl)
theorem dX8_enoughSet_37 : decode cX8_enoughSet 37 = .ok (.ireturn, 1) := dk_172 (dk_at dksX8_enoughSet_1 14 rfl rfl)
abbrev cX8_hasEnough : ByteArray := prog_16_method_70_code
def yX8_hasEnough : MethodName := ⟨RX8, "hasEnough", "(IIZII)Z"⟩
def dkwX8_hasEnough_5 : List UInt8 := [6, 27, 104, 46, 164, 0, 7, 4, 167, 0, 9, 3, 167, 0, 5, 21, 7, 172]
abbrev dktX8_hasEnough_5 : List UInt8 := dkwX8_hasEnough_5 ++ []
def dkwX8_hasEnough_4 : List UInt8 := [167, 0, 41, 3, 167, 0, 37, 21, 6, 5, 160, 0, 29, 21, 7, 153, 0, 20, 21, 5, 42, 180, 0, 32]
abbrev dktX8_hasEnough_4 : List UInt8 := dkwX8_hasEnough_4 ++ dktX8_hasEnough_5
def dkwX8_hasEnough_3 : List UInt8 := [159, 0, 9, 21, 6, 6, 160, 0, 23, 21, 7, 154, 0, 10, 21, 5, 16, 8, 164, 0, 7, 4]
abbrev dktX8_hasEnough_3 : List UInt8 := dkwX8_hasEnough_3 ++ dktX8_hasEnough_4
def dkwX8_hasEnough_2 : List UInt8 := [27, 28, 29, 21, 4, 21, 5, 182, 1, 84, 153, 0, 7, 4, 167, 0, 4, 3, 54, 7, 21, 6, 4]
abbrev dktX8_hasEnough_2 : List UInt8 := dkwX8_hasEnough_2 ++ dktX8_hasEnough_3
def dkwX8_hasEnough_1 : List UInt8 := [160, 0, 20, 21, 5, 42, 180, 0, 32, 6, 27, 104, 46, 161, 0, 7, 4, 167, 0, 4, 3, 172, 42, 5]
abbrev dktX8_hasEnough_1 : List UInt8 := dkwX8_hasEnough_1 ++ dktX8_hasEnough_2
def dkwX8_hasEnough_0 : List UInt8 := [42, 180, 0, 29, 27, 46, 54, 6, 21, 6, 7, 159, 0, 9, 21, 6, 8, 160, 0, 28, 21, 6, 8]
abbrev dktX8_hasEnough_0 : List UInt8 := dkwX8_hasEnough_0 ++ dktX8_hasEnough_1
theorem dksX8_hasEnough_0 : cX8_hasEnough.data.toList.drop 0 = dktX8_hasEnough_0 := by decide +kernel
theorem dksX8_hasEnough_1 : cX8_hasEnough.data.toList.drop 23 = dktX8_hasEnough_1 := dk_seg dksX8_hasEnough_0 23 rfl rfl
theorem dksX8_hasEnough_2 : cX8_hasEnough.data.toList.drop 47 = dktX8_hasEnough_2 := dk_seg dksX8_hasEnough_1 24 rfl rfl
theorem dksX8_hasEnough_3 : cX8_hasEnough.data.toList.drop 70 = dktX8_hasEnough_3 := dk_seg dksX8_hasEnough_2 23 rfl rfl
theorem dksX8_hasEnough_4 : cX8_hasEnough.data.toList.drop 92 = dktX8_hasEnough_4 := dk_seg dksX8_hasEnough_3 22 rfl rfl
theorem dksX8_hasEnough_5 : cX8_hasEnough.data.toList.drop 116 = dktX8_hasEnough_5 := dk_seg dksX8_hasEnough_4 24 rfl rfl
theorem dX8_hasEnough_0 : decode cX8_hasEnough 0 = .ok (.aload_n 0, 1) := dk_42 (dk_at dksX8_hasEnough_0 0 rfl rfl)
theorem dX8_hasEnough_1 : decode cX8_hasEnough 1 = .ok (.getfield 29, 3) := dk_180 0 29 (dk_at dksX8_hasEnough_0 1 rfl rfl)
theorem dX8_hasEnough_4 : decode cX8_hasEnough 4 = .ok (.iload_n 1, 1) := dk_27 (dk_at dksX8_hasEnough_0 4 rfl rfl)
theorem dX8_hasEnough_5 : decode cX8_hasEnough 5 = .ok (.iaload, 1) := dk_46 (dk_at dksX8_hasEnough_0 5 rfl rfl)
theorem dX8_hasEnough_6 : decode cX8_hasEnough 6 = .ok (.istore 6, 2) := dk_54 6 (dk_at dksX8_hasEnough_0 6 rfl rfl)
theorem dX8_hasEnough_8 : decode cX8_hasEnough 8 = .ok (.iload 6, 2) := dk_21 6 (dk_at dksX8_hasEnough_0 8 rfl rfl)
theorem dX8_hasEnough_10 : decode cX8_hasEnough 10 = .ok (.iconst 4, 1) := dk_7 (dk_at dksX8_hasEnough_0 10 rfl rfl)
theorem dX8_hasEnough_11 : decode cX8_hasEnough 11 = .ok (.if_icmp .eq 9, 3) := dk_159 0 9 (dk_at dksX8_hasEnough_0 11 rfl rfl)
theorem dX8_hasEnough_14 : decode cX8_hasEnough 14 = .ok (.iload 6, 2) := dk_21 6 (dk_at dksX8_hasEnough_0 14 rfl rfl)
theorem dX8_hasEnough_16 : decode cX8_hasEnough 16 = .ok (.iconst 5, 1) := dk_8 (dk_at dksX8_hasEnough_0 16 rfl rfl)
theorem dX8_hasEnough_17 : decode cX8_hasEnough 17 = .ok (.if_icmp .ne 28, 3) := dk_160 0 28 (dk_at dksX8_hasEnough_0 17 rfl rfl)
theorem dX8_hasEnough_20 : decode cX8_hasEnough 20 = .ok (.iload 6, 2) := dk_21 6 (dk_at dksX8_hasEnough_0 20 rfl rfl)
theorem dX8_hasEnough_22 : decode cX8_hasEnough 22 = .ok (.iconst 5, 1) := dk_8 (dk_at dksX8_hasEnough_0 22 rfl rfl)
theorem dX8_hasEnough_23 : decode cX8_hasEnough 23 = .ok (.if_icmp .ne 20, 3) := dk_160 0 20 (dk_at dksX8_hasEnough_1 0 rfl rfl)
theorem dX8_hasEnough_26 : decode cX8_hasEnough 26 = .ok (.iload 5, 2) := dk_21 5 (dk_at dksX8_hasEnough_1 3 rfl rfl)
theorem dX8_hasEnough_28 : decode cX8_hasEnough 28 = .ok (.aload_n 0, 1) := dk_42 (dk_at dksX8_hasEnough_1 5 rfl rfl)
theorem dX8_hasEnough_29 : decode cX8_hasEnough 29 = .ok (.getfield 32, 3) := dk_180 0 32 (dk_at dksX8_hasEnough_1 6 rfl rfl)
theorem dX8_hasEnough_32 : decode cX8_hasEnough 32 = .ok (.iconst 3, 1) := dk_6 (dk_at dksX8_hasEnough_1 9 rfl rfl)
theorem dX8_hasEnough_33 : decode cX8_hasEnough 33 = .ok (.iload_n 1, 1) := dk_27 (dk_at dksX8_hasEnough_1 10 rfl rfl)
theorem dX8_hasEnough_34 : decode cX8_hasEnough 34 = .ok (.imul, 1) := dk_104 (dk_at dksX8_hasEnough_1 11 rfl rfl)
theorem dX8_hasEnough_35 : decode cX8_hasEnough 35 = .ok (.iaload, 1) := dk_46 (dk_at dksX8_hasEnough_1 12 rfl rfl)
theorem dX8_hasEnough_36 : decode cX8_hasEnough 36 = .ok (.if_icmp .lt 7, 3) := dk_161 0 7 (dk_at dksX8_hasEnough_1 13 rfl rfl)
theorem dX8_hasEnough_39 : decode cX8_hasEnough 39 = .ok (.iconst 1, 1) := dk_4 (dk_at dksX8_hasEnough_1 16 rfl rfl)
theorem dX8_hasEnough_40 : decode cX8_hasEnough 40 = .ok (.goto 4, 3) := dk_167 0 4 (dk_at dksX8_hasEnough_1 17 rfl rfl)
theorem dX8_hasEnough_43 : decode cX8_hasEnough 43 = .ok (.iconst 0, 1) := dk_3 (dk_at dksX8_hasEnough_1 20 rfl rfl)
theorem dX8_hasEnough_44 : decode cX8_hasEnough 44 = .ok (.ireturn, 1) := dk_172 (dk_at dksX8_hasEnough_1 21 rfl rfl)
theorem dX8_hasEnough_45 : decode cX8_hasEnough 45 = .ok (.aload_n 0, 1) := dk_42 (dk_at dksX8_hasEnough_1 22 rfl rfl)
theorem dX8_hasEnough_46 : decode cX8_hasEnough 46 = .ok (.iconst 2, 1) := dk_5 (dk_at dksX8_hasEnough_1 23 rfl rfl)
theorem dX8_hasEnough_47 : decode cX8_hasEnough 47 = .ok (.iload_n 1, 1) := dk_27 (dk_at dksX8_hasEnough_2 0 rfl rfl)
theorem dX8_hasEnough_48 : decode cX8_hasEnough 48 = .ok (.iload_n 2, 1) := dk_28 (dk_at dksX8_hasEnough_2 1 rfl rfl)
theorem dX8_hasEnough_49 : decode cX8_hasEnough 49 = .ok (.iload_n 3, 1) := dk_29 (dk_at dksX8_hasEnough_2 2 rfl rfl)
theorem dX8_hasEnough_50 : decode cX8_hasEnough 50 = .ok (.iload 4, 2) := dk_21 4 (dk_at dksX8_hasEnough_2 3 rfl rfl)
theorem dX8_hasEnough_52 : decode cX8_hasEnough 52 = .ok (.iload 5, 2) := dk_21 5 (dk_at dksX8_hasEnough_2 5 rfl rfl)
theorem dX8_hasEnough_54 : decode cX8_hasEnough 54 = .ok (.invokevirtual 340, 3) := dk_182 1 84 (dk_at dksX8_hasEnough_2 7 rfl rfl)
theorem dX8_hasEnough_57 : decode cX8_hasEnough 57 = .ok (.ifCond .eq 7, 3) := dk_153 0 7 (dk_at dksX8_hasEnough_2 10 rfl rfl)
theorem dX8_hasEnough_60 : decode cX8_hasEnough 60 = .ok (.iconst 1, 1) := dk_4 (dk_at dksX8_hasEnough_2 13 rfl rfl)
theorem dX8_hasEnough_61 : decode cX8_hasEnough 61 = .ok (.goto 4, 3) := dk_167 0 4 (dk_at dksX8_hasEnough_2 14 rfl rfl)
theorem dX8_hasEnough_64 : decode cX8_hasEnough 64 = .ok (.iconst 0, 1) := dk_3 (dk_at dksX8_hasEnough_2 17 rfl rfl)
theorem dX8_hasEnough_65 : decode cX8_hasEnough 65 = .ok (.istore 7, 2) := dk_54 7 (dk_at dksX8_hasEnough_2 18 rfl rfl)
theorem dX8_hasEnough_67 : decode cX8_hasEnough 67 = .ok (.iload 6, 2) := dk_21 6 (dk_at dksX8_hasEnough_2 20 rfl rfl)
theorem dX8_hasEnough_69 : decode cX8_hasEnough 69 = .ok (.iconst 1, 1) := dk_4 (dk_at dksX8_hasEnough_2 22 rfl rfl)
theorem dX8_hasEnough_70 : decode cX8_hasEnough 70 = .ok (.if_icmp .eq 9, 3) := dk_159 0 9 (dk_at dksX8_hasEnough_3 0 rfl rfl)
theorem dX8_hasEnough_73 : decode cX8_hasEnough 73 = .ok (.iload 6, 2) := dk_21 6 (dk_at dksX8_hasEnough_3 3 rfl rfl)
theorem dX8_hasEnough_75 : decode cX8_hasEnough 75 = .ok (.iconst 3, 1) := dk_6 (dk_at dksX8_hasEnough_3 5 rfl rfl)
theorem dX8_hasEnough_76 : decode cX8_hasEnough 76 = .ok (.if_icmp .ne 23, 3) := dk_160 0 23 (dk_at dksX8_hasEnough_3 6 rfl rfl)
theorem dX8_hasEnough_79 : decode cX8_hasEnough 79 = .ok (.iload 7, 2) := dk_21 7 (dk_at dksX8_hasEnough_3 9 rfl rfl)
theorem dX8_hasEnough_81 : decode cX8_hasEnough 81 = .ok (.ifCond .ne 10, 3) := dk_154 0 10 (dk_at dksX8_hasEnough_3 11 rfl rfl)
theorem dX8_hasEnough_84 : decode cX8_hasEnough 84 = .ok (.iload 5, 2) := dk_21 5 (dk_at dksX8_hasEnough_3 14 rfl rfl)
theorem dX8_hasEnough_86 : decode cX8_hasEnough 86 = .ok (.bipush 8, 2) := dk_16 8 (dk_at dksX8_hasEnough_3 16 rfl rfl)
theorem dX8_hasEnough_88 : decode cX8_hasEnough 88 = .ok (.if_icmp .le 7, 3) := dk_164 0 7 (dk_at dksX8_hasEnough_3 18 rfl rfl)
theorem dX8_hasEnough_91 : decode cX8_hasEnough 91 = .ok (.iconst 1, 1) := dk_4 (dk_at dksX8_hasEnough_3 21 rfl rfl)
theorem dX8_hasEnough_92 : decode cX8_hasEnough 92 = .ok (.goto 41, 3) := dk_167 0 41 (dk_at dksX8_hasEnough_4 0 rfl rfl)
theorem dX8_hasEnough_95 : decode cX8_hasEnough 95 = .ok (.iconst 0, 1) := dk_3 (dk_at dksX8_hasEnough_4 3 rfl rfl)
theorem dX8_hasEnough_96 : decode cX8_hasEnough 96 = .ok (.goto 37, 3) := dk_167 0 37 (dk_at dksX8_hasEnough_4 4 rfl rfl)
theorem dX8_hasEnough_99 : decode cX8_hasEnough 99 = .ok (.iload 6, 2) := dk_21 6 (dk_at dksX8_hasEnough_4 7 rfl rfl)
theorem dX8_hasEnough_101 : decode cX8_hasEnough 101 = .ok (.iconst 2, 1) := dk_5 (dk_at dksX8_hasEnough_4 9 rfl rfl)
theorem dX8_hasEnough_102 : decode cX8_hasEnough 102 = .ok (.if_icmp .ne 29, 3) := dk_160 0 29 (dk_at dksX8_hasEnough_4 10 rfl rfl)
theorem dX8_hasEnough_105 : decode cX8_hasEnough 105 = .ok (.iload 7, 2) := dk_21 7 (dk_at dksX8_hasEnough_4 13 rfl rfl)
theorem dX8_hasEnough_107 : decode cX8_hasEnough 107 = .ok (.ifCond .eq 20, 3) := dk_153 0 20 (dk_at dksX8_hasEnough_4 15 rfl rfl)
theorem dX8_hasEnough_110 : decode cX8_hasEnough 110 = .ok (.iload 5, 2) := dk_21 5 (dk_at dksX8_hasEnough_4 18 rfl rfl)
theorem dX8_hasEnough_112 : decode cX8_hasEnough 112 = .ok (.aload_n 0, 1) := dk_42 (dk_at dksX8_hasEnough_4 20 rfl rfl)
theorem dX8_hasEnough_113 : decode cX8_hasEnough 113 = .ok (.getfield 32, 3) := dk_180 0 32 (dk_at dksX8_hasEnough_4 21 rfl rfl)
theorem dX8_hasEnough_116 : decode cX8_hasEnough 116 = .ok (.iconst 3, 1) := dk_6 (dk_at dksX8_hasEnough_5 0 rfl rfl)
theorem dX8_hasEnough_117 : decode cX8_hasEnough 117 = .ok (.iload_n 1, 1) := dk_27 (dk_at dksX8_hasEnough_5 1 rfl rfl)
theorem dX8_hasEnough_118 : decode cX8_hasEnough 118 = .ok (.imul, 1) := dk_104 (dk_at dksX8_hasEnough_5 2 rfl rfl)
theorem dX8_hasEnough_119 : decode cX8_hasEnough 119 = .ok (.iaload, 1) := dk_46 (dk_at dksX8_hasEnough_5 3 rfl rfl)
theorem dX8_hasEnough_120 : decode cX8_hasEnough 120 = .ok (.if_icmp .le 7, 3) := dk_164 0 7 (dk_at dksX8_hasEnough_5 4 rfl rfl)
theorem dX8_hasEnough_123 : decode cX8_hasEnough 123 = .ok (.iconst 1, 1) := dk_4 (dk_at dksX8_hasEnough_5 7 rfl rfl)
theorem dX8_hasEnough_124 : decode cX8_hasEnough 124 = .ok (.goto 9, 3) := dk_167 0 9 (dk_at dksX8_hasEnough_5 8 rfl rfl)
theorem dX8_hasEnough_127 : decode cX8_hasEnough 127 = .ok (.iconst 0, 1) := dk_3 (dk_at dksX8_hasEnough_5 11 rfl rfl)
theorem dX8_hasEnough_128 : decode cX8_hasEnough 128 = .ok (.goto 5, 3) := dk_167 0 5 (dk_at dksX8_hasEnough_5 12 rfl rfl)
theorem dX8_hasEnough_131 : decode cX8_hasEnough 131 = .ok (.iload 7, 2) := dk_21 7 (dk_at dksX8_hasEnough_5 15 rfl rfl)
theorem dX8_hasEnough_133 : decode cX8_hasEnough 133 = .ok (.ireturn, 1) := dk_172 (dk_at dksX8_hasEnough_5 17 rfl rfl)
abbrev cX8_ride : ByteArray := prog_16_method_81_code
def yX8_ride : MethodName := ⟨RX8, "ride", "(IIII)I"⟩
def dkwX8_ride_6 : List UInt8 := [7, 160, 0, 10, 42, 182, 1, 131, 167, 0, 7, 42, 180, 1, 117, 172]
abbrev dktX8_ride_6 : List UInt8 := dkwX8_ride_6 ++ []
def dkwX8_ride_5 : List UInt8 := [42, 182, 1, 131, 184, 1, 134, 42, 180, 1, 111, 163, 0, 7, 4, 167, 0, 24, 3, 167, 0, 20, 21, 4]
abbrev dktX8_ride_5 : List UInt8 := dkwX8_ride_5 ++ dktX8_ride_6
def dkwX8_ride_4 : List UInt8 := [21, 4, 4, 160, 0, 10, 42, 180, 1, 111, 167, 0, 7, 42, 180, 1, 114, 172, 21, 4, 6, 160, 0, 25]
abbrev dktX8_ride_4 : List UInt8 := dkwX8_ride_4 ++ dktX8_ride_5
def dkwX8_ride_3 : List UInt8 := [21, 4, 6, 162, 0, 38, 21, 4, 154, 0, 15, 42, 180, 0, 38, 42, 180, 1, 111, 46, 167, 0, 20]
abbrev dktX8_ride_3 : List UInt8 := dkwX8_ride_3 ++ dktX8_ride_4
def dkwX8_ride_2 : List UInt8 := [42, 27, 28, 29, 182, 1, 123, 21, 4, 16, 9, 164, 0, 13, 42, 21, 4, 16, 10, 100, 182, 1, 128, 172]
abbrev dktX8_ride_2 : List UInt8 := dkwX8_ride_2 ++ dktX8_ride_3
def dkwX8_ride_1 : List UInt8 := [184, 0, 82, 154, 0, 21, 21, 4, 133, 20, 0, 159, 20, 1, 126, 184, 0, 82, 154, 0, 6, 16, 254, 172]
abbrev dktX8_ride_1 : List UInt8 := dkwX8_ride_1 ++ dktX8_ride_2
def dkwX8_ride_0 : List UInt8 := [42, 27, 28, 182, 1, 99, 153, 0, 38, 29, 184, 0, 109, 153, 0, 31, 21, 4, 133, 9, 20, 0, 117]
abbrev dktX8_ride_0 : List UInt8 := dkwX8_ride_0 ++ dktX8_ride_1
theorem dksX8_ride_0 : cX8_ride.data.toList.drop 0 = dktX8_ride_0 := by decide +kernel
theorem dksX8_ride_1 : cX8_ride.data.toList.drop 23 = dktX8_ride_1 := dk_seg dksX8_ride_0 23 rfl rfl
theorem dksX8_ride_2 : cX8_ride.data.toList.drop 47 = dktX8_ride_2 := dk_seg dksX8_ride_1 24 rfl rfl
theorem dksX8_ride_3 : cX8_ride.data.toList.drop 71 = dktX8_ride_3 := dk_seg dksX8_ride_2 24 rfl rfl
theorem dksX8_ride_4 : cX8_ride.data.toList.drop 94 = dktX8_ride_4 := dk_seg dksX8_ride_3 23 rfl rfl
theorem dksX8_ride_5 : cX8_ride.data.toList.drop 118 = dktX8_ride_5 := dk_seg dksX8_ride_4 24 rfl rfl
theorem dksX8_ride_6 : cX8_ride.data.toList.drop 142 = dktX8_ride_6 := dk_seg dksX8_ride_5 24 rfl rfl
theorem dX8_ride_0 : decode cX8_ride 0 = .ok (.aload_n 0, 1) := dk_42 (dk_at dksX8_ride_0 0 rfl rfl)
theorem dX8_ride_1 : decode cX8_ride 1 = .ok (.iload_n 1, 1) := dk_27 (dk_at dksX8_ride_0 1 rfl rfl)
theorem dX8_ride_2 : decode cX8_ride 2 = .ok (.iload_n 2, 1) := dk_28 (dk_at dksX8_ride_0 2 rfl rfl)
theorem dX8_ride_3 : decode cX8_ride 3 = .ok (.invokevirtual 355, 3) := dk_182 1 99 (dk_at dksX8_ride_0 3 rfl rfl)
theorem dX8_ride_6 : decode cX8_ride 6 = .ok (.ifCond .eq 38, 3) := dk_153 0 38 (dk_at dksX8_ride_0 6 rfl rfl)
theorem dX8_ride_9 : decode cX8_ride 9 = .ok (.iload_n 3, 1) := dk_29 (dk_at dksX8_ride_0 9 rfl rfl)
theorem dX8_ride_10 : decode cX8_ride 10 = .ok (.invokestatic 109, 3) := dk_184 0 109 (dk_at dksX8_ride_0 10 rfl rfl)
theorem dX8_ride_13 : decode cX8_ride 13 = .ok (.ifCond .eq 31, 3) := dk_153 0 31 (dk_at dksX8_ride_0 13 rfl rfl)
theorem dX8_ride_16 : decode cX8_ride 16 = .ok (.iload 4, 2) := dk_21 4 (dk_at dksX8_ride_0 16 rfl rfl)
theorem dX8_ride_18 : decode cX8_ride 18 = .ok (.i2l, 1) := dk_133 (dk_at dksX8_ride_0 18 rfl rfl)
theorem dX8_ride_19 : decode cX8_ride 19 = .ok (.lconst 0, 1) := dk_9 (dk_at dksX8_ride_0 19 rfl rfl)
theorem dX8_ride_20 : decode cX8_ride 20 = .ok (.ldc2_w 117, 3) := dk_20 0 117 (dk_at dksX8_ride_0 20 rfl rfl)
theorem dX8_ride_23 : decode cX8_ride 23 = .ok (.invokestatic 82, 3) := dk_184 0 82 (dk_at dksX8_ride_1 0 rfl rfl)
theorem dX8_ride_26 : decode cX8_ride 26 = .ok (.ifCond .ne 21, 3) := dk_154 0 21 (dk_at dksX8_ride_1 3 rfl rfl)
theorem dX8_ride_29 : decode cX8_ride 29 = .ok (.iload 4, 2) := dk_21 4 (dk_at dksX8_ride_1 6 rfl rfl)
theorem dX8_ride_31 : decode cX8_ride 31 = .ok (.i2l, 1) := dk_133 (dk_at dksX8_ride_1 8 rfl rfl)
theorem dX8_ride_32 : decode cX8_ride 32 = .ok (.ldc2_w 159, 3) := dk_20 0 159 (dk_at dksX8_ride_1 9 rfl rfl)
theorem dX8_ride_35 : decode cX8_ride 35 = .ok (.ldc2_w 382, 3) := dk_20 1 126 (dk_at dksX8_ride_1 12 rfl rfl)
theorem dX8_ride_38 : decode cX8_ride 38 = .ok (.invokestatic 82, 3) := dk_184 0 82 (dk_at dksX8_ride_1 15 rfl rfl)
theorem dX8_ride_41 : decode cX8_ride 41 = .ok (.ifCond .ne 6, 3) := dk_154 0 6 (dk_at dksX8_ride_1 18 rfl rfl)
theorem dX8_ride_44 : decode cX8_ride 44 = .ok (.bipush (-2), 2) := dk_16 254 (dk_at dksX8_ride_1 21 rfl rfl)
theorem dX8_ride_46 : decode cX8_ride 46 = .ok (.ireturn, 1) := dk_172 (dk_at dksX8_ride_1 23 rfl rfl)
theorem dX8_ride_47 : decode cX8_ride 47 = .ok (.aload_n 0, 1) := dk_42 (dk_at dksX8_ride_2 0 rfl rfl)
theorem dX8_ride_48 : decode cX8_ride 48 = .ok (.iload_n 1, 1) := dk_27 (dk_at dksX8_ride_2 1 rfl rfl)
theorem dX8_ride_49 : decode cX8_ride 49 = .ok (.iload_n 2, 1) := dk_28 (dk_at dksX8_ride_2 2 rfl rfl)
theorem dX8_ride_50 : decode cX8_ride 50 = .ok (.iload_n 3, 1) := dk_29 (dk_at dksX8_ride_2 3 rfl rfl)
theorem dX8_ride_51 : decode cX8_ride 51 = .ok (.invokevirtual 379, 3) := dk_182 1 123 (dk_at dksX8_ride_2 4 rfl rfl)
theorem dX8_ride_54 : decode cX8_ride 54 = .ok (.iload 4, 2) := dk_21 4 (dk_at dksX8_ride_2 7 rfl rfl)
theorem dX8_ride_56 : decode cX8_ride 56 = .ok (.bipush 9, 2) := dk_16 9 (dk_at dksX8_ride_2 9 rfl rfl)
theorem dX8_ride_58 : decode cX8_ride 58 = .ok (.if_icmp .le 13, 3) := dk_164 0 13 (dk_at dksX8_ride_2 11 rfl rfl)
theorem dX8_ride_61 : decode cX8_ride 61 = .ok (.aload_n 0, 1) := dk_42 (dk_at dksX8_ride_2 14 rfl rfl)
theorem dX8_ride_62 : decode cX8_ride 62 = .ok (.iload 4, 2) := dk_21 4 (dk_at dksX8_ride_2 15 rfl rfl)
theorem dX8_ride_64 : decode cX8_ride 64 = .ok (.bipush 10, 2) := dk_16 10 (dk_at dksX8_ride_2 17 rfl rfl)
theorem dX8_ride_66 : decode cX8_ride 66 = .ok (.isub, 1) := dk_100 (dk_at dksX8_ride_2 19 rfl rfl)
theorem dX8_ride_67 : decode cX8_ride 67 = .ok (.invokevirtual 384, 3) := dk_182 1 128 (dk_at dksX8_ride_2 20 rfl rfl)
theorem dX8_ride_70 : decode cX8_ride 70 = .ok (.ireturn, 1) := dk_172 (dk_at dksX8_ride_2 23 rfl rfl)
theorem dX8_ride_71 : decode cX8_ride 71 = .ok (.iload 4, 2) := dk_21 4 (dk_at dksX8_ride_3 0 rfl rfl)
theorem dX8_ride_73 : decode cX8_ride 73 = .ok (.iconst 3, 1) := dk_6 (dk_at dksX8_ride_3 2 rfl rfl)
theorem dX8_ride_74 : decode cX8_ride 74 = .ok (.if_icmp .ge 38, 3) := dk_162 0 38 (dk_at dksX8_ride_3 3 rfl rfl)
theorem dX8_ride_77 : decode cX8_ride 77 = .ok (.iload 4, 2) := dk_21 4 (dk_at dksX8_ride_3 6 rfl rfl)
theorem dX8_ride_79 : decode cX8_ride 79 = .ok (.ifCond .ne 15, 3) := dk_154 0 15 (dk_at dksX8_ride_3 8 rfl rfl)
theorem dX8_ride_82 : decode cX8_ride 82 = .ok (.aload_n 0, 1) := dk_42 (dk_at dksX8_ride_3 11 rfl rfl)
theorem dX8_ride_83 : decode cX8_ride 83 = .ok (.getfield 38, 3) := dk_180 0 38 (dk_at dksX8_ride_3 12 rfl rfl)
theorem dX8_ride_86 : decode cX8_ride 86 = .ok (.aload_n 0, 1) := dk_42 (dk_at dksX8_ride_3 15 rfl rfl)
theorem dX8_ride_87 : decode cX8_ride 87 = .ok (.getfield 367, 3) := dk_180 1 111 (dk_at dksX8_ride_3 16 rfl rfl)
theorem dX8_ride_90 : decode cX8_ride 90 = .ok (.iaload, 1) := dk_46 (dk_at dksX8_ride_3 19 rfl rfl)
theorem dX8_ride_91 : decode cX8_ride 91 = .ok (.goto 20, 3) := dk_167 0 20 (dk_at dksX8_ride_3 20 rfl rfl)
theorem dX8_ride_94 : decode cX8_ride 94 = .ok (.iload 4, 2) := dk_21 4 (dk_at dksX8_ride_4 0 rfl rfl)
theorem dX8_ride_96 : decode cX8_ride 96 = .ok (.iconst 1, 1) := dk_4 (dk_at dksX8_ride_4 2 rfl rfl)
theorem dX8_ride_97 : decode cX8_ride 97 = .ok (.if_icmp .ne 10, 3) := dk_160 0 10 (dk_at dksX8_ride_4 3 rfl rfl)
theorem dX8_ride_100 : decode cX8_ride 100 = .ok (.aload_n 0, 1) := dk_42 (dk_at dksX8_ride_4 6 rfl rfl)
theorem dX8_ride_101 : decode cX8_ride 101 = .ok (.getfield 367, 3) := dk_180 1 111 (dk_at dksX8_ride_4 7 rfl rfl)
theorem dX8_ride_104 : decode cX8_ride 104 = .ok (.goto 7, 3) := dk_167 0 7 (dk_at dksX8_ride_4 10 rfl rfl)
theorem dX8_ride_107 : decode cX8_ride 107 = .ok (.aload_n 0, 1) := dk_42 (dk_at dksX8_ride_4 13 rfl rfl)
theorem dX8_ride_108 : decode cX8_ride 108 = .ok (.getfield 370, 3) := dk_180 1 114 (dk_at dksX8_ride_4 14 rfl rfl)
theorem dX8_ride_111 : decode cX8_ride 111 = .ok (.ireturn, 1) := dk_172 (dk_at dksX8_ride_4 17 rfl rfl)
theorem dX8_ride_112 : decode cX8_ride 112 = .ok (.iload 4, 2) := dk_21 4 (dk_at dksX8_ride_4 18 rfl rfl)
theorem dX8_ride_114 : decode cX8_ride 114 = .ok (.iconst 3, 1) := dk_6 (dk_at dksX8_ride_4 20 rfl rfl)
theorem dX8_ride_115 : decode cX8_ride 115 = .ok (.if_icmp .ne 25, 3) := dk_160 0 25 (dk_at dksX8_ride_4 21 rfl rfl)
theorem dX8_ride_118 : decode cX8_ride 118 = .ok (.aload_n 0, 1) := dk_42 (dk_at dksX8_ride_5 0 rfl rfl)
theorem dX8_ride_119 : decode cX8_ride 119 = .ok (.invokevirtual 387, 3) := dk_182 1 131 (dk_at dksX8_ride_5 1 rfl rfl)
theorem dX8_ride_122 : decode cX8_ride 122 = .ok (.invokestatic 390, 3) := dk_184 1 134 (dk_at dksX8_ride_5 4 rfl rfl)
theorem dX8_ride_125 : decode cX8_ride 125 = .ok (.aload_n 0, 1) := dk_42 (dk_at dksX8_ride_5 7 rfl rfl)
theorem dX8_ride_126 : decode cX8_ride 126 = .ok (.getfield 367, 3) := dk_180 1 111 (dk_at dksX8_ride_5 8 rfl rfl)
theorem dX8_ride_129 : decode cX8_ride 129 = .ok (.if_icmp .gt 7, 3) := dk_163 0 7 (dk_at dksX8_ride_5 11 rfl rfl)
theorem dX8_ride_132 : decode cX8_ride 132 = .ok (.iconst 1, 1) := dk_4 (dk_at dksX8_ride_5 14 rfl rfl)
theorem dX8_ride_133 : decode cX8_ride 133 = .ok (.goto 24, 3) := dk_167 0 24 (dk_at dksX8_ride_5 15 rfl rfl)
theorem dX8_ride_136 : decode cX8_ride 136 = .ok (.iconst 0, 1) := dk_3 (dk_at dksX8_ride_5 18 rfl rfl)
theorem dX8_ride_137 : decode cX8_ride 137 = .ok (.goto 20, 3) := dk_167 0 20 (dk_at dksX8_ride_5 19 rfl rfl)
theorem dX8_ride_140 : decode cX8_ride 140 = .ok (.iload 4, 2) := dk_21 4 (dk_at dksX8_ride_5 22 rfl rfl)
theorem dX8_ride_142 : decode cX8_ride 142 = .ok (.iconst 4, 1) := dk_7 (dk_at dksX8_ride_6 0 rfl rfl)
theorem dX8_ride_143 : decode cX8_ride 143 = .ok (.if_icmp .ne 10, 3) := dk_160 0 10 (dk_at dksX8_ride_6 1 rfl rfl)
theorem dX8_ride_146 : decode cX8_ride 146 = .ok (.aload_n 0, 1) := dk_42 (dk_at dksX8_ride_6 4 rfl rfl)
theorem dX8_ride_147 : decode cX8_ride 147 = .ok (.invokevirtual 387, 3) := dk_182 1 131 (dk_at dksX8_ride_6 5 rfl rfl)
theorem dX8_ride_150 : decode cX8_ride 150 = .ok (.goto 7, 3) := dk_167 0 7 (dk_at dksX8_ride_6 8 rfl rfl)
theorem dX8_ride_153 : decode cX8_ride 153 = .ok (.aload_n 0, 1) := dk_42 (dk_at dksX8_ride_6 11 rfl rfl)
theorem dX8_ride_154 : decode cX8_ride 154 = .ok (.getfield 373, 3) := dk_180 1 117 (dk_at dksX8_ride_6 12 rfl rfl)
theorem dX8_ride_157 : decode cX8_ride 157 = .ok (.ireturn, 1) := dk_172 (dk_at dksX8_ride_6 15 rfl rfl)
abbrev cX8_rides : ByteArray := prog_16_method_75_code
def yX8_rides : MethodName := ⟨RX8, "rides", "(III)V"⟩
def dkwX8_rides_8 : List UInt8 := [96, 181, 1, 111, 42, 180, 0, 38, 42, 180, 1, 111, 21, 8, 79, 167, 255, 82, 177]
abbrev dktX8_rides_8 : List UInt8 := dkwX8_rides_8 ++ []
def dkwX8_rides_7 : List UInt8 := [180, 1, 117, 21, 6, 27, 160, 0, 7, 4, 167, 0, 4, 3, 96, 181, 1, 117, 42, 89, 180, 1, 111, 4]
abbrev dktX8_rides_7 : List UInt8 := dkwX8_rides_7 ++ dktX8_rides_8
def dkwX8_rides_6 : List UInt8 := [180, 1, 114, 42, 180, 0, 26, 16, 8, 21, 5, 104, 21, 8, 96, 46, 96, 181, 1, 114, 42, 89]
abbrev dktX8_rides_6 : List UInt8 := dkwX8_rides_6 ++ dktX8_rides_7
def dkwX8_rides_5 : List UInt8 := [167, 0, 4, 3, 54, 4, 21, 4, 153, 0, 76, 42, 21, 5, 21, 7, 182, 1, 120, 54, 8, 42, 89]
abbrev dktX8_rides_5 : List UInt8 := dkwX8_rides_5 ++ dktX8_rides_6
def dkwX8_rides_4 : List UInt8 := [159, 0, 26, 42, 180, 0, 35, 16, 8, 21, 5, 104, 21, 7, 96, 46, 17, 3, 231, 162, 0, 7, 4]
abbrev dktX8_rides_4 : List UInt8 := dkwX8_rides_4 ++ dktX8_rides_5
def dkwX8_rides_3 : List UInt8 := [162, 0, 49, 42, 27, 28, 21, 5, 42, 180, 1, 111, 182, 1, 104, 6, 159, 0, 33, 21, 5, 21, 7]
abbrev dktX8_rides_3 : List UInt8 := dkwX8_rides_3 ++ dktX8_rides_4
def dkwX8_rides_2 : List UInt8 := [180, 1, 111, 182, 1, 108, 54, 6, 42, 21, 6, 182, 1, 77, 54, 7, 42, 180, 1, 111, 16, 40]
abbrev dktX8_rides_2 : List UInt8 := dkwX8_rides_2 ++ dktX8_rides_3
def dkwX8_rides_1 : List UInt8 := [54, 4, 21, 4, 153, 0, 175, 42, 180, 0, 38, 42, 180, 1, 111, 46, 54, 5, 42, 27, 28, 21, 5, 42]
abbrev dktX8_rides_1 : List UInt8 := dkwX8_rides_1 ++ dktX8_rides_2
def dkwX8_rides_0 : List UInt8 := [42, 180, 0, 38, 3, 29, 79, 42, 3, 181, 1, 111, 42, 3, 181, 1, 114, 42, 3, 181, 1, 117, 4]
abbrev dktX8_rides_0 : List UInt8 := dkwX8_rides_0 ++ dktX8_rides_1
theorem dksX8_rides_0 : cX8_rides.data.toList.drop 0 = dktX8_rides_0 := by decide +kernel
theorem dksX8_rides_1 : cX8_rides.data.toList.drop 23 = dktX8_rides_1 := dk_seg dksX8_rides_0 23 rfl rfl
theorem dksX8_rides_2 : cX8_rides.data.toList.drop 47 = dktX8_rides_2 := dk_seg dksX8_rides_1 24 rfl rfl
theorem dksX8_rides_3 : cX8_rides.data.toList.drop 69 = dktX8_rides_3 := dk_seg dksX8_rides_2 22 rfl rfl
theorem dksX8_rides_4 : cX8_rides.data.toList.drop 92 = dktX8_rides_4 := dk_seg dksX8_rides_3 23 rfl rfl
theorem dksX8_rides_5 : cX8_rides.data.toList.drop 115 = dktX8_rides_5 := dk_seg dksX8_rides_4 23 rfl rfl
theorem dksX8_rides_6 : cX8_rides.data.toList.drop 138 = dktX8_rides_6 := dk_seg dksX8_rides_5 23 rfl rfl
theorem dksX8_rides_7 : cX8_rides.data.toList.drop 160 = dktX8_rides_7 := dk_seg dksX8_rides_6 22 rfl rfl
theorem dksX8_rides_8 : cX8_rides.data.toList.drop 184 = dktX8_rides_8 := dk_seg dksX8_rides_7 24 rfl rfl
theorem dX8_rides_0 : decode cX8_rides 0 = .ok (.aload_n 0, 1) := dk_42 (dk_at dksX8_rides_0 0 rfl rfl)
theorem dX8_rides_1 : decode cX8_rides 1 = .ok (.getfield 38, 3) := dk_180 0 38 (dk_at dksX8_rides_0 1 rfl rfl)
theorem dX8_rides_4 : decode cX8_rides 4 = .ok (.iconst 0, 1) := dk_3 (dk_at dksX8_rides_0 4 rfl rfl)
theorem dX8_rides_5 : decode cX8_rides 5 = .ok (.iload_n 3, 1) := dk_29 (dk_at dksX8_rides_0 5 rfl rfl)
theorem dX8_rides_6 : decode cX8_rides 6 = .ok (.iastore, 1) := dk_79 (dk_at dksX8_rides_0 6 rfl rfl)
theorem dX8_rides_7 : decode cX8_rides 7 = .ok (.aload_n 0, 1) := dk_42 (dk_at dksX8_rides_0 7 rfl rfl)
theorem dX8_rides_8 : decode cX8_rides 8 = .ok (.iconst 0, 1) := dk_3 (dk_at dksX8_rides_0 8 rfl rfl)
theorem dX8_rides_9 : decode cX8_rides 9 = .ok (.putfield 367, 3) := dk_181 1 111 (dk_at dksX8_rides_0 9 rfl rfl)
theorem dX8_rides_12 : decode cX8_rides 12 = .ok (.aload_n 0, 1) := dk_42 (dk_at dksX8_rides_0 12 rfl rfl)
theorem dX8_rides_13 : decode cX8_rides 13 = .ok (.iconst 0, 1) := dk_3 (dk_at dksX8_rides_0 13 rfl rfl)
theorem dX8_rides_14 : decode cX8_rides 14 = .ok (.putfield 370, 3) := dk_181 1 114 (dk_at dksX8_rides_0 14 rfl rfl)
theorem dX8_rides_17 : decode cX8_rides 17 = .ok (.aload_n 0, 1) := dk_42 (dk_at dksX8_rides_0 17 rfl rfl)
theorem dX8_rides_18 : decode cX8_rides 18 = .ok (.iconst 0, 1) := dk_3 (dk_at dksX8_rides_0 18 rfl rfl)
theorem dX8_rides_19 : decode cX8_rides 19 = .ok (.putfield 373, 3) := dk_181 1 117 (dk_at dksX8_rides_0 19 rfl rfl)
theorem dX8_rides_22 : decode cX8_rides 22 = .ok (.iconst 1, 1) := dk_4 (dk_at dksX8_rides_0 22 rfl rfl)
theorem dX8_rides_23 : decode cX8_rides 23 = .ok (.istore 4, 2) := dk_54 4 (dk_at dksX8_rides_1 0 rfl rfl)
theorem dX8_rides_25 : decode cX8_rides 25 = .ok (.iload 4, 2) := dk_21 4 (dk_at dksX8_rides_1 2 rfl rfl)
theorem dX8_rides_27 : decode cX8_rides 27 = .ok (.ifCond .eq 175, 3) := dk_153 0 175 (dk_at dksX8_rides_1 4 rfl rfl)
theorem dX8_rides_30 : decode cX8_rides 30 = .ok (.aload_n 0, 1) := dk_42 (dk_at dksX8_rides_1 7 rfl rfl)
theorem dX8_rides_31 : decode cX8_rides 31 = .ok (.getfield 38, 3) := dk_180 0 38 (dk_at dksX8_rides_1 8 rfl rfl)
theorem dX8_rides_34 : decode cX8_rides 34 = .ok (.aload_n 0, 1) := dk_42 (dk_at dksX8_rides_1 11 rfl rfl)
theorem dX8_rides_35 : decode cX8_rides 35 = .ok (.getfield 367, 3) := dk_180 1 111 (dk_at dksX8_rides_1 12 rfl rfl)
theorem dX8_rides_38 : decode cX8_rides 38 = .ok (.iaload, 1) := dk_46 (dk_at dksX8_rides_1 15 rfl rfl)
theorem dX8_rides_39 : decode cX8_rides 39 = .ok (.istore 5, 2) := dk_54 5 (dk_at dksX8_rides_1 16 rfl rfl)
theorem dX8_rides_41 : decode cX8_rides 41 = .ok (.aload_n 0, 1) := dk_42 (dk_at dksX8_rides_1 18 rfl rfl)
theorem dX8_rides_42 : decode cX8_rides 42 = .ok (.iload_n 1, 1) := dk_27 (dk_at dksX8_rides_1 19 rfl rfl)
theorem dX8_rides_43 : decode cX8_rides 43 = .ok (.iload_n 2, 1) := dk_28 (dk_at dksX8_rides_1 20 rfl rfl)
theorem dX8_rides_44 : decode cX8_rides 44 = .ok (.iload 5, 2) := dk_21 5 (dk_at dksX8_rides_1 21 rfl rfl)
theorem dX8_rides_46 : decode cX8_rides 46 = .ok (.aload_n 0, 1) := dk_42 (dk_at dksX8_rides_1 23 rfl rfl)
theorem dX8_rides_47 : decode cX8_rides 47 = .ok (.getfield 367, 3) := dk_180 1 111 (dk_at dksX8_rides_2 0 rfl rfl)
theorem dX8_rides_50 : decode cX8_rides 50 = .ok (.invokevirtual 364, 3) := dk_182 1 108 (dk_at dksX8_rides_2 3 rfl rfl)
theorem dX8_rides_53 : decode cX8_rides 53 = .ok (.istore 6, 2) := dk_54 6 (dk_at dksX8_rides_2 6 rfl rfl)
theorem dX8_rides_55 : decode cX8_rides 55 = .ok (.aload_n 0, 1) := dk_42 (dk_at dksX8_rides_2 8 rfl rfl)
theorem dX8_rides_56 : decode cX8_rides 56 = .ok (.iload 6, 2) := dk_21 6 (dk_at dksX8_rides_2 9 rfl rfl)
theorem dX8_rides_58 : decode cX8_rides 58 = .ok (.invokevirtual 333, 3) := dk_182 1 77 (dk_at dksX8_rides_2 11 rfl rfl)
theorem dX8_rides_61 : decode cX8_rides 61 = .ok (.istore 7, 2) := dk_54 7 (dk_at dksX8_rides_2 14 rfl rfl)
theorem dX8_rides_63 : decode cX8_rides 63 = .ok (.aload_n 0, 1) := dk_42 (dk_at dksX8_rides_2 16 rfl rfl)
theorem dX8_rides_64 : decode cX8_rides 64 = .ok (.getfield 367, 3) := dk_180 1 111 (dk_at dksX8_rides_2 17 rfl rfl)
theorem dX8_rides_67 : decode cX8_rides 67 = .ok (.bipush 40, 2) := dk_16 40 (dk_at dksX8_rides_2 20 rfl rfl)
theorem dX8_rides_69 : decode cX8_rides 69 = .ok (.if_icmp .ge 49, 3) := dk_162 0 49 (dk_at dksX8_rides_3 0 rfl rfl)
theorem dX8_rides_72 : decode cX8_rides 72 = .ok (.aload_n 0, 1) := dk_42 (dk_at dksX8_rides_3 3 rfl rfl)
theorem dX8_rides_73 : decode cX8_rides 73 = .ok (.iload_n 1, 1) := dk_27 (dk_at dksX8_rides_3 4 rfl rfl)
theorem dX8_rides_74 : decode cX8_rides 74 = .ok (.iload_n 2, 1) := dk_28 (dk_at dksX8_rides_3 5 rfl rfl)
theorem dX8_rides_75 : decode cX8_rides 75 = .ok (.iload 5, 2) := dk_21 5 (dk_at dksX8_rides_3 6 rfl rfl)
theorem dX8_rides_77 : decode cX8_rides 77 = .ok (.aload_n 0, 1) := dk_42 (dk_at dksX8_rides_3 8 rfl rfl)
theorem dX8_rides_78 : decode cX8_rides 78 = .ok (.getfield 367, 3) := dk_180 1 111 (dk_at dksX8_rides_3 9 rfl rfl)
theorem dX8_rides_81 : decode cX8_rides 81 = .ok (.invokevirtual 360, 3) := dk_182 1 104 (dk_at dksX8_rides_3 12 rfl rfl)
theorem dX8_rides_84 : decode cX8_rides 84 = .ok (.iconst 3, 1) := dk_6 (dk_at dksX8_rides_3 15 rfl rfl)
theorem dX8_rides_85 : decode cX8_rides 85 = .ok (.if_icmp .eq 33, 3) := dk_159 0 33 (dk_at dksX8_rides_3 16 rfl rfl)
theorem dX8_rides_88 : decode cX8_rides 88 = .ok (.iload 5, 2) := dk_21 5 (dk_at dksX8_rides_3 19 rfl rfl)
theorem dX8_rides_90 : decode cX8_rides 90 = .ok (.iload 7, 2) := dk_21 7 (dk_at dksX8_rides_3 21 rfl rfl)
theorem dX8_rides_92 : decode cX8_rides 92 = .ok (.if_icmp .eq 26, 3) := dk_159 0 26 (dk_at dksX8_rides_4 0 rfl rfl)
theorem dX8_rides_95 : decode cX8_rides 95 = .ok (.aload_n 0, 1) := dk_42 (dk_at dksX8_rides_4 3 rfl rfl)
theorem dX8_rides_96 : decode cX8_rides 96 = .ok (.getfield 35, 3) := dk_180 0 35 (dk_at dksX8_rides_4 4 rfl rfl)
theorem dX8_rides_99 : decode cX8_rides 99 = .ok (.bipush 8, 2) := dk_16 8 (dk_at dksX8_rides_4 7 rfl rfl)
theorem dX8_rides_101 : decode cX8_rides 101 = .ok (.iload 5, 2) := dk_21 5 (dk_at dksX8_rides_4 9 rfl rfl)
theorem dX8_rides_103 : decode cX8_rides 103 = .ok (.imul, 1) := dk_104 (dk_at dksX8_rides_4 11 rfl rfl)
theorem dX8_rides_104 : decode cX8_rides 104 = .ok (.iload 7, 2) := dk_21 7 (dk_at dksX8_rides_4 12 rfl rfl)
theorem dX8_rides_106 : decode cX8_rides 106 = .ok (.iadd, 1) := dk_96 (dk_at dksX8_rides_4 14 rfl rfl)
theorem dX8_rides_107 : decode cX8_rides 107 = .ok (.iaload, 1) := dk_46 (dk_at dksX8_rides_4 15 rfl rfl)
theorem dX8_rides_108 : decode cX8_rides 108 = .ok (.sipush 999, 3) := dk_17 3 231 (dk_at dksX8_rides_4 16 rfl rfl)
theorem dX8_rides_111 : decode cX8_rides 111 = .ok (.if_icmp .ge 7, 3) := dk_162 0 7 (dk_at dksX8_rides_4 19 rfl rfl)
theorem dX8_rides_114 : decode cX8_rides 114 = .ok (.iconst 1, 1) := dk_4 (dk_at dksX8_rides_4 22 rfl rfl)
theorem dX8_rides_115 : decode cX8_rides 115 = .ok (.goto 4, 3) := dk_167 0 4 (dk_at dksX8_rides_5 0 rfl rfl)
theorem dX8_rides_118 : decode cX8_rides 118 = .ok (.iconst 0, 1) := dk_3 (dk_at dksX8_rides_5 3 rfl rfl)
theorem dX8_rides_119 : decode cX8_rides 119 = .ok (.istore 4, 2) := dk_54 4 (dk_at dksX8_rides_5 4 rfl rfl)
theorem dX8_rides_121 : decode cX8_rides 121 = .ok (.iload 4, 2) := dk_21 4 (dk_at dksX8_rides_5 6 rfl rfl)
theorem dX8_rides_123 : decode cX8_rides 123 = .ok (.ifCond .eq 76, 3) := dk_153 0 76 (dk_at dksX8_rides_5 8 rfl rfl)
theorem dX8_rides_126 : decode cX8_rides 126 = .ok (.aload_n 0, 1) := dk_42 (dk_at dksX8_rides_5 11 rfl rfl)
theorem dX8_rides_127 : decode cX8_rides 127 = .ok (.iload 5, 2) := dk_21 5 (dk_at dksX8_rides_5 12 rfl rfl)
theorem dX8_rides_129 : decode cX8_rides 129 = .ok (.iload 7, 2) := dk_21 7 (dk_at dksX8_rides_5 14 rfl rfl)
theorem dX8_rides_131 : decode cX8_rides 131 = .ok (.invokevirtual 376, 3) := dk_182 1 120 (dk_at dksX8_rides_5 16 rfl rfl)
theorem dX8_rides_134 : decode cX8_rides 134 = .ok (.istore 8, 2) := dk_54 8 (dk_at dksX8_rides_5 19 rfl rfl)
theorem dX8_rides_136 : decode cX8_rides 136 = .ok (.aload_n 0, 1) := dk_42 (dk_at dksX8_rides_5 21 rfl rfl)
theorem dX8_rides_137 : decode cX8_rides 137 = .ok (.dup, 1) := dk_89 (dk_at dksX8_rides_5 22 rfl rfl)
theorem dX8_rides_138 : decode cX8_rides 138 = .ok (.getfield 370, 3) := dk_180 1 114 (dk_at dksX8_rides_6 0 rfl rfl)
theorem dX8_rides_141 : decode cX8_rides 141 = .ok (.aload_n 0, 1) := dk_42 (dk_at dksX8_rides_6 3 rfl rfl)
theorem dX8_rides_142 : decode cX8_rides 142 = .ok (.getfield 26, 3) := dk_180 0 26 (dk_at dksX8_rides_6 4 rfl rfl)
theorem dX8_rides_145 : decode cX8_rides 145 = .ok (.bipush 8, 2) := dk_16 8 (dk_at dksX8_rides_6 7 rfl rfl)
theorem dX8_rides_147 : decode cX8_rides 147 = .ok (.iload 5, 2) := dk_21 5 (dk_at dksX8_rides_6 9 rfl rfl)
theorem dX8_rides_149 : decode cX8_rides 149 = .ok (.imul, 1) := dk_104 (dk_at dksX8_rides_6 11 rfl rfl)
theorem dX8_rides_150 : decode cX8_rides 150 = .ok (.iload 8, 2) := dk_21 8 (dk_at dksX8_rides_6 12 rfl rfl)
theorem dX8_rides_152 : decode cX8_rides 152 = .ok (.iadd, 1) := dk_96 (dk_at dksX8_rides_6 14 rfl rfl)
theorem dX8_rides_153 : decode cX8_rides 153 = .ok (.iaload, 1) := dk_46 (dk_at dksX8_rides_6 15 rfl rfl)
theorem dX8_rides_154 : decode cX8_rides 154 = .ok (.iadd, 1) := dk_96 (dk_at dksX8_rides_6 16 rfl rfl)
theorem dX8_rides_155 : decode cX8_rides 155 = .ok (.putfield 370, 3) := dk_181 1 114 (dk_at dksX8_rides_6 17 rfl rfl)
theorem dX8_rides_158 : decode cX8_rides 158 = .ok (.aload_n 0, 1) := dk_42 (dk_at dksX8_rides_6 20 rfl rfl)
theorem dX8_rides_159 : decode cX8_rides 159 = .ok (.dup, 1) := dk_89 (dk_at dksX8_rides_6 21 rfl rfl)
theorem dX8_rides_160 : decode cX8_rides 160 = .ok (.getfield 373, 3) := dk_180 1 117 (dk_at dksX8_rides_7 0 rfl rfl)
theorem dX8_rides_163 : decode cX8_rides 163 = .ok (.iload 6, 2) := dk_21 6 (dk_at dksX8_rides_7 3 rfl rfl)
theorem dX8_rides_165 : decode cX8_rides 165 = .ok (.iload_n 1, 1) := dk_27 (dk_at dksX8_rides_7 5 rfl rfl)
theorem dX8_rides_166 : decode cX8_rides 166 = .ok (.if_icmp .ne 7, 3) := dk_160 0 7 (dk_at dksX8_rides_7 6 rfl rfl)
theorem dX8_rides_169 : decode cX8_rides 169 = .ok (.iconst 1, 1) := dk_4 (dk_at dksX8_rides_7 9 rfl rfl)
theorem dX8_rides_170 : decode cX8_rides 170 = .ok (.goto 4, 3) := dk_167 0 4 (dk_at dksX8_rides_7 10 rfl rfl)
theorem dX8_rides_173 : decode cX8_rides 173 = .ok (.iconst 0, 1) := dk_3 (dk_at dksX8_rides_7 13 rfl rfl)
theorem dX8_rides_174 : decode cX8_rides 174 = .ok (.iadd, 1) := dk_96 (dk_at dksX8_rides_7 14 rfl rfl)
theorem dX8_rides_175 : decode cX8_rides 175 = .ok (.putfield 373, 3) := dk_181 1 117 (dk_at dksX8_rides_7 15 rfl rfl)
theorem dX8_rides_178 : decode cX8_rides 178 = .ok (.aload_n 0, 1) := dk_42 (dk_at dksX8_rides_7 18 rfl rfl)
theorem dX8_rides_179 : decode cX8_rides 179 = .ok (.dup, 1) := dk_89 (dk_at dksX8_rides_7 19 rfl rfl)
theorem dX8_rides_180 : decode cX8_rides 180 = .ok (.getfield 367, 3) := dk_180 1 111 (dk_at dksX8_rides_7 20 rfl rfl)
theorem dX8_rides_183 : decode cX8_rides 183 = .ok (.iconst 1, 1) := dk_4 (dk_at dksX8_rides_7 23 rfl rfl)
theorem dX8_rides_184 : decode cX8_rides 184 = .ok (.iadd, 1) := dk_96 (dk_at dksX8_rides_8 0 rfl rfl)
theorem dX8_rides_185 : decode cX8_rides 185 = .ok (.putfield 367, 3) := dk_181 1 111 (dk_at dksX8_rides_8 1 rfl rfl)
theorem dX8_rides_188 : decode cX8_rides 188 = .ok (.aload_n 0, 1) := dk_42 (dk_at dksX8_rides_8 4 rfl rfl)
theorem dX8_rides_189 : decode cX8_rides 189 = .ok (.getfield 38, 3) := dk_180 0 38 (dk_at dksX8_rides_8 5 rfl rfl)
theorem dX8_rides_192 : decode cX8_rides 192 = .ok (.aload_n 0, 1) := dk_42 (dk_at dksX8_rides_8 8 rfl rfl)
theorem dX8_rides_193 : decode cX8_rides 193 = .ok (.getfield 367, 3) := dk_180 1 111 (dk_at dksX8_rides_8 9 rfl rfl)
theorem dX8_rides_196 : decode cX8_rides 196 = .ok (.iload 8, 2) := dk_21 8 (dk_at dksX8_rides_8 12 rfl rfl)
theorem dX8_rides_198 : decode cX8_rides 198 = .ok (.iastore, 1) := dk_79 (dk_at dksX8_rides_8 14 rfl rfl)
theorem dX8_rides_199 : decode cX8_rides 199 = .ok (.goto (-174), 3) := dk_167 255 82 (dk_at dksX8_rides_8 15 rfl rfl)
theorem dX8_rides_202 : decode cX8_rides 202 = .ok (.return_, 1) := dk_177 (dk_at dksX8_rides_8 18 rfl rfl)
abbrev cX8_nextFrom : ByteArray := prog_16_method_74_code
def yX8_nextFrom : MethodName := ⟨RX8, "nextFrom", "(II)I"⟩
def dkwX8_nextFrom_3 : List UInt8 := [132, 5, 1, 167, 255, 191, 29, 172]
abbrev dktX8_nextFrom_3 : List UInt8 := dkwX8_nextFrom_3 ++ []
def dkwX8_nextFrom_2 : List UInt8 := [21, 6, 158, 0, 22, 29, 2, 159, 0, 10, 21, 7, 21, 4, 162, 0, 10, 21, 5, 62, 21, 7, 54, 4]
abbrev dktX8_nextFrom_2 : List UInt8 := dkwX8_nextFrom_2 ++ dktX8_nextFrom_3
def dkwX8_nextFrom_1 : List UInt8 := [21, 5, 96, 46, 54, 6, 21, 6, 42, 180, 0, 35, 16, 8, 21, 5, 104, 28, 96, 46, 96, 54, 7]
abbrev dktX8_nextFrom_1 : List UInt8 := dkwX8_nextFrom_1 ++ dktX8_nextFrom_2
def dkwX8_nextFrom_0 : List UInt8 := [2, 62, 3, 54, 4, 3, 54, 5, 21, 5, 16, 8, 162, 0, 64, 42, 180, 0, 26, 16, 8, 27, 104]
abbrev dktX8_nextFrom_0 : List UInt8 := dkwX8_nextFrom_0 ++ dktX8_nextFrom_1
theorem dksX8_nextFrom_0 : cX8_nextFrom.data.toList.drop 0 = dktX8_nextFrom_0 := by decide +kernel
theorem dksX8_nextFrom_1 : cX8_nextFrom.data.toList.drop 23 = dktX8_nextFrom_1 := dk_seg dksX8_nextFrom_0 23 rfl rfl
theorem dksX8_nextFrom_2 : cX8_nextFrom.data.toList.drop 46 = dktX8_nextFrom_2 := dk_seg dksX8_nextFrom_1 23 rfl rfl
theorem dksX8_nextFrom_3 : cX8_nextFrom.data.toList.drop 70 = dktX8_nextFrom_3 := dk_seg dksX8_nextFrom_2 24 rfl rfl
theorem dX8_nextFrom_0 : decode cX8_nextFrom 0 = .ok (.iconst (-1), 1) := dk_2 (dk_at dksX8_nextFrom_0 0 rfl rfl)
theorem dX8_nextFrom_1 : decode cX8_nextFrom 1 = .ok (.istore_n 3, 1) := dk_62 (dk_at dksX8_nextFrom_0 1 rfl rfl)
theorem dX8_nextFrom_2 : decode cX8_nextFrom 2 = .ok (.iconst 0, 1) := dk_3 (dk_at dksX8_nextFrom_0 2 rfl rfl)
theorem dX8_nextFrom_3 : decode cX8_nextFrom 3 = .ok (.istore 4, 2) := dk_54 4 (dk_at dksX8_nextFrom_0 3 rfl rfl)
theorem dX8_nextFrom_5 : decode cX8_nextFrom 5 = .ok (.iconst 0, 1) := dk_3 (dk_at dksX8_nextFrom_0 5 rfl rfl)
theorem dX8_nextFrom_6 : decode cX8_nextFrom 6 = .ok (.istore 5, 2) := dk_54 5 (dk_at dksX8_nextFrom_0 6 rfl rfl)
theorem dX8_nextFrom_8 : decode cX8_nextFrom 8 = .ok (.iload 5, 2) := dk_21 5 (dk_at dksX8_nextFrom_0 8 rfl rfl)
theorem dX8_nextFrom_10 : decode cX8_nextFrom 10 = .ok (.bipush 8, 2) := dk_16 8 (dk_at dksX8_nextFrom_0 10 rfl rfl)
theorem dX8_nextFrom_12 : decode cX8_nextFrom 12 = .ok (.if_icmp .ge 64, 3) := dk_162 0 64 (dk_at dksX8_nextFrom_0 12 rfl rfl)
theorem dX8_nextFrom_15 : decode cX8_nextFrom 15 = .ok (.aload_n 0, 1) := dk_42 (dk_at dksX8_nextFrom_0 15 rfl rfl)
theorem dX8_nextFrom_16 : decode cX8_nextFrom 16 = .ok (.getfield 26, 3) := dk_180 0 26 (dk_at dksX8_nextFrom_0 16 rfl rfl)
theorem dX8_nextFrom_19 : decode cX8_nextFrom 19 = .ok (.bipush 8, 2) := dk_16 8 (dk_at dksX8_nextFrom_0 19 rfl rfl)
theorem dX8_nextFrom_21 : decode cX8_nextFrom 21 = .ok (.iload_n 1, 1) := dk_27 (dk_at dksX8_nextFrom_0 21 rfl rfl)
theorem dX8_nextFrom_22 : decode cX8_nextFrom 22 = .ok (.imul, 1) := dk_104 (dk_at dksX8_nextFrom_0 22 rfl rfl)
theorem dX8_nextFrom_23 : decode cX8_nextFrom 23 = .ok (.iload 5, 2) := dk_21 5 (dk_at dksX8_nextFrom_1 0 rfl rfl)
theorem dX8_nextFrom_25 : decode cX8_nextFrom 25 = .ok (.iadd, 1) := dk_96 (dk_at dksX8_nextFrom_1 2 rfl rfl)
theorem dX8_nextFrom_26 : decode cX8_nextFrom 26 = .ok (.iaload, 1) := dk_46 (dk_at dksX8_nextFrom_1 3 rfl rfl)
theorem dX8_nextFrom_27 : decode cX8_nextFrom 27 = .ok (.istore 6, 2) := dk_54 6 (dk_at dksX8_nextFrom_1 4 rfl rfl)
theorem dX8_nextFrom_29 : decode cX8_nextFrom 29 = .ok (.iload 6, 2) := dk_21 6 (dk_at dksX8_nextFrom_1 6 rfl rfl)
theorem dX8_nextFrom_31 : decode cX8_nextFrom 31 = .ok (.aload_n 0, 1) := dk_42 (dk_at dksX8_nextFrom_1 8 rfl rfl)
theorem dX8_nextFrom_32 : decode cX8_nextFrom 32 = .ok (.getfield 35, 3) := dk_180 0 35 (dk_at dksX8_nextFrom_1 9 rfl rfl)
theorem dX8_nextFrom_35 : decode cX8_nextFrom 35 = .ok (.bipush 8, 2) := dk_16 8 (dk_at dksX8_nextFrom_1 12 rfl rfl)
theorem dX8_nextFrom_37 : decode cX8_nextFrom 37 = .ok (.iload 5, 2) := dk_21 5 (dk_at dksX8_nextFrom_1 14 rfl rfl)
theorem dX8_nextFrom_39 : decode cX8_nextFrom 39 = .ok (.imul, 1) := dk_104 (dk_at dksX8_nextFrom_1 16 rfl rfl)
theorem dX8_nextFrom_40 : decode cX8_nextFrom 40 = .ok (.iload_n 2, 1) := dk_28 (dk_at dksX8_nextFrom_1 17 rfl rfl)
theorem dX8_nextFrom_41 : decode cX8_nextFrom 41 = .ok (.iadd, 1) := dk_96 (dk_at dksX8_nextFrom_1 18 rfl rfl)
theorem dX8_nextFrom_42 : decode cX8_nextFrom 42 = .ok (.iaload, 1) := dk_46 (dk_at dksX8_nextFrom_1 19 rfl rfl)
theorem dX8_nextFrom_43 : decode cX8_nextFrom 43 = .ok (.iadd, 1) := dk_96 (dk_at dksX8_nextFrom_1 20 rfl rfl)
theorem dX8_nextFrom_44 : decode cX8_nextFrom 44 = .ok (.istore 7, 2) := dk_54 7 (dk_at dksX8_nextFrom_1 21 rfl rfl)
theorem dX8_nextFrom_46 : decode cX8_nextFrom 46 = .ok (.iload 6, 2) := dk_21 6 (dk_at dksX8_nextFrom_2 0 rfl rfl)
theorem dX8_nextFrom_48 : decode cX8_nextFrom 48 = .ok (.ifCond .le 22, 3) := dk_158 0 22 (dk_at dksX8_nextFrom_2 2 rfl rfl)
theorem dX8_nextFrom_51 : decode cX8_nextFrom 51 = .ok (.iload_n 3, 1) := dk_29 (dk_at dksX8_nextFrom_2 5 rfl rfl)
theorem dX8_nextFrom_52 : decode cX8_nextFrom 52 = .ok (.iconst (-1), 1) := dk_2 (dk_at dksX8_nextFrom_2 6 rfl rfl)
theorem dX8_nextFrom_53 : decode cX8_nextFrom 53 = .ok (.if_icmp .eq 10, 3) := dk_159 0 10 (dk_at dksX8_nextFrom_2 7 rfl rfl)
theorem dX8_nextFrom_56 : decode cX8_nextFrom 56 = .ok (.iload 7, 2) := dk_21 7 (dk_at dksX8_nextFrom_2 10 rfl rfl)
theorem dX8_nextFrom_58 : decode cX8_nextFrom 58 = .ok (.iload 4, 2) := dk_21 4 (dk_at dksX8_nextFrom_2 12 rfl rfl)
theorem dX8_nextFrom_60 : decode cX8_nextFrom 60 = .ok (.if_icmp .ge 10, 3) := dk_162 0 10 (dk_at dksX8_nextFrom_2 14 rfl rfl)
theorem dX8_nextFrom_63 : decode cX8_nextFrom 63 = .ok (.iload 5, 2) := dk_21 5 (dk_at dksX8_nextFrom_2 17 rfl rfl)
theorem dX8_nextFrom_65 : decode cX8_nextFrom 65 = .ok (.istore_n 3, 1) := dk_62 (dk_at dksX8_nextFrom_2 19 rfl rfl)
theorem dX8_nextFrom_66 : decode cX8_nextFrom 66 = .ok (.iload 7, 2) := dk_21 7 (dk_at dksX8_nextFrom_2 20 rfl rfl)
theorem dX8_nextFrom_68 : decode cX8_nextFrom 68 = .ok (.istore 4, 2) := dk_54 4 (dk_at dksX8_nextFrom_2 22 rfl rfl)
theorem dX8_nextFrom_70 : decode cX8_nextFrom 70 = .ok (.iinc 5 1, 3) := dk_132 5 1 (dk_at dksX8_nextFrom_3 0 rfl rfl)
theorem dX8_nextFrom_73 : decode cX8_nextFrom 73 = .ok (.goto (-65), 3) := dk_167 255 191 (dk_at dksX8_nextFrom_3 3 rfl rfl)
theorem dX8_nextFrom_76 : decode cX8_nextFrom 76 = .ok (.iload_n 3, 1) := dk_29 (dk_at dksX8_nextFrom_3 6 rfl rfl)
theorem dX8_nextFrom_77 : decode cX8_nextFrom 77 = .ok (.ireturn, 1) := dk_172 (dk_at dksX8_nextFrom_3 7 rfl rfl)
abbrev cX8_behindSteps : ByteArray := prog_16_method_76_code
def yX8_behindSteps : MethodName := ⟨RX8, "behindSteps", "(I)I"⟩
def dkwX8_behindSteps_0 : List UInt8 := [42, 180, 0, 38, 27, 42, 180, 1, 111, 162, 0, 7, 27, 167, 0, 7, 42, 180, 1, 111, 46, 172]
abbrev dktX8_behindSteps_0 : List UInt8 := dkwX8_behindSteps_0 ++ []
theorem dksX8_behindSteps_0 : cX8_behindSteps.data.toList.drop 0 = dktX8_behindSteps_0 := by decide +kernel
theorem dX8_behindSteps_0 : decode cX8_behindSteps 0 = .ok (.aload_n 0, 1) := dk_42 (dk_at dksX8_behindSteps_0 0 rfl rfl)
theorem dX8_behindSteps_1 : decode cX8_behindSteps 1 = .ok (.getfield 38, 3) := dk_180 0 38 (dk_at dksX8_behindSteps_0 1 rfl rfl)
theorem dX8_behindSteps_4 : decode cX8_behindSteps 4 = .ok (.iload_n 1, 1) := dk_27 (dk_at dksX8_behindSteps_0 4 rfl rfl)
theorem dX8_behindSteps_5 : decode cX8_behindSteps 5 = .ok (.aload_n 0, 1) := dk_42 (dk_at dksX8_behindSteps_0 5 rfl rfl)
theorem dX8_behindSteps_6 : decode cX8_behindSteps 6 = .ok (.getfield 367, 3) := dk_180 1 111 (dk_at dksX8_behindSteps_0 6 rfl rfl)
theorem dX8_behindSteps_9 : decode cX8_behindSteps 9 = .ok (.if_icmp .ge 7, 3) := dk_162 0 7 (dk_at dksX8_behindSteps_0 9 rfl rfl)
theorem dX8_behindSteps_12 : decode cX8_behindSteps 12 = .ok (.iload_n 1, 1) := dk_27 (dk_at dksX8_behindSteps_0 12 rfl rfl)
theorem dX8_behindSteps_13 : decode cX8_behindSteps 13 = .ok (.goto 7, 3) := dk_167 0 7 (dk_at dksX8_behindSteps_0 13 rfl rfl)
theorem dX8_behindSteps_16 : decode cX8_behindSteps 16 = .ok (.aload_n 0, 1) := dk_42 (dk_at dksX8_behindSteps_0 16 rfl rfl)
theorem dX8_behindSteps_17 : decode cX8_behindSteps 17 = .ok (.getfield 367, 3) := dk_180 1 111 (dk_at dksX8_behindSteps_0 17 rfl rfl)
theorem dX8_behindSteps_20 : decode cX8_behindSteps 20 = .ok (.iaload, 1) := dk_46 (dk_at dksX8_behindSteps_0 20 rfl rfl)
theorem dX8_behindSteps_21 : decode cX8_behindSteps 21 = .ok (.ireturn, 1) := dk_172 (dk_at dksX8_behindSteps_0 21 rfl rfl)
abbrev cX8_cameTo : ByteArray := prog_16_method_79_code
def yX8_cameTo : MethodName := ⟨RX8, "cameTo", "()I"⟩
def dkwX8_cameTo_1 : List UInt8 := [132, 2, 1, 167, 255, 234, 27, 172]
abbrev dktX8_cameTo_1 : List UInt8 := dkwX8_cameTo_1 ++ []
def dkwX8_cameTo_0 : List UInt8 := [3, 60, 3, 61, 28, 42, 180, 1, 111, 163, 0, 20, 27, 4, 42, 180, 0, 38, 28, 46, 120, 128, 60]
abbrev dktX8_cameTo_0 : List UInt8 := dkwX8_cameTo_0 ++ dktX8_cameTo_1
theorem dksX8_cameTo_0 : cX8_cameTo.data.toList.drop 0 = dktX8_cameTo_0 := by decide +kernel
theorem dksX8_cameTo_1 : cX8_cameTo.data.toList.drop 23 = dktX8_cameTo_1 := dk_seg dksX8_cameTo_0 23 rfl rfl
theorem dX8_cameTo_0 : decode cX8_cameTo 0 = .ok (.iconst 0, 1) := dk_3 (dk_at dksX8_cameTo_0 0 rfl rfl)
theorem dX8_cameTo_1 : decode cX8_cameTo 1 = .ok (.istore_n 1, 1) := dk_60 (dk_at dksX8_cameTo_0 1 rfl rfl)
theorem dX8_cameTo_2 : decode cX8_cameTo 2 = .ok (.iconst 0, 1) := dk_3 (dk_at dksX8_cameTo_0 2 rfl rfl)
theorem dX8_cameTo_3 : decode cX8_cameTo 3 = .ok (.istore_n 2, 1) := dk_61 (dk_at dksX8_cameTo_0 3 rfl rfl)
theorem dX8_cameTo_4 : decode cX8_cameTo 4 = .ok (.iload_n 2, 1) := dk_28 (dk_at dksX8_cameTo_0 4 rfl rfl)
theorem dX8_cameTo_5 : decode cX8_cameTo 5 = .ok (.aload_n 0, 1) := dk_42 (dk_at dksX8_cameTo_0 5 rfl rfl)
theorem dX8_cameTo_6 : decode cX8_cameTo 6 = .ok (.getfield 367, 3) := dk_180 1 111 (dk_at dksX8_cameTo_0 6 rfl rfl)
theorem dX8_cameTo_9 : decode cX8_cameTo 9 = .ok (.if_icmp .gt 20, 3) := dk_163 0 20 (dk_at dksX8_cameTo_0 9 rfl rfl)
theorem dX8_cameTo_12 : decode cX8_cameTo 12 = .ok (.iload_n 1, 1) := dk_27 (dk_at dksX8_cameTo_0 12 rfl rfl)
theorem dX8_cameTo_13 : decode cX8_cameTo 13 = .ok (.iconst 1, 1) := dk_4 (dk_at dksX8_cameTo_0 13 rfl rfl)
theorem dX8_cameTo_14 : decode cX8_cameTo 14 = .ok (.aload_n 0, 1) := dk_42 (dk_at dksX8_cameTo_0 14 rfl rfl)
theorem dX8_cameTo_15 : decode cX8_cameTo 15 = .ok (.getfield 38, 3) := dk_180 0 38 (dk_at dksX8_cameTo_0 15 rfl rfl)
theorem dX8_cameTo_18 : decode cX8_cameTo 18 = .ok (.iload_n 2, 1) := dk_28 (dk_at dksX8_cameTo_0 18 rfl rfl)
theorem dX8_cameTo_19 : decode cX8_cameTo 19 = .ok (.iaload, 1) := dk_46 (dk_at dksX8_cameTo_0 19 rfl rfl)
theorem dX8_cameTo_20 : decode cX8_cameTo 20 = .ok (.ishl, 1) := dk_120 (dk_at dksX8_cameTo_0 20 rfl rfl)
theorem dX8_cameTo_21 : decode cX8_cameTo 21 = .ok (.ior, 1) := dk_128 (dk_at dksX8_cameTo_0 21 rfl rfl)
theorem dX8_cameTo_22 : decode cX8_cameTo 22 = .ok (.istore_n 1, 1) := dk_60 (dk_at dksX8_cameTo_0 22 rfl rfl)
theorem dX8_cameTo_23 : decode cX8_cameTo 23 = .ok (.iinc 2 1, 3) := dk_132 2 1 (dk_at dksX8_cameTo_1 0 rfl rfl)
theorem dX8_cameTo_26 : decode cX8_cameTo 26 = .ok (.goto (-22), 3) := dk_167 255 234 (dk_at dksX8_cameTo_1 3 rfl rfl)
theorem dX8_cameTo_29 : decode cX8_cameTo 29 = .ok (.iload_n 1, 1) := dk_27 (dk_at dksX8_cameTo_1 6 rfl rfl)
theorem dX8_cameTo_30 : decode cX8_cameTo 30 = .ok (.ireturn, 1) := dk_172 (dk_at dksX8_cameTo_1 7 rfl rfl)
abbrev cX8_bitsOf : ByteArray := prog_16_method_80_code
def yX8_bitsOf : MethodName := ⟨RX8, "bitsOf", "(I)I"⟩
def dkwX8_bitsOf_0 : List UInt8 := [3, 60, 26, 61, 28, 153, 0, 15, 132, 1, 1, 28, 28, 4, 100, 126, 61, 167, 255, 243, 27, 172]
abbrev dktX8_bitsOf_0 : List UInt8 := dkwX8_bitsOf_0 ++ []
theorem dksX8_bitsOf_0 : cX8_bitsOf.data.toList.drop 0 = dktX8_bitsOf_0 := by decide +kernel
theorem dX8_bitsOf_0 : decode cX8_bitsOf 0 = .ok (.iconst 0, 1) := dk_3 (dk_at dksX8_bitsOf_0 0 rfl rfl)
theorem dX8_bitsOf_1 : decode cX8_bitsOf 1 = .ok (.istore_n 1, 1) := dk_60 (dk_at dksX8_bitsOf_0 1 rfl rfl)
theorem dX8_bitsOf_2 : decode cX8_bitsOf 2 = .ok (.iload_n 0, 1) := dk_26 (dk_at dksX8_bitsOf_0 2 rfl rfl)
theorem dX8_bitsOf_3 : decode cX8_bitsOf 3 = .ok (.istore_n 2, 1) := dk_61 (dk_at dksX8_bitsOf_0 3 rfl rfl)
theorem dX8_bitsOf_4 : decode cX8_bitsOf 4 = .ok (.iload_n 2, 1) := dk_28 (dk_at dksX8_bitsOf_0 4 rfl rfl)
theorem dX8_bitsOf_5 : decode cX8_bitsOf 5 = .ok (.ifCond .eq 15, 3) := dk_153 0 15 (dk_at dksX8_bitsOf_0 5 rfl rfl)
theorem dX8_bitsOf_8 : decode cX8_bitsOf 8 = .ok (.iinc 1 1, 3) := dk_132 1 1 (dk_at dksX8_bitsOf_0 8 rfl rfl)
theorem dX8_bitsOf_11 : decode cX8_bitsOf 11 = .ok (.iload_n 2, 1) := dk_28 (dk_at dksX8_bitsOf_0 11 rfl rfl)
theorem dX8_bitsOf_12 : decode cX8_bitsOf 12 = .ok (.iload_n 2, 1) := dk_28 (dk_at dksX8_bitsOf_0 12 rfl rfl)
theorem dX8_bitsOf_13 : decode cX8_bitsOf 13 = .ok (.iconst 1, 1) := dk_4 (dk_at dksX8_bitsOf_0 13 rfl rfl)
theorem dX8_bitsOf_14 : decode cX8_bitsOf 14 = .ok (.isub, 1) := dk_100 (dk_at dksX8_bitsOf_0 14 rfl rfl)
theorem dX8_bitsOf_15 : decode cX8_bitsOf 15 = .ok (.iand, 1) := dk_126 (dk_at dksX8_bitsOf_0 15 rfl rfl)
theorem dX8_bitsOf_16 : decode cX8_bitsOf 16 = .ok (.istore_n 2, 1) := dk_61 (dk_at dksX8_bitsOf_0 16 rfl rfl)
theorem dX8_bitsOf_17 : decode cX8_bitsOf 17 = .ok (.goto (-13), 3) := dk_167 255 243 (dk_at dksX8_bitsOf_0 17 rfl rfl)
theorem dX8_bitsOf_20 : decode cX8_bitsOf 20 = .ok (.iload_n 1, 1) := dk_27 (dk_at dksX8_bitsOf_0 20 rfl rfl)
theorem dX8_bitsOf_21 : decode cX8_bitsOf 21 = .ok (.ireturn, 1) := dk_172 (dk_at dksX8_bitsOf_0 21 rfl rfl)
abbrev cX8_goes : ByteArray := prog_16_method_82_code
def yX8_goes : MethodName := ⟨RX8, "goes", "(III)I"⟩
def dkwX8_goes_3 : List UInt8 := [6, 28, 104, 5, 96, 46, 21, 4, 96, 3, 19, 1, 140, 184, 1, 80, 79, 21, 4, 172]
abbrev dktX8_goes_3 : List UInt8 := dkwX8_goes_3 ++ []
def dkwX8_goes_2 : List UInt8 := [21, 4, 96, 3, 19, 1, 140, 184, 1, 80, 79, 42, 180, 0, 32, 6, 28, 104, 5, 96, 42, 180, 0, 32]
abbrev dktX8_goes_2 : List UInt8 := dkwX8_goes_2 ++ dktX8_goes_3
def dkwX8_goes_1 : List UInt8 := [182, 1, 137, 54, 4, 42, 180, 0, 32, 6, 27, 104, 5, 96, 42, 180, 0, 32, 6, 27, 104, 5, 96, 46]
abbrev dktX8_goes_1 : List UInt8 := dkwX8_goes_1 ++ dktX8_goes_2
def dkwX8_goes_0 : List UInt8 := [42, 27, 28, 182, 1, 99, 153, 0, 10, 29, 184, 0, 109, 154, 0, 6, 16, 254, 172, 42, 27, 28, 29]
abbrev dktX8_goes_0 : List UInt8 := dkwX8_goes_0 ++ dktX8_goes_1
theorem dksX8_goes_0 : cX8_goes.data.toList.drop 0 = dktX8_goes_0 := by decide +kernel
theorem dksX8_goes_1 : cX8_goes.data.toList.drop 23 = dktX8_goes_1 := dk_seg dksX8_goes_0 23 rfl rfl
theorem dksX8_goes_2 : cX8_goes.data.toList.drop 47 = dktX8_goes_2 := dk_seg dksX8_goes_1 24 rfl rfl
theorem dksX8_goes_3 : cX8_goes.data.toList.drop 71 = dktX8_goes_3 := dk_seg dksX8_goes_2 24 rfl rfl
theorem dX8_goes_0 : decode cX8_goes 0 = .ok (.aload_n 0, 1) := dk_42 (dk_at dksX8_goes_0 0 rfl rfl)
theorem dX8_goes_1 : decode cX8_goes 1 = .ok (.iload_n 1, 1) := dk_27 (dk_at dksX8_goes_0 1 rfl rfl)
theorem dX8_goes_2 : decode cX8_goes 2 = .ok (.iload_n 2, 1) := dk_28 (dk_at dksX8_goes_0 2 rfl rfl)
theorem dX8_goes_3 : decode cX8_goes 3 = .ok (.invokevirtual 355, 3) := dk_182 1 99 (dk_at dksX8_goes_0 3 rfl rfl)
theorem dX8_goes_6 : decode cX8_goes 6 = .ok (.ifCond .eq 10, 3) := dk_153 0 10 (dk_at dksX8_goes_0 6 rfl rfl)
theorem dX8_goes_9 : decode cX8_goes 9 = .ok (.iload_n 3, 1) := dk_29 (dk_at dksX8_goes_0 9 rfl rfl)
theorem dX8_goes_10 : decode cX8_goes 10 = .ok (.invokestatic 109, 3) := dk_184 0 109 (dk_at dksX8_goes_0 10 rfl rfl)
theorem dX8_goes_13 : decode cX8_goes 13 = .ok (.ifCond .ne 6, 3) := dk_154 0 6 (dk_at dksX8_goes_0 13 rfl rfl)
theorem dX8_goes_16 : decode cX8_goes 16 = .ok (.bipush (-2), 2) := dk_16 254 (dk_at dksX8_goes_0 16 rfl rfl)
theorem dX8_goes_18 : decode cX8_goes 18 = .ok (.ireturn, 1) := dk_172 (dk_at dksX8_goes_0 18 rfl rfl)
theorem dX8_goes_19 : decode cX8_goes 19 = .ok (.aload_n 0, 1) := dk_42 (dk_at dksX8_goes_0 19 rfl rfl)
theorem dX8_goes_20 : decode cX8_goes 20 = .ok (.iload_n 1, 1) := dk_27 (dk_at dksX8_goes_0 20 rfl rfl)
theorem dX8_goes_21 : decode cX8_goes 21 = .ok (.iload_n 2, 1) := dk_28 (dk_at dksX8_goes_0 21 rfl rfl)
theorem dX8_goes_22 : decode cX8_goes 22 = .ok (.iload_n 3, 1) := dk_29 (dk_at dksX8_goes_0 22 rfl rfl)
theorem dX8_goes_23 : decode cX8_goes 23 = .ok (.invokevirtual 393, 3) := dk_182 1 137 (dk_at dksX8_goes_1 0 rfl rfl)
theorem dX8_goes_26 : decode cX8_goes 26 = .ok (.istore 4, 2) := dk_54 4 (dk_at dksX8_goes_1 3 rfl rfl)
theorem dX8_goes_28 : decode cX8_goes 28 = .ok (.aload_n 0, 1) := dk_42 (dk_at dksX8_goes_1 5 rfl rfl)
theorem dX8_goes_29 : decode cX8_goes 29 = .ok (.getfield 32, 3) := dk_180 0 32 (dk_at dksX8_goes_1 6 rfl rfl)
theorem dX8_goes_32 : decode cX8_goes 32 = .ok (.iconst 3, 1) := dk_6 (dk_at dksX8_goes_1 9 rfl rfl)
theorem dX8_goes_33 : decode cX8_goes 33 = .ok (.iload_n 1, 1) := dk_27 (dk_at dksX8_goes_1 10 rfl rfl)
theorem dX8_goes_34 : decode cX8_goes 34 = .ok (.imul, 1) := dk_104 (dk_at dksX8_goes_1 11 rfl rfl)
theorem dX8_goes_35 : decode cX8_goes 35 = .ok (.iconst 2, 1) := dk_5 (dk_at dksX8_goes_1 12 rfl rfl)
theorem dX8_goes_36 : decode cX8_goes 36 = .ok (.iadd, 1) := dk_96 (dk_at dksX8_goes_1 13 rfl rfl)
theorem dX8_goes_37 : decode cX8_goes 37 = .ok (.aload_n 0, 1) := dk_42 (dk_at dksX8_goes_1 14 rfl rfl)
theorem dX8_goes_38 : decode cX8_goes 38 = .ok (.getfield 32, 3) := dk_180 0 32 (dk_at dksX8_goes_1 15 rfl rfl)
theorem dX8_goes_41 : decode cX8_goes 41 = .ok (.iconst 3, 1) := dk_6 (dk_at dksX8_goes_1 18 rfl rfl)
theorem dX8_goes_42 : decode cX8_goes 42 = .ok (.iload_n 1, 1) := dk_27 (dk_at dksX8_goes_1 19 rfl rfl)
theorem dX8_goes_43 : decode cX8_goes 43 = .ok (.imul, 1) := dk_104 (dk_at dksX8_goes_1 20 rfl rfl)
theorem dX8_goes_44 : decode cX8_goes 44 = .ok (.iconst 2, 1) := dk_5 (dk_at dksX8_goes_1 21 rfl rfl)
theorem dX8_goes_45 : decode cX8_goes 45 = .ok (.iadd, 1) := dk_96 (dk_at dksX8_goes_1 22 rfl rfl)
theorem dX8_goes_46 : decode cX8_goes 46 = .ok (.iaload, 1) := dk_46 (dk_at dksX8_goes_1 23 rfl rfl)
theorem dX8_goes_47 : decode cX8_goes 47 = .ok (.iload 4, 2) := dk_21 4 (dk_at dksX8_goes_2 0 rfl rfl)
theorem dX8_goes_49 : decode cX8_goes 49 = .ok (.iadd, 1) := dk_96 (dk_at dksX8_goes_2 2 rfl rfl)
theorem dX8_goes_50 : decode cX8_goes 50 = .ok (.iconst 0, 1) := dk_3 (dk_at dksX8_goes_2 3 rfl rfl)
theorem dX8_goes_51 : decode cX8_goes 51 = .ok (.ldc_w 396, 3) := dk_19 1 140 (dk_at dksX8_goes_2 4 rfl rfl)
theorem dX8_goes_54 : decode cX8_goes 54 = .ok (.invokestatic 336, 3) := dk_184 1 80 (dk_at dksX8_goes_2 7 rfl rfl)
theorem dX8_goes_57 : decode cX8_goes 57 = .ok (.iastore, 1) := dk_79 (dk_at dksX8_goes_2 10 rfl rfl)
theorem dX8_goes_58 : decode cX8_goes 58 = .ok (.aload_n 0, 1) := dk_42 (dk_at dksX8_goes_2 11 rfl rfl)
theorem dX8_goes_59 : decode cX8_goes 59 = .ok (.getfield 32, 3) := dk_180 0 32 (dk_at dksX8_goes_2 12 rfl rfl)
theorem dX8_goes_62 : decode cX8_goes 62 = .ok (.iconst 3, 1) := dk_6 (dk_at dksX8_goes_2 15 rfl rfl)
theorem dX8_goes_63 : decode cX8_goes 63 = .ok (.iload_n 2, 1) := dk_28 (dk_at dksX8_goes_2 16 rfl rfl)
theorem dX8_goes_64 : decode cX8_goes 64 = .ok (.imul, 1) := dk_104 (dk_at dksX8_goes_2 17 rfl rfl)
theorem dX8_goes_65 : decode cX8_goes 65 = .ok (.iconst 2, 1) := dk_5 (dk_at dksX8_goes_2 18 rfl rfl)
theorem dX8_goes_66 : decode cX8_goes 66 = .ok (.iadd, 1) := dk_96 (dk_at dksX8_goes_2 19 rfl rfl)
theorem dX8_goes_67 : decode cX8_goes 67 = .ok (.aload_n 0, 1) := dk_42 (dk_at dksX8_goes_2 20 rfl rfl)
theorem dX8_goes_68 : decode cX8_goes 68 = .ok (.getfield 32, 3) := dk_180 0 32 (dk_at dksX8_goes_2 21 rfl rfl)
theorem dX8_goes_71 : decode cX8_goes 71 = .ok (.iconst 3, 1) := dk_6 (dk_at dksX8_goes_3 0 rfl rfl)
theorem dX8_goes_72 : decode cX8_goes 72 = .ok (.iload_n 2, 1) := dk_28 (dk_at dksX8_goes_3 1 rfl rfl)
theorem dX8_goes_73 : decode cX8_goes 73 = .ok (.imul, 1) := dk_104 (dk_at dksX8_goes_3 2 rfl rfl)
theorem dX8_goes_74 : decode cX8_goes 74 = .ok (.iconst 2, 1) := dk_5 (dk_at dksX8_goes_3 3 rfl rfl)
theorem dX8_goes_75 : decode cX8_goes 75 = .ok (.iadd, 1) := dk_96 (dk_at dksX8_goes_3 4 rfl rfl)
theorem dX8_goes_76 : decode cX8_goes 76 = .ok (.iaload, 1) := dk_46 (dk_at dksX8_goes_3 5 rfl rfl)
theorem dX8_goes_77 : decode cX8_goes 77 = .ok (.iload 4, 2) := dk_21 4 (dk_at dksX8_goes_3 6 rfl rfl)
theorem dX8_goes_79 : decode cX8_goes 79 = .ok (.iadd, 1) := dk_96 (dk_at dksX8_goes_3 8 rfl rfl)
theorem dX8_goes_80 : decode cX8_goes 80 = .ok (.iconst 0, 1) := dk_3 (dk_at dksX8_goes_3 9 rfl rfl)
theorem dX8_goes_81 : decode cX8_goes 81 = .ok (.ldc_w 396, 3) := dk_19 1 140 (dk_at dksX8_goes_3 10 rfl rfl)
theorem dX8_goes_84 : decode cX8_goes 84 = .ok (.invokestatic 336, 3) := dk_184 1 80 (dk_at dksX8_goes_3 13 rfl rfl)
theorem dX8_goes_87 : decode cX8_goes 87 = .ok (.iastore, 1) := dk_79 (dk_at dksX8_goes_3 16 rfl rfl)
theorem dX8_goes_88 : decode cX8_goes 88 = .ok (.iload 4, 2) := dk_21 4 (dk_at dksX8_goes_3 17 rfl rfl)
theorem dX8_goes_90 : decode cX8_goes 90 = .ok (.ireturn, 1) := dk_172 (dk_at dksX8_goes_3 19 rfl rfl)
abbrev cX8_longOf : ByteArray := prog_16_method_78_code
def yX8_longOf : MethodName := ⟨RX8, "longOf", "(III)I"⟩
def dkwX8_longOf_0 : List UInt8 := [42, 27, 28, 29, 182, 1, 123, 42, 180, 1, 114, 172]
abbrev dktX8_longOf_0 : List UInt8 := dkwX8_longOf_0 ++ []
theorem dksX8_longOf_0 : cX8_longOf.data.toList.drop 0 = dktX8_longOf_0 := by decide +kernel
theorem dX8_longOf_0 : decode cX8_longOf 0 = .ok (.aload_n 0, 1) := dk_42 (dk_at dksX8_longOf_0 0 rfl rfl)
theorem dX8_longOf_1 : decode cX8_longOf 1 = .ok (.iload_n 1, 1) := dk_27 (dk_at dksX8_longOf_0 1 rfl rfl)
theorem dX8_longOf_2 : decode cX8_longOf 2 = .ok (.iload_n 2, 1) := dk_28 (dk_at dksX8_longOf_0 2 rfl rfl)
theorem dX8_longOf_3 : decode cX8_longOf 3 = .ok (.iload_n 3, 1) := dk_29 (dk_at dksX8_longOf_0 3 rfl rfl)
theorem dX8_longOf_4 : decode cX8_longOf 4 = .ok (.invokevirtual 379, 3) := dk_182 1 123 (dk_at dksX8_longOf_0 4 rfl rfl)
theorem dX8_longOf_7 : decode cX8_longOf 7 = .ok (.aload_n 0, 1) := dk_42 (dk_at dksX8_longOf_0 7 rfl rfl)
theorem dX8_longOf_8 : decode cX8_longOf 8 = .ok (.getfield 370, 3) := dk_180 1 114 (dk_at dksX8_longOf_0 8 rfl rfl)
theorem dX8_longOf_11 : decode cX8_longOf 11 = .ok (.ireturn, 1) := dk_172 (dk_at dksX8_longOf_0 11 rfl rfl)
abbrev cX8_far : ByteArray := prog_16_method_83_code
def yX8_far : MethodName := ⟨RX8, "far", "(II)I"⟩
def dkwX8_far_1 : List UInt8 := [104, 28, 96, 46, 62, 29, 17, 3, 231, 160, 0, 7, 2, 167, 0, 4, 29, 172]
abbrev dktX8_far_1 : List UInt8 := dkwX8_far_1 ++ []
def dkwX8_far_0 : List UInt8 := [27, 184, 0, 109, 153, 0, 10, 28, 184, 0, 109, 154, 0, 6, 16, 254, 172, 42, 180, 0, 35, 16, 8, 27]
abbrev dktX8_far_0 : List UInt8 := dkwX8_far_0 ++ dktX8_far_1
theorem dksX8_far_0 : cX8_far.data.toList.drop 0 = dktX8_far_0 := by decide +kernel
theorem dksX8_far_1 : cX8_far.data.toList.drop 24 = dktX8_far_1 := dk_seg dksX8_far_0 24 rfl rfl
theorem dX8_far_0 : decode cX8_far 0 = .ok (.iload_n 1, 1) := dk_27 (dk_at dksX8_far_0 0 rfl rfl)
theorem dX8_far_1 : decode cX8_far 1 = .ok (.invokestatic 109, 3) := dk_184 0 109 (dk_at dksX8_far_0 1 rfl rfl)
theorem dX8_far_4 : decode cX8_far 4 = .ok (.ifCond .eq 10, 3) := dk_153 0 10 (dk_at dksX8_far_0 4 rfl rfl)
theorem dX8_far_7 : decode cX8_far 7 = .ok (.iload_n 2, 1) := dk_28 (dk_at dksX8_far_0 7 rfl rfl)
theorem dX8_far_8 : decode cX8_far 8 = .ok (.invokestatic 109, 3) := dk_184 0 109 (dk_at dksX8_far_0 8 rfl rfl)
theorem dX8_far_11 : decode cX8_far 11 = .ok (.ifCond .ne 6, 3) := dk_154 0 6 (dk_at dksX8_far_0 11 rfl rfl)
theorem dX8_far_14 : decode cX8_far 14 = .ok (.bipush (-2), 2) := dk_16 254 (dk_at dksX8_far_0 14 rfl rfl)
theorem dX8_far_16 : decode cX8_far 16 = .ok (.ireturn, 1) := dk_172 (dk_at dksX8_far_0 16 rfl rfl)
theorem dX8_far_17 : decode cX8_far 17 = .ok (.aload_n 0, 1) := dk_42 (dk_at dksX8_far_0 17 rfl rfl)
theorem dX8_far_18 : decode cX8_far 18 = .ok (.getfield 35, 3) := dk_180 0 35 (dk_at dksX8_far_0 18 rfl rfl)
theorem dX8_far_21 : decode cX8_far 21 = .ok (.bipush 8, 2) := dk_16 8 (dk_at dksX8_far_0 21 rfl rfl)
theorem dX8_far_23 : decode cX8_far 23 = .ok (.iload_n 1, 1) := dk_27 (dk_at dksX8_far_0 23 rfl rfl)
theorem dX8_far_24 : decode cX8_far 24 = .ok (.imul, 1) := dk_104 (dk_at dksX8_far_1 0 rfl rfl)
theorem dX8_far_25 : decode cX8_far 25 = .ok (.iload_n 2, 1) := dk_28 (dk_at dksX8_far_1 1 rfl rfl)
theorem dX8_far_26 : decode cX8_far 26 = .ok (.iadd, 1) := dk_96 (dk_at dksX8_far_1 2 rfl rfl)
theorem dX8_far_27 : decode cX8_far 27 = .ok (.iaload, 1) := dk_46 (dk_at dksX8_far_1 3 rfl rfl)
theorem dX8_far_28 : decode cX8_far 28 = .ok (.istore_n 3, 1) := dk_62 (dk_at dksX8_far_1 4 rfl rfl)
theorem dX8_far_29 : decode cX8_far 29 = .ok (.iload_n 3, 1) := dk_29 (dk_at dksX8_far_1 5 rfl rfl)
theorem dX8_far_30 : decode cX8_far 30 = .ok (.sipush 999, 3) := dk_17 3 231 (dk_at dksX8_far_1 6 rfl rfl)
theorem dX8_far_33 : decode cX8_far 33 = .ok (.if_icmp .ne 7, 3) := dk_160 0 7 (dk_at dksX8_far_1 9 rfl rfl)
theorem dX8_far_36 : decode cX8_far 36 = .ok (.iconst (-1), 1) := dk_2 (dk_at dksX8_far_1 12 rfl rfl)
theorem dX8_far_37 : decode cX8_far 37 = .ok (.goto 4, 3) := dk_167 0 4 (dk_at dksX8_far_1 13 rfl rfl)
theorem dX8_far_40 : decode cX8_far 40 = .ok (.iload_n 3, 1) := dk_29 (dk_at dksX8_far_1 16 rfl rfl)
theorem dX8_far_41 : decode cX8_far 41 = .ok (.ireturn, 1) := dk_172 (dk_at dksX8_far_1 17 rfl rfl)
abbrev cX8_best : ByteArray := prog_16_method_84_code
def yX8_best : MethodName := ⟨RX8, "best", "(III)I"⟩
def dkwX8_best_4 : List UInt8 := [132, 6, 1, 167, 255, 197, 29, 154, 0, 8, 21, 4, 167, 0, 5, 21, 5, 172]
abbrev dktX8_best_4 : List UInt8 := dkwX8_best_4 ++ []
def dkwX8_best_3 : List UInt8 := [2, 159, 0, 12, 42, 180, 1, 114, 21, 5, 162, 0, 13, 21, 6, 54, 4, 42, 180, 1, 114, 54, 5]
abbrev dktX8_best_3 : List UInt8 := dkwX8_best_3 ++ dktX8_best_4
def dkwX8_best_2 : List UInt8 := [21, 6, 27, 159, 0, 44, 42, 27, 21, 6, 28, 182, 1, 141, 42, 27, 182, 1, 77, 160, 0, 28, 21, 4]
abbrev dktX8_best_2 : List UInt8 := dkwX8_best_2 ++ dktX8_best_3
def dkwX8_best_1 : List UInt8 := [154, 0, 6, 16, 254, 172, 2, 54, 4, 2, 54, 5, 3, 54, 6, 21, 6, 42, 180, 0, 79, 162, 0, 56]
abbrev dktX8_best_1 : List UInt8 := dkwX8_best_1 ++ dktX8_best_2
def dkwX8_best_0 : List UInt8 := [42, 27, 182, 0, 86, 153, 0, 20, 28, 184, 0, 109, 153, 0, 13, 29, 133, 9, 10, 184, 0, 82]
abbrev dktX8_best_0 : List UInt8 := dkwX8_best_0 ++ dktX8_best_1
theorem dksX8_best_0 : cX8_best.data.toList.drop 0 = dktX8_best_0 := by decide +kernel
theorem dksX8_best_1 : cX8_best.data.toList.drop 22 = dktX8_best_1 := dk_seg dksX8_best_0 22 rfl rfl
theorem dksX8_best_2 : cX8_best.data.toList.drop 46 = dktX8_best_2 := dk_seg dksX8_best_1 24 rfl rfl
theorem dksX8_best_3 : cX8_best.data.toList.drop 70 = dktX8_best_3 := dk_seg dksX8_best_2 24 rfl rfl
theorem dksX8_best_4 : cX8_best.data.toList.drop 93 = dktX8_best_4 := dk_seg dksX8_best_3 23 rfl rfl
theorem dX8_best_0 : decode cX8_best 0 = .ok (.aload_n 0, 1) := dk_42 (dk_at dksX8_best_0 0 rfl rfl)
theorem dX8_best_1 : decode cX8_best 1 = .ok (.iload_n 1, 1) := dk_27 (dk_at dksX8_best_0 1 rfl rfl)
theorem dX8_best_2 : decode cX8_best 2 = .ok (.invokevirtual 86, 3) := dk_182 0 86 (dk_at dksX8_best_0 2 rfl rfl)
theorem dX8_best_5 : decode cX8_best 5 = .ok (.ifCond .eq 20, 3) := dk_153 0 20 (dk_at dksX8_best_0 5 rfl rfl)
theorem dX8_best_8 : decode cX8_best 8 = .ok (.iload_n 2, 1) := dk_28 (dk_at dksX8_best_0 8 rfl rfl)
theorem dX8_best_9 : decode cX8_best 9 = .ok (.invokestatic 109, 3) := dk_184 0 109 (dk_at dksX8_best_0 9 rfl rfl)
theorem dX8_best_12 : decode cX8_best 12 = .ok (.ifCond .eq 13, 3) := dk_153 0 13 (dk_at dksX8_best_0 12 rfl rfl)
theorem dX8_best_15 : decode cX8_best 15 = .ok (.iload_n 3, 1) := dk_29 (dk_at dksX8_best_0 15 rfl rfl)
theorem dX8_best_16 : decode cX8_best 16 = .ok (.i2l, 1) := dk_133 (dk_at dksX8_best_0 16 rfl rfl)
theorem dX8_best_17 : decode cX8_best 17 = .ok (.lconst 0, 1) := dk_9 (dk_at dksX8_best_0 17 rfl rfl)
theorem dX8_best_18 : decode cX8_best 18 = .ok (.lconst 1, 1) := dk_10 (dk_at dksX8_best_0 18 rfl rfl)
theorem dX8_best_19 : decode cX8_best 19 = .ok (.invokestatic 82, 3) := dk_184 0 82 (dk_at dksX8_best_0 19 rfl rfl)
theorem dX8_best_22 : decode cX8_best 22 = .ok (.ifCond .ne 6, 3) := dk_154 0 6 (dk_at dksX8_best_1 0 rfl rfl)
theorem dX8_best_25 : decode cX8_best 25 = .ok (.bipush (-2), 2) := dk_16 254 (dk_at dksX8_best_1 3 rfl rfl)
theorem dX8_best_27 : decode cX8_best 27 = .ok (.ireturn, 1) := dk_172 (dk_at dksX8_best_1 5 rfl rfl)
theorem dX8_best_28 : decode cX8_best 28 = .ok (.iconst (-1), 1) := dk_2 (dk_at dksX8_best_1 6 rfl rfl)
theorem dX8_best_29 : decode cX8_best 29 = .ok (.istore 4, 2) := dk_54 4 (dk_at dksX8_best_1 7 rfl rfl)
theorem dX8_best_31 : decode cX8_best 31 = .ok (.iconst (-1), 1) := dk_2 (dk_at dksX8_best_1 9 rfl rfl)
theorem dX8_best_32 : decode cX8_best 32 = .ok (.istore 5, 2) := dk_54 5 (dk_at dksX8_best_1 10 rfl rfl)
theorem dX8_best_34 : decode cX8_best 34 = .ok (.iconst 0, 1) := dk_3 (dk_at dksX8_best_1 12 rfl rfl)
theorem dX8_best_35 : decode cX8_best 35 = .ok (.istore 6, 2) := dk_54 6 (dk_at dksX8_best_1 13 rfl rfl)
theorem dX8_best_37 : decode cX8_best 37 = .ok (.iload 6, 2) := dk_21 6 (dk_at dksX8_best_1 15 rfl rfl)
theorem dX8_best_39 : decode cX8_best 39 = .ok (.aload_n 0, 1) := dk_42 (dk_at dksX8_best_1 17 rfl rfl)
theorem dX8_best_40 : decode cX8_best 40 = .ok (.getfield 79, 3) := dk_180 0 79 (dk_at dksX8_best_1 18 rfl rfl)
theorem dX8_best_43 : decode cX8_best 43 = .ok (.if_icmp .ge 56, 3) := dk_162 0 56 (dk_at dksX8_best_1 21 rfl rfl)
theorem dX8_best_46 : decode cX8_best 46 = .ok (.iload 6, 2) := dk_21 6 (dk_at dksX8_best_2 0 rfl rfl)
theorem dX8_best_48 : decode cX8_best 48 = .ok (.iload_n 1, 1) := dk_27 (dk_at dksX8_best_2 2 rfl rfl)
theorem dX8_best_49 : decode cX8_best 49 = .ok (.if_icmp .eq 44, 3) := dk_159 0 44 (dk_at dksX8_best_2 3 rfl rfl)
theorem dX8_best_52 : decode cX8_best 52 = .ok (.aload_n 0, 1) := dk_42 (dk_at dksX8_best_2 6 rfl rfl)
theorem dX8_best_53 : decode cX8_best 53 = .ok (.iload_n 1, 1) := dk_27 (dk_at dksX8_best_2 7 rfl rfl)
theorem dX8_best_54 : decode cX8_best 54 = .ok (.iload 6, 2) := dk_21 6 (dk_at dksX8_best_2 8 rfl rfl)
theorem dX8_best_56 : decode cX8_best 56 = .ok (.iload_n 2, 1) := dk_28 (dk_at dksX8_best_2 10 rfl rfl)
theorem dX8_best_57 : decode cX8_best 57 = .ok (.invokevirtual 397, 3) := dk_182 1 141 (dk_at dksX8_best_2 11 rfl rfl)
theorem dX8_best_60 : decode cX8_best 60 = .ok (.aload_n 0, 1) := dk_42 (dk_at dksX8_best_2 14 rfl rfl)
theorem dX8_best_61 : decode cX8_best 61 = .ok (.iload_n 1, 1) := dk_27 (dk_at dksX8_best_2 15 rfl rfl)
theorem dX8_best_62 : decode cX8_best 62 = .ok (.invokevirtual 333, 3) := dk_182 1 77 (dk_at dksX8_best_2 16 rfl rfl)
theorem dX8_best_65 : decode cX8_best 65 = .ok (.if_icmp .ne 28, 3) := dk_160 0 28 (dk_at dksX8_best_2 19 rfl rfl)
theorem dX8_best_68 : decode cX8_best 68 = .ok (.iload 4, 2) := dk_21 4 (dk_at dksX8_best_2 22 rfl rfl)
theorem dX8_best_70 : decode cX8_best 70 = .ok (.iconst (-1), 1) := dk_2 (dk_at dksX8_best_3 0 rfl rfl)
theorem dX8_best_71 : decode cX8_best 71 = .ok (.if_icmp .eq 12, 3) := dk_159 0 12 (dk_at dksX8_best_3 1 rfl rfl)
theorem dX8_best_74 : decode cX8_best 74 = .ok (.aload_n 0, 1) := dk_42 (dk_at dksX8_best_3 4 rfl rfl)
theorem dX8_best_75 : decode cX8_best 75 = .ok (.getfield 370, 3) := dk_180 1 114 (dk_at dksX8_best_3 5 rfl rfl)
theorem dX8_best_78 : decode cX8_best 78 = .ok (.iload 5, 2) := dk_21 5 (dk_at dksX8_best_3 8 rfl rfl)
theorem dX8_best_80 : decode cX8_best 80 = .ok (.if_icmp .ge 13, 3) := dk_162 0 13 (dk_at dksX8_best_3 10 rfl rfl)
theorem dX8_best_83 : decode cX8_best 83 = .ok (.iload 6, 2) := dk_21 6 (dk_at dksX8_best_3 13 rfl rfl)
theorem dX8_best_85 : decode cX8_best 85 = .ok (.istore 4, 2) := dk_54 4 (dk_at dksX8_best_3 15 rfl rfl)
theorem dX8_best_87 : decode cX8_best 87 = .ok (.aload_n 0, 1) := dk_42 (dk_at dksX8_best_3 17 rfl rfl)
theorem dX8_best_88 : decode cX8_best 88 = .ok (.getfield 370, 3) := dk_180 1 114 (dk_at dksX8_best_3 18 rfl rfl)
theorem dX8_best_91 : decode cX8_best 91 = .ok (.istore 5, 2) := dk_54 5 (dk_at dksX8_best_3 21 rfl rfl)
theorem dX8_best_93 : decode cX8_best 93 = .ok (.iinc 6 1, 3) := dk_132 6 1 (dk_at dksX8_best_4 0 rfl rfl)
theorem dX8_best_96 : decode cX8_best 96 = .ok (.goto (-59), 3) := dk_167 255 197 (dk_at dksX8_best_4 3 rfl rfl)
theorem dX8_best_99 : decode cX8_best 99 = .ok (.iload_n 3, 1) := dk_29 (dk_at dksX8_best_4 6 rfl rfl)
theorem dX8_best_100 : decode cX8_best 100 = .ok (.ifCond .ne 8, 3) := dk_154 0 8 (dk_at dksX8_best_4 7 rfl rfl)
theorem dX8_best_103 : decode cX8_best 103 = .ok (.iload 4, 2) := dk_21 4 (dk_at dksX8_best_4 10 rfl rfl)
theorem dX8_best_105 : decode cX8_best 105 = .ok (.goto 5, 3) := dk_167 0 5 (dk_at dksX8_best_4 12 rfl rfl)
theorem dX8_best_108 : decode cX8_best 108 = .ok (.iload 5, 2) := dk_21 5 (dk_at dksX8_best_4 15 rfl rfl)
theorem dX8_best_110 : decode cX8_best 110 = .ok (.ireturn, 1) := dk_172 (dk_at dksX8_best_4 17 rfl rfl)
abbrev cX8_endOf : ByteArray := prog_16_method_77_code
def yX8_endOf : MethodName := ⟨RX8, "endOf", "(III)I"⟩
def dkwX8_endOf_0 : List UInt8 := [42, 27, 28, 29, 182, 1, 123, 42, 180, 0, 38, 42, 180, 1, 111, 46, 172]
abbrev dktX8_endOf_0 : List UInt8 := dkwX8_endOf_0 ++ []
theorem dksX8_endOf_0 : cX8_endOf.data.toList.drop 0 = dktX8_endOf_0 := by decide +kernel
theorem dX8_endOf_0 : decode cX8_endOf 0 = .ok (.aload_n 0, 1) := dk_42 (dk_at dksX8_endOf_0 0 rfl rfl)
theorem dX8_endOf_1 : decode cX8_endOf 1 = .ok (.iload_n 1, 1) := dk_27 (dk_at dksX8_endOf_0 1 rfl rfl)
theorem dX8_endOf_2 : decode cX8_endOf 2 = .ok (.iload_n 2, 1) := dk_28 (dk_at dksX8_endOf_0 2 rfl rfl)
theorem dX8_endOf_3 : decode cX8_endOf 3 = .ok (.iload_n 3, 1) := dk_29 (dk_at dksX8_endOf_0 3 rfl rfl)
theorem dX8_endOf_4 : decode cX8_endOf 4 = .ok (.invokevirtual 379, 3) := dk_182 1 123 (dk_at dksX8_endOf_0 4 rfl rfl)
theorem dX8_endOf_7 : decode cX8_endOf 7 = .ok (.aload_n 0, 1) := dk_42 (dk_at dksX8_endOf_0 7 rfl rfl)
theorem dX8_endOf_8 : decode cX8_endOf 8 = .ok (.getfield 38, 3) := dk_180 0 38 (dk_at dksX8_endOf_0 8 rfl rfl)
theorem dX8_endOf_11 : decode cX8_endOf 11 = .ok (.aload_n 0, 1) := dk_42 (dk_at dksX8_endOf_0 11 rfl rfl)
theorem dX8_endOf_12 : decode cX8_endOf 12 = .ok (.getfield 367, 3) := dk_180 1 111 (dk_at dksX8_endOf_0 12 rfl rfl)
theorem dX8_endOf_15 : decode cX8_endOf 15 = .ok (.iaload, 1) := dk_46 (dk_at dksX8_endOf_0 15 rfl rfl)
theorem dX8_endOf_16 : decode cX8_endOf 16 = .ok (.ireturn, 1) := dk_172 (dk_at dksX8_endOf_0 16 rfl rfl)
abbrev cX8_from : ByteArray := prog_16_method_85_code
def yX8_from : MethodName := ⟨RX8, "from", "(II)I"⟩
def dkwX8_from_2 : List UInt8 := [120, 128, 62, 132, 4, 1, 167, 255, 219, 29, 172]
abbrev dktX8_from_2 : List UInt8 := dkwX8_from_2 ++ []
def dkwX8_from_1 : List UInt8 := [29, 42, 27, 28, 21, 4, 182, 1, 141, 42, 27, 182, 1, 77, 160, 0, 7, 4, 167, 0, 4, 3, 21, 4]
abbrev dktX8_from_1 : List UInt8 := dkwX8_from_1 ++ dktX8_from_2
def dkwX8_from_0 : List UInt8 := [42, 27, 28, 182, 1, 99, 154, 0, 6, 16, 254, 172, 3, 62, 3, 54, 4, 21, 4, 16, 8, 162, 0, 36]
abbrev dktX8_from_0 : List UInt8 := dkwX8_from_0 ++ dktX8_from_1
theorem dksX8_from_0 : cX8_from.data.toList.drop 0 = dktX8_from_0 := by decide +kernel
theorem dksX8_from_1 : cX8_from.data.toList.drop 24 = dktX8_from_1 := dk_seg dksX8_from_0 24 rfl rfl
theorem dksX8_from_2 : cX8_from.data.toList.drop 48 = dktX8_from_2 := dk_seg dksX8_from_1 24 rfl rfl
theorem dX8_from_0 : decode cX8_from 0 = .ok (.aload_n 0, 1) := dk_42 (dk_at dksX8_from_0 0 rfl rfl)
theorem dX8_from_1 : decode cX8_from 1 = .ok (.iload_n 1, 1) := dk_27 (dk_at dksX8_from_0 1 rfl rfl)
theorem dX8_from_2 : decode cX8_from 2 = .ok (.iload_n 2, 1) := dk_28 (dk_at dksX8_from_0 2 rfl rfl)
theorem dX8_from_3 : decode cX8_from 3 = .ok (.invokevirtual 355, 3) := dk_182 1 99 (dk_at dksX8_from_0 3 rfl rfl)
theorem dX8_from_6 : decode cX8_from 6 = .ok (.ifCond .ne 6, 3) := dk_154 0 6 (dk_at dksX8_from_0 6 rfl rfl)
theorem dX8_from_9 : decode cX8_from 9 = .ok (.bipush (-2), 2) := dk_16 254 (dk_at dksX8_from_0 9 rfl rfl)
theorem dX8_from_11 : decode cX8_from 11 = .ok (.ireturn, 1) := dk_172 (dk_at dksX8_from_0 11 rfl rfl)
theorem dX8_from_12 : decode cX8_from 12 = .ok (.iconst 0, 1) := dk_3 (dk_at dksX8_from_0 12 rfl rfl)
theorem dX8_from_13 : decode cX8_from 13 = .ok (.istore_n 3, 1) := dk_62 (dk_at dksX8_from_0 13 rfl rfl)
theorem dX8_from_14 : decode cX8_from 14 = .ok (.iconst 0, 1) := dk_3 (dk_at dksX8_from_0 14 rfl rfl)
theorem dX8_from_15 : decode cX8_from 15 = .ok (.istore 4, 2) := dk_54 4 (dk_at dksX8_from_0 15 rfl rfl)
theorem dX8_from_17 : decode cX8_from 17 = .ok (.iload 4, 2) := dk_21 4 (dk_at dksX8_from_0 17 rfl rfl)
theorem dX8_from_19 : decode cX8_from 19 = .ok (.bipush 8, 2) := dk_16 8 (dk_at dksX8_from_0 19 rfl rfl)
theorem dX8_from_21 : decode cX8_from 21 = .ok (.if_icmp .ge 36, 3) := dk_162 0 36 (dk_at dksX8_from_0 21 rfl rfl)
theorem dX8_from_24 : decode cX8_from 24 = .ok (.iload_n 3, 1) := dk_29 (dk_at dksX8_from_1 0 rfl rfl)
theorem dX8_from_25 : decode cX8_from 25 = .ok (.aload_n 0, 1) := dk_42 (dk_at dksX8_from_1 1 rfl rfl)
theorem dX8_from_26 : decode cX8_from 26 = .ok (.iload_n 1, 1) := dk_27 (dk_at dksX8_from_1 2 rfl rfl)
theorem dX8_from_27 : decode cX8_from 27 = .ok (.iload_n 2, 1) := dk_28 (dk_at dksX8_from_1 3 rfl rfl)
theorem dX8_from_28 : decode cX8_from 28 = .ok (.iload 4, 2) := dk_21 4 (dk_at dksX8_from_1 4 rfl rfl)
theorem dX8_from_30 : decode cX8_from 30 = .ok (.invokevirtual 397, 3) := dk_182 1 141 (dk_at dksX8_from_1 6 rfl rfl)
theorem dX8_from_33 : decode cX8_from 33 = .ok (.aload_n 0, 1) := dk_42 (dk_at dksX8_from_1 9 rfl rfl)
theorem dX8_from_34 : decode cX8_from 34 = .ok (.iload_n 1, 1) := dk_27 (dk_at dksX8_from_1 10 rfl rfl)
theorem dX8_from_35 : decode cX8_from 35 = .ok (.invokevirtual 333, 3) := dk_182 1 77 (dk_at dksX8_from_1 11 rfl rfl)
theorem dX8_from_38 : decode cX8_from 38 = .ok (.if_icmp .ne 7, 3) := dk_160 0 7 (dk_at dksX8_from_1 14 rfl rfl)
theorem dX8_from_41 : decode cX8_from 41 = .ok (.iconst 1, 1) := dk_4 (dk_at dksX8_from_1 17 rfl rfl)
theorem dX8_from_42 : decode cX8_from 42 = .ok (.goto 4, 3) := dk_167 0 4 (dk_at dksX8_from_1 18 rfl rfl)
theorem dX8_from_45 : decode cX8_from 45 = .ok (.iconst 0, 1) := dk_3 (dk_at dksX8_from_1 21 rfl rfl)
theorem dX8_from_46 : decode cX8_from 46 = .ok (.iload 4, 2) := dk_21 4 (dk_at dksX8_from_1 22 rfl rfl)
theorem dX8_from_48 : decode cX8_from 48 = .ok (.ishl, 1) := dk_120 (dk_at dksX8_from_2 0 rfl rfl)
theorem dX8_from_49 : decode cX8_from 49 = .ok (.ior, 1) := dk_128 (dk_at dksX8_from_2 1 rfl rfl)
theorem dX8_from_50 : decode cX8_from 50 = .ok (.istore_n 3, 1) := dk_62 (dk_at dksX8_from_2 2 rfl rfl)
theorem dX8_from_51 : decode cX8_from 51 = .ok (.iinc 4 1, 3) := dk_132 4 1 (dk_at dksX8_from_2 3 rfl rfl)
theorem dX8_from_54 : decode cX8_from 54 = .ok (.goto (-37), 3) := dk_167 255 219 (dk_at dksX8_from_2 6 rfl rfl)
theorem dX8_from_57 : decode cX8_from 57 = .ok (.iload_n 3, 1) := dk_29 (dk_at dksX8_from_2 9 rfl rfl)
theorem dX8_from_58 : decode cX8_from 58 = .ok (.ireturn, 1) := dk_172 (dk_at dksX8_from_2 10 rfl rfl)
abbrev cX8_together : ByteArray := prog_16_method_89_code
def yX8_together : MethodName := ⟨RX8, "together", "(II)I"⟩
def dkwX8_together_4 : List UInt8 := [100, 3, 3, 182, 1, 157, 28, 154, 0, 10, 42, 180, 1, 144, 167, 0, 7, 42, 180, 1, 147, 172]
abbrev dktX8_together_4 : List UInt8 := dkwX8_together_4 ++ []
def dkwX8_together_3 : List UInt8 := [132, 3, 1, 167, 255, 205, 42, 2, 181, 1, 144, 42, 3, 181, 1, 147, 42, 4, 42, 180, 0, 79, 120, 4]
abbrev dktX8_together_3 : List UInt8 := dkwX8_together_3 ++ dktX8_together_4
def dkwX8_together_2 : List UInt8 := [16, 6, 29, 104, 21, 4, 96, 42, 29, 21, 4, 27, 182, 1, 137, 79, 132, 4, 1, 167, 255, 224]
abbrev dktX8_together_2 : List UInt8 := dkwX8_together_2 ++ dktX8_together_3
def dkwX8_together_1 : List UInt8 := [180, 0, 79, 162, 0, 49, 29, 4, 96, 54, 4, 21, 4, 42, 180, 0, 79, 162, 0, 29, 42, 180, 0, 41]
abbrev dktX8_together_1 : List UInt8 := dkwX8_together_1 ++ dktX8_together_2
def dkwX8_together_0 : List UInt8 := [27, 184, 0, 109, 153, 0, 13, 28, 133, 9, 10, 184, 0, 82, 154, 0, 6, 16, 254, 172, 3, 62, 29, 42]
abbrev dktX8_together_0 : List UInt8 := dkwX8_together_0 ++ dktX8_together_1
theorem dksX8_together_0 : cX8_together.data.toList.drop 0 = dktX8_together_0 := by decide +kernel
theorem dksX8_together_1 : cX8_together.data.toList.drop 24 = dktX8_together_1 := dk_seg dksX8_together_0 24 rfl rfl
theorem dksX8_together_2 : cX8_together.data.toList.drop 48 = dktX8_together_2 := dk_seg dksX8_together_1 24 rfl rfl
theorem dksX8_together_3 : cX8_together.data.toList.drop 70 = dktX8_together_3 := dk_seg dksX8_together_2 22 rfl rfl
theorem dksX8_together_4 : cX8_together.data.toList.drop 94 = dktX8_together_4 := dk_seg dksX8_together_3 24 rfl rfl
theorem dX8_together_0 : decode cX8_together 0 = .ok (.iload_n 1, 1) := dk_27 (dk_at dksX8_together_0 0 rfl rfl)
theorem dX8_together_1 : decode cX8_together 1 = .ok (.invokestatic 109, 3) := dk_184 0 109 (dk_at dksX8_together_0 1 rfl rfl)
theorem dX8_together_4 : decode cX8_together 4 = .ok (.ifCond .eq 13, 3) := dk_153 0 13 (dk_at dksX8_together_0 4 rfl rfl)
theorem dX8_together_7 : decode cX8_together 7 = .ok (.iload_n 2, 1) := dk_28 (dk_at dksX8_together_0 7 rfl rfl)
theorem dX8_together_8 : decode cX8_together 8 = .ok (.i2l, 1) := dk_133 (dk_at dksX8_together_0 8 rfl rfl)
theorem dX8_together_9 : decode cX8_together 9 = .ok (.lconst 0, 1) := dk_9 (dk_at dksX8_together_0 9 rfl rfl)
theorem dX8_together_10 : decode cX8_together 10 = .ok (.lconst 1, 1) := dk_10 (dk_at dksX8_together_0 10 rfl rfl)
theorem dX8_together_11 : decode cX8_together 11 = .ok (.invokestatic 82, 3) := dk_184 0 82 (dk_at dksX8_together_0 11 rfl rfl)
theorem dX8_together_14 : decode cX8_together 14 = .ok (.ifCond .ne 6, 3) := dk_154 0 6 (dk_at dksX8_together_0 14 rfl rfl)
theorem dX8_together_17 : decode cX8_together 17 = .ok (.bipush (-2), 2) := dk_16 254 (dk_at dksX8_together_0 17 rfl rfl)
theorem dX8_together_19 : decode cX8_together 19 = .ok (.ireturn, 1) := dk_172 (dk_at dksX8_together_0 19 rfl rfl)
theorem dX8_together_20 : decode cX8_together 20 = .ok (.iconst 0, 1) := dk_3 (dk_at dksX8_together_0 20 rfl rfl)
theorem dX8_together_21 : decode cX8_together 21 = .ok (.istore_n 3, 1) := dk_62 (dk_at dksX8_together_0 21 rfl rfl)
theorem dX8_together_22 : decode cX8_together 22 = .ok (.iload_n 3, 1) := dk_29 (dk_at dksX8_together_0 22 rfl rfl)
theorem dX8_together_23 : decode cX8_together 23 = .ok (.aload_n 0, 1) := dk_42 (dk_at dksX8_together_0 23 rfl rfl)
theorem dX8_together_24 : decode cX8_together 24 = .ok (.getfield 79, 3) := dk_180 0 79 (dk_at dksX8_together_1 0 rfl rfl)
theorem dX8_together_27 : decode cX8_together 27 = .ok (.if_icmp .ge 49, 3) := dk_162 0 49 (dk_at dksX8_together_1 3 rfl rfl)
theorem dX8_together_30 : decode cX8_together 30 = .ok (.iload_n 3, 1) := dk_29 (dk_at dksX8_together_1 6 rfl rfl)
theorem dX8_together_31 : decode cX8_together 31 = .ok (.iconst 1, 1) := dk_4 (dk_at dksX8_together_1 7 rfl rfl)
theorem dX8_together_32 : decode cX8_together 32 = .ok (.iadd, 1) := dk_96 (dk_at dksX8_together_1 8 rfl rfl)
theorem dX8_together_33 : decode cX8_together 33 = .ok (.istore 4, 2) := dk_54 4 (dk_at dksX8_together_1 9 rfl rfl)
theorem dX8_together_35 : decode cX8_together 35 = .ok (.iload 4, 2) := dk_21 4 (dk_at dksX8_together_1 11 rfl rfl)
theorem dX8_together_37 : decode cX8_together 37 = .ok (.aload_n 0, 1) := dk_42 (dk_at dksX8_together_1 13 rfl rfl)
theorem dX8_together_38 : decode cX8_together 38 = .ok (.getfield 79, 3) := dk_180 0 79 (dk_at dksX8_together_1 14 rfl rfl)
theorem dX8_together_41 : decode cX8_together 41 = .ok (.if_icmp .ge 29, 3) := dk_162 0 29 (dk_at dksX8_together_1 17 rfl rfl)
theorem dX8_together_44 : decode cX8_together 44 = .ok (.aload_n 0, 1) := dk_42 (dk_at dksX8_together_1 20 rfl rfl)
theorem dX8_together_45 : decode cX8_together 45 = .ok (.getfield 41, 3) := dk_180 0 41 (dk_at dksX8_together_1 21 rfl rfl)
theorem dX8_together_48 : decode cX8_together 48 = .ok (.bipush 6, 2) := dk_16 6 (dk_at dksX8_together_2 0 rfl rfl)
theorem dX8_together_50 : decode cX8_together 50 = .ok (.iload_n 3, 1) := dk_29 (dk_at dksX8_together_2 2 rfl rfl)
theorem dX8_together_51 : decode cX8_together 51 = .ok (.imul, 1) := dk_104 (dk_at dksX8_together_2 3 rfl rfl)
theorem dX8_together_52 : decode cX8_together 52 = .ok (.iload 4, 2) := dk_21 4 (dk_at dksX8_together_2 4 rfl rfl)
theorem dX8_together_54 : decode cX8_together 54 = .ok (.iadd, 1) := dk_96 (dk_at dksX8_together_2 6 rfl rfl)
theorem dX8_together_55 : decode cX8_together 55 = .ok (.aload_n 0, 1) := dk_42 (dk_at dksX8_together_2 7 rfl rfl)
theorem dX8_together_56 : decode cX8_together 56 = .ok (.iload_n 3, 1) := dk_29 (dk_at dksX8_together_2 8 rfl rfl)
theorem dX8_together_57 : decode cX8_together 57 = .ok (.iload 4, 2) := dk_21 4 (dk_at dksX8_together_2 9 rfl rfl)
theorem dX8_together_59 : decode cX8_together 59 = .ok (.iload_n 1, 1) := dk_27 (dk_at dksX8_together_2 11 rfl rfl)
theorem dX8_together_60 : decode cX8_together 60 = .ok (.invokevirtual 393, 3) := dk_182 1 137 (dk_at dksX8_together_2 12 rfl rfl)
theorem dX8_together_63 : decode cX8_together 63 = .ok (.iastore, 1) := dk_79 (dk_at dksX8_together_2 15 rfl rfl)
theorem dX8_together_64 : decode cX8_together 64 = .ok (.iinc 4 1, 3) := dk_132 4 1 (dk_at dksX8_together_2 16 rfl rfl)
theorem dX8_together_67 : decode cX8_together 67 = .ok (.goto (-32), 3) := dk_167 255 224 (dk_at dksX8_together_2 19 rfl rfl)
theorem dX8_together_70 : decode cX8_together 70 = .ok (.iinc 3 1, 3) := dk_132 3 1 (dk_at dksX8_together_3 0 rfl rfl)
theorem dX8_together_73 : decode cX8_together 73 = .ok (.goto (-51), 3) := dk_167 255 205 (dk_at dksX8_together_3 3 rfl rfl)
theorem dX8_together_76 : decode cX8_together 76 = .ok (.aload_n 0, 1) := dk_42 (dk_at dksX8_together_3 6 rfl rfl)
theorem dX8_together_77 : decode cX8_together 77 = .ok (.iconst (-1), 1) := dk_2 (dk_at dksX8_together_3 7 rfl rfl)
theorem dX8_together_78 : decode cX8_together 78 = .ok (.putfield 400, 3) := dk_181 1 144 (dk_at dksX8_together_3 8 rfl rfl)
theorem dX8_together_81 : decode cX8_together 81 = .ok (.aload_n 0, 1) := dk_42 (dk_at dksX8_together_3 11 rfl rfl)
theorem dX8_together_82 : decode cX8_together 82 = .ok (.iconst 0, 1) := dk_3 (dk_at dksX8_together_3 12 rfl rfl)
theorem dX8_together_83 : decode cX8_together 83 = .ok (.putfield 403, 3) := dk_181 1 147 (dk_at dksX8_together_3 13 rfl rfl)
theorem dX8_together_86 : decode cX8_together 86 = .ok (.aload_n 0, 1) := dk_42 (dk_at dksX8_together_3 16 rfl rfl)
theorem dX8_together_87 : decode cX8_together 87 = .ok (.iconst 1, 1) := dk_4 (dk_at dksX8_together_3 17 rfl rfl)
theorem dX8_together_88 : decode cX8_together 88 = .ok (.aload_n 0, 1) := dk_42 (dk_at dksX8_together_3 18 rfl rfl)
theorem dX8_together_89 : decode cX8_together 89 = .ok (.getfield 79, 3) := dk_180 0 79 (dk_at dksX8_together_3 19 rfl rfl)
theorem dX8_together_92 : decode cX8_together 92 = .ok (.ishl, 1) := dk_120 (dk_at dksX8_together_3 22 rfl rfl)
theorem dX8_together_93 : decode cX8_together 93 = .ok (.iconst 1, 1) := dk_4 (dk_at dksX8_together_3 23 rfl rfl)
theorem dX8_together_94 : decode cX8_together 94 = .ok (.isub, 1) := dk_100 (dk_at dksX8_together_4 0 rfl rfl)
theorem dX8_together_95 : decode cX8_together 95 = .ok (.iconst 0, 1) := dk_3 (dk_at dksX8_together_4 1 rfl rfl)
theorem dX8_together_96 : decode cX8_together 96 = .ok (.iconst 0, 1) := dk_3 (dk_at dksX8_together_4 2 rfl rfl)
theorem dX8_together_97 : decode cX8_together 97 = .ok (.invokevirtual 413, 3) := dk_182 1 157 (dk_at dksX8_together_4 3 rfl rfl)
theorem dX8_together_100 : decode cX8_together 100 = .ok (.iload_n 2, 1) := dk_28 (dk_at dksX8_together_4 6 rfl rfl)
theorem dX8_together_101 : decode cX8_together 101 = .ok (.ifCond .ne 10, 3) := dk_154 0 10 (dk_at dksX8_together_4 7 rfl rfl)
theorem dX8_together_104 : decode cX8_together 104 = .ok (.aload_n 0, 1) := dk_42 (dk_at dksX8_together_4 10 rfl rfl)
theorem dX8_together_105 : decode cX8_together 105 = .ok (.getfield 400, 3) := dk_180 1 144 (dk_at dksX8_together_4 11 rfl rfl)
theorem dX8_together_108 : decode cX8_together 108 = .ok (.goto 7, 3) := dk_167 0 7 (dk_at dksX8_together_4 14 rfl rfl)
theorem dX8_together_111 : decode cX8_together 111 = .ok (.aload_n 0, 1) := dk_42 (dk_at dksX8_together_4 17 rfl rfl)
theorem dX8_together_112 : decode cX8_together 112 = .ok (.getfield 403, 3) := dk_180 1 147 (dk_at dksX8_together_4 18 rfl rfl)
theorem dX8_together_115 : decode cX8_together 115 = .ok (.ireturn, 1) := dk_172 (dk_at dksX8_together_4 21 rfl rfl)
abbrev cX8_matches : ByteArray := prog_16_method_88_code
def yX8_matches : MethodName := ⟨RX8, "matches", "(III)V"⟩
def dkwX8_matches_5 : List UInt8 := [42, 21, 5, 28, 29, 182, 1, 157, 177]
abbrev dktX8_matches_5 : List UInt8 := dkwX8_matches_5 ++ []
def dkwX8_matches_4 : List UInt8 := [21, 6, 96, 46, 96, 182, 1, 157, 132, 6, 1, 167, 255, 190, 27, 184, 1, 134, 5, 112, 4, 160, 0, 11]
abbrev dktX8_matches_4 : List UInt8 := dkwX8_matches_4 ++ dktX8_matches_5
def dkwX8_matches_3 : List UInt8 := [16, 10, 21, 4, 4, 96, 104, 96, 21, 6, 96, 4, 96, 29, 42, 180, 0, 41, 16, 6, 21, 4, 104]
abbrev dktX8_matches_3 : List UInt8 := dkwX8_matches_3 ++ dktX8_matches_4
def dkwX8_matches_2 : List UInt8 := [21, 6, 122, 4, 126, 4, 160, 0, 48, 42, 21, 5, 4, 21, 6, 120, 2, 130, 126, 16, 100, 28, 104]
abbrev dktX8_matches_2 : List UInt8 := dkwX8_matches_2 ++ dktX8_matches_3
def dkwX8_matches_1 : List UInt8 := [21, 4, 120, 2, 130, 126, 54, 5, 21, 4, 4, 96, 54, 6, 21, 6, 16, 6, 162, 0, 65, 21, 5]
abbrev dktX8_matches_1 : List UInt8 := dkwX8_matches_1 ++ dktX8_matches_2
def dkwX8_matches_0 : List UInt8 := [27, 184, 1, 134, 5, 162, 0, 10, 42, 28, 29, 182, 1, 150, 177, 42, 27, 182, 1, 154, 54, 4, 27, 4]
abbrev dktX8_matches_0 : List UInt8 := dkwX8_matches_0 ++ dktX8_matches_1
theorem dksX8_matches_0 : cX8_matches.data.toList.drop 0 = dktX8_matches_0 := by decide +kernel
theorem dksX8_matches_1 : cX8_matches.data.toList.drop 24 = dktX8_matches_1 := dk_seg dksX8_matches_0 24 rfl rfl
theorem dksX8_matches_2 : cX8_matches.data.toList.drop 47 = dktX8_matches_2 := dk_seg dksX8_matches_1 23 rfl rfl
theorem dksX8_matches_3 : cX8_matches.data.toList.drop 70 = dktX8_matches_3 := dk_seg dksX8_matches_2 23 rfl rfl
theorem dksX8_matches_4 : cX8_matches.data.toList.drop 93 = dktX8_matches_4 := dk_seg dksX8_matches_3 23 rfl rfl
theorem dksX8_matches_5 : cX8_matches.data.toList.drop 117 = dktX8_matches_5 := dk_seg dksX8_matches_4 24 rfl rfl
theorem dX8_matches_0 : decode cX8_matches 0 = .ok (.iload_n 1, 1) := dk_27 (dk_at dksX8_matches_0 0 rfl rfl)
theorem dX8_matches_1 : decode cX8_matches 1 = .ok (.invokestatic 390, 3) := dk_184 1 134 (dk_at dksX8_matches_0 1 rfl rfl)
theorem dX8_matches_4 : decode cX8_matches 4 = .ok (.iconst 2, 1) := dk_5 (dk_at dksX8_matches_0 4 rfl rfl)
theorem dX8_matches_5 : decode cX8_matches 5 = .ok (.if_icmp .ge 10, 3) := dk_162 0 10 (dk_at dksX8_matches_0 5 rfl rfl)
theorem dX8_matches_8 : decode cX8_matches 8 = .ok (.aload_n 0, 1) := dk_42 (dk_at dksX8_matches_0 8 rfl rfl)
theorem dX8_matches_9 : decode cX8_matches 9 = .ok (.iload_n 2, 1) := dk_28 (dk_at dksX8_matches_0 9 rfl rfl)
theorem dX8_matches_10 : decode cX8_matches 10 = .ok (.iload_n 3, 1) := dk_29 (dk_at dksX8_matches_0 10 rfl rfl)
theorem dX8_matches_11 : decode cX8_matches 11 = .ok (.invokevirtual 406, 3) := dk_182 1 150 (dk_at dksX8_matches_0 11 rfl rfl)
theorem dX8_matches_14 : decode cX8_matches 14 = .ok (.return_, 1) := dk_177 (dk_at dksX8_matches_0 14 rfl rfl)
theorem dX8_matches_15 : decode cX8_matches 15 = .ok (.aload_n 0, 1) := dk_42 (dk_at dksX8_matches_0 15 rfl rfl)
theorem dX8_matches_16 : decode cX8_matches 16 = .ok (.iload_n 1, 1) := dk_27 (dk_at dksX8_matches_0 16 rfl rfl)
theorem dX8_matches_17 : decode cX8_matches 17 = .ok (.invokevirtual 410, 3) := dk_182 1 154 (dk_at dksX8_matches_0 17 rfl rfl)
theorem dX8_matches_20 : decode cX8_matches 20 = .ok (.istore 4, 2) := dk_54 4 (dk_at dksX8_matches_0 20 rfl rfl)
theorem dX8_matches_22 : decode cX8_matches 22 = .ok (.iload_n 1, 1) := dk_27 (dk_at dksX8_matches_0 22 rfl rfl)
theorem dX8_matches_23 : decode cX8_matches 23 = .ok (.iconst 1, 1) := dk_4 (dk_at dksX8_matches_0 23 rfl rfl)
theorem dX8_matches_24 : decode cX8_matches 24 = .ok (.iload 4, 2) := dk_21 4 (dk_at dksX8_matches_1 0 rfl rfl)
theorem dX8_matches_26 : decode cX8_matches 26 = .ok (.ishl, 1) := dk_120 (dk_at dksX8_matches_1 2 rfl rfl)
theorem dX8_matches_27 : decode cX8_matches 27 = .ok (.iconst (-1), 1) := dk_2 (dk_at dksX8_matches_1 3 rfl rfl)
theorem dX8_matches_28 : decode cX8_matches 28 = .ok (.ixor, 1) := dk_130 (dk_at dksX8_matches_1 4 rfl rfl)
theorem dX8_matches_29 : decode cX8_matches 29 = .ok (.iand, 1) := dk_126 (dk_at dksX8_matches_1 5 rfl rfl)
theorem dX8_matches_30 : decode cX8_matches 30 = .ok (.istore 5, 2) := dk_54 5 (dk_at dksX8_matches_1 6 rfl rfl)
theorem dX8_matches_32 : decode cX8_matches 32 = .ok (.iload 4, 2) := dk_21 4 (dk_at dksX8_matches_1 8 rfl rfl)
theorem dX8_matches_34 : decode cX8_matches 34 = .ok (.iconst 1, 1) := dk_4 (dk_at dksX8_matches_1 10 rfl rfl)
theorem dX8_matches_35 : decode cX8_matches 35 = .ok (.iadd, 1) := dk_96 (dk_at dksX8_matches_1 11 rfl rfl)
theorem dX8_matches_36 : decode cX8_matches 36 = .ok (.istore 6, 2) := dk_54 6 (dk_at dksX8_matches_1 12 rfl rfl)
theorem dX8_matches_38 : decode cX8_matches 38 = .ok (.iload 6, 2) := dk_21 6 (dk_at dksX8_matches_1 14 rfl rfl)
theorem dX8_matches_40 : decode cX8_matches 40 = .ok (.bipush 6, 2) := dk_16 6 (dk_at dksX8_matches_1 16 rfl rfl)
theorem dX8_matches_42 : decode cX8_matches 42 = .ok (.if_icmp .ge 65, 3) := dk_162 0 65 (dk_at dksX8_matches_1 18 rfl rfl)
theorem dX8_matches_45 : decode cX8_matches 45 = .ok (.iload 5, 2) := dk_21 5 (dk_at dksX8_matches_1 21 rfl rfl)
theorem dX8_matches_47 : decode cX8_matches 47 = .ok (.iload 6, 2) := dk_21 6 (dk_at dksX8_matches_2 0 rfl rfl)
theorem dX8_matches_49 : decode cX8_matches 49 = .ok (.ishr, 1) := dk_122 (dk_at dksX8_matches_2 2 rfl rfl)
theorem dX8_matches_50 : decode cX8_matches 50 = .ok (.iconst 1, 1) := dk_4 (dk_at dksX8_matches_2 3 rfl rfl)
theorem dX8_matches_51 : decode cX8_matches 51 = .ok (.iand, 1) := dk_126 (dk_at dksX8_matches_2 4 rfl rfl)
theorem dX8_matches_52 : decode cX8_matches 52 = .ok (.iconst 1, 1) := dk_4 (dk_at dksX8_matches_2 5 rfl rfl)
theorem dX8_matches_53 : decode cX8_matches 53 = .ok (.if_icmp .ne 48, 3) := dk_160 0 48 (dk_at dksX8_matches_2 6 rfl rfl)
theorem dX8_matches_56 : decode cX8_matches 56 = .ok (.aload_n 0, 1) := dk_42 (dk_at dksX8_matches_2 9 rfl rfl)
theorem dX8_matches_57 : decode cX8_matches 57 = .ok (.iload 5, 2) := dk_21 5 (dk_at dksX8_matches_2 10 rfl rfl)
theorem dX8_matches_59 : decode cX8_matches 59 = .ok (.iconst 1, 1) := dk_4 (dk_at dksX8_matches_2 12 rfl rfl)
theorem dX8_matches_60 : decode cX8_matches 60 = .ok (.iload 6, 2) := dk_21 6 (dk_at dksX8_matches_2 13 rfl rfl)
theorem dX8_matches_62 : decode cX8_matches 62 = .ok (.ishl, 1) := dk_120 (dk_at dksX8_matches_2 15 rfl rfl)
theorem dX8_matches_63 : decode cX8_matches 63 = .ok (.iconst (-1), 1) := dk_2 (dk_at dksX8_matches_2 16 rfl rfl)
theorem dX8_matches_64 : decode cX8_matches 64 = .ok (.ixor, 1) := dk_130 (dk_at dksX8_matches_2 17 rfl rfl)
theorem dX8_matches_65 : decode cX8_matches 65 = .ok (.iand, 1) := dk_126 (dk_at dksX8_matches_2 18 rfl rfl)
theorem dX8_matches_66 : decode cX8_matches 66 = .ok (.bipush 100, 2) := dk_16 100 (dk_at dksX8_matches_2 19 rfl rfl)
theorem dX8_matches_68 : decode cX8_matches 68 = .ok (.iload_n 2, 1) := dk_28 (dk_at dksX8_matches_2 21 rfl rfl)
theorem dX8_matches_69 : decode cX8_matches 69 = .ok (.imul, 1) := dk_104 (dk_at dksX8_matches_2 22 rfl rfl)
theorem dX8_matches_70 : decode cX8_matches 70 = .ok (.bipush 10, 2) := dk_16 10 (dk_at dksX8_matches_3 0 rfl rfl)
theorem dX8_matches_72 : decode cX8_matches 72 = .ok (.iload 4, 2) := dk_21 4 (dk_at dksX8_matches_3 2 rfl rfl)
theorem dX8_matches_74 : decode cX8_matches 74 = .ok (.iconst 1, 1) := dk_4 (dk_at dksX8_matches_3 4 rfl rfl)
theorem dX8_matches_75 : decode cX8_matches 75 = .ok (.iadd, 1) := dk_96 (dk_at dksX8_matches_3 5 rfl rfl)
theorem dX8_matches_76 : decode cX8_matches 76 = .ok (.imul, 1) := dk_104 (dk_at dksX8_matches_3 6 rfl rfl)
theorem dX8_matches_77 : decode cX8_matches 77 = .ok (.iadd, 1) := dk_96 (dk_at dksX8_matches_3 7 rfl rfl)
theorem dX8_matches_78 : decode cX8_matches 78 = .ok (.iload 6, 2) := dk_21 6 (dk_at dksX8_matches_3 8 rfl rfl)
theorem dX8_matches_80 : decode cX8_matches 80 = .ok (.iadd, 1) := dk_96 (dk_at dksX8_matches_3 10 rfl rfl)
theorem dX8_matches_81 : decode cX8_matches 81 = .ok (.iconst 1, 1) := dk_4 (dk_at dksX8_matches_3 11 rfl rfl)
theorem dX8_matches_82 : decode cX8_matches 82 = .ok (.iadd, 1) := dk_96 (dk_at dksX8_matches_3 12 rfl rfl)
theorem dX8_matches_83 : decode cX8_matches 83 = .ok (.iload_n 3, 1) := dk_29 (dk_at dksX8_matches_3 13 rfl rfl)
theorem dX8_matches_84 : decode cX8_matches 84 = .ok (.aload_n 0, 1) := dk_42 (dk_at dksX8_matches_3 14 rfl rfl)
theorem dX8_matches_85 : decode cX8_matches 85 = .ok (.getfield 41, 3) := dk_180 0 41 (dk_at dksX8_matches_3 15 rfl rfl)
theorem dX8_matches_88 : decode cX8_matches 88 = .ok (.bipush 6, 2) := dk_16 6 (dk_at dksX8_matches_3 18 rfl rfl)
theorem dX8_matches_90 : decode cX8_matches 90 = .ok (.iload 4, 2) := dk_21 4 (dk_at dksX8_matches_3 20 rfl rfl)
theorem dX8_matches_92 : decode cX8_matches 92 = .ok (.imul, 1) := dk_104 (dk_at dksX8_matches_3 22 rfl rfl)
theorem dX8_matches_93 : decode cX8_matches 93 = .ok (.iload 6, 2) := dk_21 6 (dk_at dksX8_matches_4 0 rfl rfl)
theorem dX8_matches_95 : decode cX8_matches 95 = .ok (.iadd, 1) := dk_96 (dk_at dksX8_matches_4 2 rfl rfl)
theorem dX8_matches_96 : decode cX8_matches 96 = .ok (.iaload, 1) := dk_46 (dk_at dksX8_matches_4 3 rfl rfl)
theorem dX8_matches_97 : decode cX8_matches 97 = .ok (.iadd, 1) := dk_96 (dk_at dksX8_matches_4 4 rfl rfl)
theorem dX8_matches_98 : decode cX8_matches 98 = .ok (.invokevirtual 413, 3) := dk_182 1 157 (dk_at dksX8_matches_4 5 rfl rfl)
theorem dX8_matches_101 : decode cX8_matches 101 = .ok (.iinc 6 1, 3) := dk_132 6 1 (dk_at dksX8_matches_4 8 rfl rfl)
theorem dX8_matches_104 : decode cX8_matches 104 = .ok (.goto (-66), 3) := dk_167 255 190 (dk_at dksX8_matches_4 11 rfl rfl)
theorem dX8_matches_107 : decode cX8_matches 107 = .ok (.iload_n 1, 1) := dk_27 (dk_at dksX8_matches_4 14 rfl rfl)
theorem dX8_matches_108 : decode cX8_matches 108 = .ok (.invokestatic 390, 3) := dk_184 1 134 (dk_at dksX8_matches_4 15 rfl rfl)
theorem dX8_matches_111 : decode cX8_matches 111 = .ok (.iconst 2, 1) := dk_5 (dk_at dksX8_matches_4 18 rfl rfl)
theorem dX8_matches_112 : decode cX8_matches 112 = .ok (.irem, 1) := dk_112 (dk_at dksX8_matches_4 19 rfl rfl)
theorem dX8_matches_113 : decode cX8_matches 113 = .ok (.iconst 1, 1) := dk_4 (dk_at dksX8_matches_4 20 rfl rfl)
theorem dX8_matches_114 : decode cX8_matches 114 = .ok (.if_icmp .ne 11, 3) := dk_160 0 11 (dk_at dksX8_matches_4 21 rfl rfl)
theorem dX8_matches_117 : decode cX8_matches 117 = .ok (.aload_n 0, 1) := dk_42 (dk_at dksX8_matches_5 0 rfl rfl)
theorem dX8_matches_118 : decode cX8_matches 118 = .ok (.iload 5, 2) := dk_21 5 (dk_at dksX8_matches_5 1 rfl rfl)
theorem dX8_matches_120 : decode cX8_matches 120 = .ok (.iload_n 2, 1) := dk_28 (dk_at dksX8_matches_5 3 rfl rfl)
theorem dX8_matches_121 : decode cX8_matches 121 = .ok (.iload_n 3, 1) := dk_29 (dk_at dksX8_matches_5 4 rfl rfl)
theorem dX8_matches_122 : decode cX8_matches 122 = .ok (.invokevirtual 413, 3) := dk_182 1 157 (dk_at dksX8_matches_5 5 rfl rfl)
theorem dX8_matches_125 : decode cX8_matches 125 = .ok (.return_, 1) := dk_177 (dk_at dksX8_matches_5 8 rfl rfl)
abbrev cX8_looks : ByteArray := prog_16_method_87_code
def yX8_looks : MethodName := ⟨RX8, "looks", "(II)V"⟩
def dkwX8_looks_1 : List UInt8 := [181, 1, 147, 177]
abbrev dktX8_looks_1 : List UInt8 := dkwX8_looks_1 ++ []
def dkwX8_looks_0 : List UInt8 := [42, 180, 1, 144, 2, 159, 0, 11, 28, 42, 180, 1, 147, 162, 0, 13, 42, 27, 181, 1, 144, 42, 28]
abbrev dktX8_looks_0 : List UInt8 := dkwX8_looks_0 ++ dktX8_looks_1
theorem dksX8_looks_0 : cX8_looks.data.toList.drop 0 = dktX8_looks_0 := by decide +kernel
theorem dksX8_looks_1 : cX8_looks.data.toList.drop 23 = dktX8_looks_1 := dk_seg dksX8_looks_0 23 rfl rfl
theorem dX8_looks_0 : decode cX8_looks 0 = .ok (.aload_n 0, 1) := dk_42 (dk_at dksX8_looks_0 0 rfl rfl)
theorem dX8_looks_1 : decode cX8_looks 1 = .ok (.getfield 400, 3) := dk_180 1 144 (dk_at dksX8_looks_0 1 rfl rfl)
theorem dX8_looks_4 : decode cX8_looks 4 = .ok (.iconst (-1), 1) := dk_2 (dk_at dksX8_looks_0 4 rfl rfl)
theorem dX8_looks_5 : decode cX8_looks 5 = .ok (.if_icmp .eq 11, 3) := dk_159 0 11 (dk_at dksX8_looks_0 5 rfl rfl)
theorem dX8_looks_8 : decode cX8_looks 8 = .ok (.iload_n 2, 1) := dk_28 (dk_at dksX8_looks_0 8 rfl rfl)
theorem dX8_looks_9 : decode cX8_looks 9 = .ok (.aload_n 0, 1) := dk_42 (dk_at dksX8_looks_0 9 rfl rfl)
theorem dX8_looks_10 : decode cX8_looks 10 = .ok (.getfield 403, 3) := dk_180 1 147 (dk_at dksX8_looks_0 10 rfl rfl)
theorem dX8_looks_13 : decode cX8_looks 13 = .ok (.if_icmp .ge 13, 3) := dk_162 0 13 (dk_at dksX8_looks_0 13 rfl rfl)
theorem dX8_looks_16 : decode cX8_looks 16 = .ok (.aload_n 0, 1) := dk_42 (dk_at dksX8_looks_0 16 rfl rfl)
theorem dX8_looks_17 : decode cX8_looks 17 = .ok (.iload_n 1, 1) := dk_27 (dk_at dksX8_looks_0 17 rfl rfl)
theorem dX8_looks_18 : decode cX8_looks 18 = .ok (.putfield 400, 3) := dk_181 1 144 (dk_at dksX8_looks_0 18 rfl rfl)
theorem dX8_looks_21 : decode cX8_looks 21 = .ok (.aload_n 0, 1) := dk_42 (dk_at dksX8_looks_0 21 rfl rfl)
theorem dX8_looks_22 : decode cX8_looks 22 = .ok (.iload_n 2, 1) := dk_28 (dk_at dksX8_looks_0 22 rfl rfl)
theorem dX8_looks_23 : decode cX8_looks 23 = .ok (.putfield 403, 3) := dk_181 1 147 (dk_at dksX8_looks_1 0 rfl rfl)
theorem dX8_looks_26 : decode cX8_looks 26 = .ok (.return_, 1) := dk_177 (dk_at dksX8_looks_1 3 rfl rfl)
abbrev cX8_leastIn : ByteArray := prog_16_method_86_code
def yX8_leastIn : MethodName := ⟨RX8, "leastIn", "(I)I"⟩
def dkwX8_leastIn_0 : List UInt8 := [3, 61, 28, 16, 6, 162, 0, 17, 27, 28, 122, 4, 126, 154, 0, 9, 132, 2, 1, 167, 255, 239, 28, 172]
abbrev dktX8_leastIn_0 : List UInt8 := dkwX8_leastIn_0 ++ []
theorem dksX8_leastIn_0 : cX8_leastIn.data.toList.drop 0 = dktX8_leastIn_0 := by decide +kernel
theorem dX8_leastIn_0 : decode cX8_leastIn 0 = .ok (.iconst 0, 1) := dk_3 (dk_at dksX8_leastIn_0 0 rfl rfl)
theorem dX8_leastIn_1 : decode cX8_leastIn 1 = .ok (.istore_n 2, 1) := dk_61 (dk_at dksX8_leastIn_0 1 rfl rfl)
theorem dX8_leastIn_2 : decode cX8_leastIn 2 = .ok (.iload_n 2, 1) := dk_28 (dk_at dksX8_leastIn_0 2 rfl rfl)
theorem dX8_leastIn_3 : decode cX8_leastIn 3 = .ok (.bipush 6, 2) := dk_16 6 (dk_at dksX8_leastIn_0 3 rfl rfl)
theorem dX8_leastIn_5 : decode cX8_leastIn 5 = .ok (.if_icmp .ge 17, 3) := dk_162 0 17 (dk_at dksX8_leastIn_0 5 rfl rfl)
theorem dX8_leastIn_8 : decode cX8_leastIn 8 = .ok (.iload_n 1, 1) := dk_27 (dk_at dksX8_leastIn_0 8 rfl rfl)
theorem dX8_leastIn_9 : decode cX8_leastIn 9 = .ok (.iload_n 2, 1) := dk_28 (dk_at dksX8_leastIn_0 9 rfl rfl)
theorem dX8_leastIn_10 : decode cX8_leastIn 10 = .ok (.ishr, 1) := dk_122 (dk_at dksX8_leastIn_0 10 rfl rfl)
theorem dX8_leastIn_11 : decode cX8_leastIn 11 = .ok (.iconst 1, 1) := dk_4 (dk_at dksX8_leastIn_0 11 rfl rfl)
theorem dX8_leastIn_12 : decode cX8_leastIn 12 = .ok (.iand, 1) := dk_126 (dk_at dksX8_leastIn_0 12 rfl rfl)
theorem dX8_leastIn_13 : decode cX8_leastIn 13 = .ok (.ifCond .ne 9, 3) := dk_154 0 9 (dk_at dksX8_leastIn_0 13 rfl rfl)
theorem dX8_leastIn_16 : decode cX8_leastIn 16 = .ok (.iinc 2 1, 3) := dk_132 2 1 (dk_at dksX8_leastIn_0 16 rfl rfl)
theorem dX8_leastIn_19 : decode cX8_leastIn 19 = .ok (.goto (-17), 3) := dk_167 255 239 (dk_at dksX8_leastIn_0 19 rfl rfl)
theorem dX8_leastIn_22 : decode cX8_leastIn 22 = .ok (.iload_n 2, 1) := dk_28 (dk_at dksX8_leastIn_0 22 rfl rfl)
theorem dX8_leastIn_23 : decode cX8_leastIn 23 = .ok (.ireturn, 1) := dk_172 (dk_at dksX8_leastIn_0 23 rfl rfl)
abbrev cX8_shut : ByteArray := prog_16_method_91_code
def yX8_shut : MethodName := ⟨RX8, "shut", "(IIII)I"⟩
def dkwX8_shut_6 : List UInt8 := [21, 9, 54, 6, 132, 7, 1, 167, 255, 152, 21, 4, 154, 0, 8, 21, 5, 167, 0, 5, 21, 6, 172]
abbrev dktX8_shut_6 : List UInt8 := dkwX8_shut_6 ++ []
def dkwX8_shut_5 : List UInt8 := [21, 9, 21, 6, 164, 0, 23, 16, 10, 21, 7, 16, 8, 108, 104, 21, 7, 16, 8, 112, 96, 54, 5]
abbrev dktX8_shut_5 : List UInt8 := dkwX8_shut_5 ++ dktX8_shut_6
def dkwX8_shut_4 : List UInt8 := [27, 28, 29, 182, 1, 137, 54, 9, 42, 21, 7, 16, 8, 108, 21, 7, 16, 8, 112, 21, 8, 182, 0, 114]
abbrev dktX8_shut_4 : List UInt8 := dkwX8_shut_4 ++ dktX8_shut_5
def dkwX8_shut_3 : List UInt8 := [21, 7, 16, 8, 112, 162, 0, 70, 42, 21, 7, 16, 8, 108, 21, 7, 16, 8, 112, 3, 182, 0, 114, 42]
abbrev dktX8_shut_3 : List UInt8 := dkwX8_shut_3 ++ dktX8_shut_4
def dkwX8_shut_2 : List UInt8 := [16, 64, 162, 0, 103, 42, 180, 0, 26, 21, 7, 46, 54, 8, 21, 8, 158, 0, 83, 21, 7, 16, 8, 108]
abbrev dktX8_shut_2 : List UInt8 := dkwX8_shut_2 ++ dktX8_shut_3
def dkwX8_shut_1 : List UInt8 := [154, 0, 6, 16, 254, 172, 2, 54, 5, 42, 27, 28, 29, 182, 1, 137, 54, 6, 3, 54, 7, 21, 7]
abbrev dktX8_shut_1 : List UInt8 := dkwX8_shut_1 ++ dktX8_shut_2
def dkwX8_shut_0 : List UInt8 := [42, 27, 28, 182, 1, 99, 153, 0, 21, 29, 184, 0, 109, 153, 0, 14, 21, 4, 133, 9, 10, 184, 0, 82]
abbrev dktX8_shut_0 : List UInt8 := dkwX8_shut_0 ++ dktX8_shut_1
theorem dksX8_shut_0 : cX8_shut.data.toList.drop 0 = dktX8_shut_0 := by decide +kernel
theorem dksX8_shut_1 : cX8_shut.data.toList.drop 24 = dktX8_shut_1 := dk_seg dksX8_shut_0 24 rfl rfl
theorem dksX8_shut_2 : cX8_shut.data.toList.drop 47 = dktX8_shut_2 := dk_seg dksX8_shut_1 23 rfl rfl
theorem dksX8_shut_3 : cX8_shut.data.toList.drop 71 = dktX8_shut_3 := dk_seg dksX8_shut_2 24 rfl rfl
theorem dksX8_shut_4 : cX8_shut.data.toList.drop 95 = dktX8_shut_4 := dk_seg dksX8_shut_3 24 rfl rfl
theorem dksX8_shut_5 : cX8_shut.data.toList.drop 119 = dktX8_shut_5 := dk_seg dksX8_shut_4 24 rfl rfl
theorem dksX8_shut_6 : cX8_shut.data.toList.drop 142 = dktX8_shut_6 := dk_seg dksX8_shut_5 23 rfl rfl
theorem dX8_shut_0 : decode cX8_shut 0 = .ok (.aload_n 0, 1) := dk_42 (dk_at dksX8_shut_0 0 rfl rfl)
theorem dX8_shut_1 : decode cX8_shut 1 = .ok (.iload_n 1, 1) := dk_27 (dk_at dksX8_shut_0 1 rfl rfl)
theorem dX8_shut_2 : decode cX8_shut 2 = .ok (.iload_n 2, 1) := dk_28 (dk_at dksX8_shut_0 2 rfl rfl)
theorem dX8_shut_3 : decode cX8_shut 3 = .ok (.invokevirtual 355, 3) := dk_182 1 99 (dk_at dksX8_shut_0 3 rfl rfl)
theorem dX8_shut_6 : decode cX8_shut 6 = .ok (.ifCond .eq 21, 3) := dk_153 0 21 (dk_at dksX8_shut_0 6 rfl rfl)
theorem dX8_shut_9 : decode cX8_shut 9 = .ok (.iload_n 3, 1) := dk_29 (dk_at dksX8_shut_0 9 rfl rfl)
theorem dX8_shut_10 : decode cX8_shut 10 = .ok (.invokestatic 109, 3) := dk_184 0 109 (dk_at dksX8_shut_0 10 rfl rfl)
theorem dX8_shut_13 : decode cX8_shut 13 = .ok (.ifCond .eq 14, 3) := dk_153 0 14 (dk_at dksX8_shut_0 13 rfl rfl)
theorem dX8_shut_16 : decode cX8_shut 16 = .ok (.iload 4, 2) := dk_21 4 (dk_at dksX8_shut_0 16 rfl rfl)
theorem dX8_shut_18 : decode cX8_shut 18 = .ok (.i2l, 1) := dk_133 (dk_at dksX8_shut_0 18 rfl rfl)
theorem dX8_shut_19 : decode cX8_shut 19 = .ok (.lconst 0, 1) := dk_9 (dk_at dksX8_shut_0 19 rfl rfl)
theorem dX8_shut_20 : decode cX8_shut 20 = .ok (.lconst 1, 1) := dk_10 (dk_at dksX8_shut_0 20 rfl rfl)
theorem dX8_shut_21 : decode cX8_shut 21 = .ok (.invokestatic 82, 3) := dk_184 0 82 (dk_at dksX8_shut_0 21 rfl rfl)
theorem dX8_shut_24 : decode cX8_shut 24 = .ok (.ifCond .ne 6, 3) := dk_154 0 6 (dk_at dksX8_shut_1 0 rfl rfl)
theorem dX8_shut_27 : decode cX8_shut 27 = .ok (.bipush (-2), 2) := dk_16 254 (dk_at dksX8_shut_1 3 rfl rfl)
theorem dX8_shut_29 : decode cX8_shut 29 = .ok (.ireturn, 1) := dk_172 (dk_at dksX8_shut_1 5 rfl rfl)
theorem dX8_shut_30 : decode cX8_shut 30 = .ok (.iconst (-1), 1) := dk_2 (dk_at dksX8_shut_1 6 rfl rfl)
theorem dX8_shut_31 : decode cX8_shut 31 = .ok (.istore 5, 2) := dk_54 5 (dk_at dksX8_shut_1 7 rfl rfl)
theorem dX8_shut_33 : decode cX8_shut 33 = .ok (.aload_n 0, 1) := dk_42 (dk_at dksX8_shut_1 9 rfl rfl)
theorem dX8_shut_34 : decode cX8_shut 34 = .ok (.iload_n 1, 1) := dk_27 (dk_at dksX8_shut_1 10 rfl rfl)
theorem dX8_shut_35 : decode cX8_shut 35 = .ok (.iload_n 2, 1) := dk_28 (dk_at dksX8_shut_1 11 rfl rfl)
theorem dX8_shut_36 : decode cX8_shut 36 = .ok (.iload_n 3, 1) := dk_29 (dk_at dksX8_shut_1 12 rfl rfl)
theorem dX8_shut_37 : decode cX8_shut 37 = .ok (.invokevirtual 393, 3) := dk_182 1 137 (dk_at dksX8_shut_1 13 rfl rfl)
theorem dX8_shut_40 : decode cX8_shut 40 = .ok (.istore 6, 2) := dk_54 6 (dk_at dksX8_shut_1 16 rfl rfl)
theorem dX8_shut_42 : decode cX8_shut 42 = .ok (.iconst 0, 1) := dk_3 (dk_at dksX8_shut_1 18 rfl rfl)
theorem dX8_shut_43 : decode cX8_shut 43 = .ok (.istore 7, 2) := dk_54 7 (dk_at dksX8_shut_1 19 rfl rfl)
theorem dX8_shut_45 : decode cX8_shut 45 = .ok (.iload 7, 2) := dk_21 7 (dk_at dksX8_shut_1 21 rfl rfl)
theorem dX8_shut_47 : decode cX8_shut 47 = .ok (.bipush 64, 2) := dk_16 64 (dk_at dksX8_shut_2 0 rfl rfl)
theorem dX8_shut_49 : decode cX8_shut 49 = .ok (.if_icmp .ge 103, 3) := dk_162 0 103 (dk_at dksX8_shut_2 2 rfl rfl)
theorem dX8_shut_52 : decode cX8_shut 52 = .ok (.aload_n 0, 1) := dk_42 (dk_at dksX8_shut_2 5 rfl rfl)
theorem dX8_shut_53 : decode cX8_shut 53 = .ok (.getfield 26, 3) := dk_180 0 26 (dk_at dksX8_shut_2 6 rfl rfl)
theorem dX8_shut_56 : decode cX8_shut 56 = .ok (.iload 7, 2) := dk_21 7 (dk_at dksX8_shut_2 9 rfl rfl)
theorem dX8_shut_58 : decode cX8_shut 58 = .ok (.iaload, 1) := dk_46 (dk_at dksX8_shut_2 11 rfl rfl)
theorem dX8_shut_59 : decode cX8_shut 59 = .ok (.istore 8, 2) := dk_54 8 (dk_at dksX8_shut_2 12 rfl rfl)
theorem dX8_shut_61 : decode cX8_shut 61 = .ok (.iload 8, 2) := dk_21 8 (dk_at dksX8_shut_2 14 rfl rfl)
theorem dX8_shut_63 : decode cX8_shut 63 = .ok (.ifCond .le 83, 3) := dk_158 0 83 (dk_at dksX8_shut_2 16 rfl rfl)
theorem dX8_shut_66 : decode cX8_shut 66 = .ok (.iload 7, 2) := dk_21 7 (dk_at dksX8_shut_2 19 rfl rfl)
theorem dX8_shut_68 : decode cX8_shut 68 = .ok (.bipush 8, 2) := dk_16 8 (dk_at dksX8_shut_2 21 rfl rfl)
theorem dX8_shut_70 : decode cX8_shut 70 = .ok (.idiv, 1) := dk_108 (dk_at dksX8_shut_2 23 rfl rfl)
theorem dX8_shut_71 : decode cX8_shut 71 = .ok (.iload 7, 2) := dk_21 7 (dk_at dksX8_shut_3 0 rfl rfl)
theorem dX8_shut_73 : decode cX8_shut 73 = .ok (.bipush 8, 2) := dk_16 8 (dk_at dksX8_shut_3 2 rfl rfl)
theorem dX8_shut_75 : decode cX8_shut 75 = .ok (.irem, 1) := dk_112 (dk_at dksX8_shut_3 4 rfl rfl)
theorem dX8_shut_76 : decode cX8_shut 76 = .ok (.if_icmp .ge 70, 3) := dk_162 0 70 (dk_at dksX8_shut_3 5 rfl rfl)
theorem dX8_shut_79 : decode cX8_shut 79 = .ok (.aload_n 0, 1) := dk_42 (dk_at dksX8_shut_3 8 rfl rfl)
theorem dX8_shut_80 : decode cX8_shut 80 = .ok (.iload 7, 2) := dk_21 7 (dk_at dksX8_shut_3 9 rfl rfl)
theorem dX8_shut_82 : decode cX8_shut 82 = .ok (.bipush 8, 2) := dk_16 8 (dk_at dksX8_shut_3 11 rfl rfl)
theorem dX8_shut_84 : decode cX8_shut 84 = .ok (.idiv, 1) := dk_108 (dk_at dksX8_shut_3 13 rfl rfl)
theorem dX8_shut_85 : decode cX8_shut 85 = .ok (.iload 7, 2) := dk_21 7 (dk_at dksX8_shut_3 14 rfl rfl)
theorem dX8_shut_87 : decode cX8_shut 87 = .ok (.bipush 8, 2) := dk_16 8 (dk_at dksX8_shut_3 16 rfl rfl)
theorem dX8_shut_89 : decode cX8_shut 89 = .ok (.irem, 1) := dk_112 (dk_at dksX8_shut_3 18 rfl rfl)
theorem dX8_shut_90 : decode cX8_shut 90 = .ok (.iconst 0, 1) := dk_3 (dk_at dksX8_shut_3 19 rfl rfl)
theorem dX8_shut_91 : decode cX8_shut 91 = .ok (.invokevirtual 114, 3) := dk_182 0 114 (dk_at dksX8_shut_3 20 rfl rfl)
theorem dX8_shut_94 : decode cX8_shut 94 = .ok (.aload_n 0, 1) := dk_42 (dk_at dksX8_shut_3 23 rfl rfl)
theorem dX8_shut_95 : decode cX8_shut 95 = .ok (.iload_n 1, 1) := dk_27 (dk_at dksX8_shut_4 0 rfl rfl)
theorem dX8_shut_96 : decode cX8_shut 96 = .ok (.iload_n 2, 1) := dk_28 (dk_at dksX8_shut_4 1 rfl rfl)
theorem dX8_shut_97 : decode cX8_shut 97 = .ok (.iload_n 3, 1) := dk_29 (dk_at dksX8_shut_4 2 rfl rfl)
theorem dX8_shut_98 : decode cX8_shut 98 = .ok (.invokevirtual 393, 3) := dk_182 1 137 (dk_at dksX8_shut_4 3 rfl rfl)
theorem dX8_shut_101 : decode cX8_shut 101 = .ok (.istore 9, 2) := dk_54 9 (dk_at dksX8_shut_4 6 rfl rfl)
theorem dX8_shut_103 : decode cX8_shut 103 = .ok (.aload_n 0, 1) := dk_42 (dk_at dksX8_shut_4 8 rfl rfl)
theorem dX8_shut_104 : decode cX8_shut 104 = .ok (.iload 7, 2) := dk_21 7 (dk_at dksX8_shut_4 9 rfl rfl)
theorem dX8_shut_106 : decode cX8_shut 106 = .ok (.bipush 8, 2) := dk_16 8 (dk_at dksX8_shut_4 11 rfl rfl)
theorem dX8_shut_108 : decode cX8_shut 108 = .ok (.idiv, 1) := dk_108 (dk_at dksX8_shut_4 13 rfl rfl)
theorem dX8_shut_109 : decode cX8_shut 109 = .ok (.iload 7, 2) := dk_21 7 (dk_at dksX8_shut_4 14 rfl rfl)
theorem dX8_shut_111 : decode cX8_shut 111 = .ok (.bipush 8, 2) := dk_16 8 (dk_at dksX8_shut_4 16 rfl rfl)
theorem dX8_shut_113 : decode cX8_shut 113 = .ok (.irem, 1) := dk_112 (dk_at dksX8_shut_4 18 rfl rfl)
theorem dX8_shut_114 : decode cX8_shut 114 = .ok (.iload 8, 2) := dk_21 8 (dk_at dksX8_shut_4 19 rfl rfl)
theorem dX8_shut_116 : decode cX8_shut 116 = .ok (.invokevirtual 114, 3) := dk_182 0 114 (dk_at dksX8_shut_4 21 rfl rfl)
theorem dX8_shut_119 : decode cX8_shut 119 = .ok (.iload 9, 2) := dk_21 9 (dk_at dksX8_shut_5 0 rfl rfl)
theorem dX8_shut_121 : decode cX8_shut 121 = .ok (.iload 6, 2) := dk_21 6 (dk_at dksX8_shut_5 2 rfl rfl)
theorem dX8_shut_123 : decode cX8_shut 123 = .ok (.if_icmp .le 23, 3) := dk_164 0 23 (dk_at dksX8_shut_5 4 rfl rfl)
theorem dX8_shut_126 : decode cX8_shut 126 = .ok (.bipush 10, 2) := dk_16 10 (dk_at dksX8_shut_5 7 rfl rfl)
theorem dX8_shut_128 : decode cX8_shut 128 = .ok (.iload 7, 2) := dk_21 7 (dk_at dksX8_shut_5 9 rfl rfl)
theorem dX8_shut_130 : decode cX8_shut 130 = .ok (.bipush 8, 2) := dk_16 8 (dk_at dksX8_shut_5 11 rfl rfl)
theorem dX8_shut_132 : decode cX8_shut 132 = .ok (.idiv, 1) := dk_108 (dk_at dksX8_shut_5 13 rfl rfl)
theorem dX8_shut_133 : decode cX8_shut 133 = .ok (.imul, 1) := dk_104 (dk_at dksX8_shut_5 14 rfl rfl)
theorem dX8_shut_134 : decode cX8_shut 134 = .ok (.iload 7, 2) := dk_21 7 (dk_at dksX8_shut_5 15 rfl rfl)
theorem dX8_shut_136 : decode cX8_shut 136 = .ok (.bipush 8, 2) := dk_16 8 (dk_at dksX8_shut_5 17 rfl rfl)
theorem dX8_shut_138 : decode cX8_shut 138 = .ok (.irem, 1) := dk_112 (dk_at dksX8_shut_5 19 rfl rfl)
theorem dX8_shut_139 : decode cX8_shut 139 = .ok (.iadd, 1) := dk_96 (dk_at dksX8_shut_5 20 rfl rfl)
theorem dX8_shut_140 : decode cX8_shut 140 = .ok (.istore 5, 2) := dk_54 5 (dk_at dksX8_shut_5 21 rfl rfl)
theorem dX8_shut_142 : decode cX8_shut 142 = .ok (.iload 9, 2) := dk_21 9 (dk_at dksX8_shut_6 0 rfl rfl)
theorem dX8_shut_144 : decode cX8_shut 144 = .ok (.istore 6, 2) := dk_54 6 (dk_at dksX8_shut_6 2 rfl rfl)
theorem dX8_shut_146 : decode cX8_shut 146 = .ok (.iinc 7 1, 3) := dk_132 7 1 (dk_at dksX8_shut_6 4 rfl rfl)
theorem dX8_shut_149 : decode cX8_shut 149 = .ok (.goto (-104), 3) := dk_167 255 152 (dk_at dksX8_shut_6 7 rfl rfl)
theorem dX8_shut_152 : decode cX8_shut 152 = .ok (.iload 4, 2) := dk_21 4 (dk_at dksX8_shut_6 10 rfl rfl)
theorem dX8_shut_154 : decode cX8_shut 154 = .ok (.ifCond .ne 8, 3) := dk_154 0 8 (dk_at dksX8_shut_6 12 rfl rfl)
theorem dX8_shut_157 : decode cX8_shut 157 = .ok (.iload 5, 2) := dk_21 5 (dk_at dksX8_shut_6 15 rfl rfl)
theorem dX8_shut_159 : decode cX8_shut 159 = .ok (.goto 5, 3) := dk_167 0 5 (dk_at dksX8_shut_6 17 rfl rfl)
theorem dX8_shut_162 : decode cX8_shut 162 = .ok (.iload 6, 2) := dk_21 6 (dk_at dksX8_shut_6 20 rfl rfl)
theorem dX8_shut_164 : decode cX8_shut 164 = .ok (.ireturn, 1) := dk_172 (dk_at dksX8_shut_6 22 rfl rfl)
abbrev cX8_tells : ByteArray := prog_16_method_95_code
def yX8_tells : MethodName := ⟨RX8, "tells", "(IIII)I"⟩
def dkwX8_tells_11 : List UInt8 := [132, 11, 1, 167, 255, 209, 42, 21, 7, 21, 6, 21, 8, 182, 0, 102, 21, 10, 172]
abbrev dktX8_tells_11 : List UInt8 := dkwX8_tells_11 ++ []
def dkwX8_tells_10 : List UInt8 := [21, 5, 21, 6, 29, 182, 1, 160, 2, 160, 0, 7, 4, 167, 0, 4, 3, 21, 11, 120, 128, 54, 10]
abbrev dktX8_tells_10 : List UInt8 := dkwX8_tells_10 ++ dktX8_tells_11
def dkwX8_tells_9 : List UInt8 := [3, 54, 11, 21, 11, 21, 9, 163, 0, 46, 42, 21, 7, 21, 6, 21, 11, 182, 0, 102, 21, 10, 42, 27]
abbrev dktX8_tells_9 : List UInt8 := dkwX8_tells_9 ++ dktX8_tells_10
def dkwX8_tells_8 : List UInt8 := [100, 167, 0, 18, 21, 7, 6, 160, 0, 7, 8, 167, 0, 8, 21, 7, 184, 0, 94, 54, 9, 3, 54, 10]
abbrev dktX8_tells_8 : List UInt8 := dkwX8_tells_8 ++ dktX8_tells_9
def dkwX8_tells_7 : List UInt8 := [167, 0, 11, 42, 21, 6, 21, 7, 182, 0, 98, 54, 8, 21, 7, 7, 160, 0, 12, 42, 180, 0, 76, 4]
abbrev dktX8_tells_7 : List UInt8 := dkwX8_tells_7 ++ dktX8_tells_8
def dkwX8_tells_6 : List UInt8 := [21, 4, 8, 160, 0, 7, 3, 167, 0, 4, 7, 54, 7, 21, 7, 7, 160, 0, 10, 42, 180, 0, 106]
abbrev dktX8_tells_6 : List UInt8 := dkwX8_tells_6 ++ dktX8_tells_7
def dkwX8_tells_5 : List UInt8 := [167, 0, 34, 21, 4, 6, 160, 0, 7, 4, 167, 0, 24, 21, 4, 7, 160, 0, 7, 5, 167, 0, 14]
abbrev dktX8_tells_5 : List UInt8 := dkwX8_tells_5 ++ dktX8_tells_6
def dkwX8_tells_4 : List UInt8 := [182, 1, 160, 167, 0, 11, 42, 27, 21, 5, 29, 182, 1, 173, 172, 21, 4, 5, 160, 0, 7, 6]
abbrev dktX8_tells_4 : List UInt8 := dkwX8_tells_4 ++ dktX8_tells_5
def dkwX8_tells_3 : List UInt8 := [16, 10, 112, 54, 6, 21, 4, 5, 162, 0, 30, 21, 4, 154, 0, 16, 42, 27, 21, 5, 21, 6, 29]
abbrev dktX8_tells_3 : List UInt8 := dkwX8_tells_3 ++ dktX8_tells_4
def dkwX8_tells_2 : List UInt8 := [16, 245, 172, 42, 180, 0, 63, 27, 46, 16, 20, 164, 0, 6, 16, 254, 172, 28, 16, 10, 108, 54, 5, 28]
abbrev dktX8_tells_2 : List UInt8 := dkwX8_tells_2 ++ dktX8_tells_3
def dkwX8_tells_1 : List UInt8 := [133, 9, 20, 1, 171, 184, 0, 82, 154, 0, 6, 16, 254, 172, 42, 180, 0, 56, 27, 51, 154, 0, 6]
abbrev dktX8_tells_1 : List UInt8 := dkwX8_tells_1 ++ dktX8_tells_2
def dkwX8_tells_0 : List UInt8 := [27, 184, 1, 165, 153, 0, 31, 42, 28, 182, 1, 168, 153, 0, 23, 29, 184, 0, 109, 153, 0, 16, 21, 4]
abbrev dktX8_tells_0 : List UInt8 := dkwX8_tells_0 ++ dktX8_tells_1
theorem dksX8_tells_0 : cX8_tells.data.toList.drop 0 = dktX8_tells_0 := by decide +kernel
theorem dksX8_tells_1 : cX8_tells.data.toList.drop 24 = dktX8_tells_1 := dk_seg dksX8_tells_0 24 rfl rfl
theorem dksX8_tells_2 : cX8_tells.data.toList.drop 47 = dktX8_tells_2 := dk_seg dksX8_tells_1 23 rfl rfl
theorem dksX8_tells_3 : cX8_tells.data.toList.drop 71 = dktX8_tells_3 := dk_seg dksX8_tells_2 24 rfl rfl
theorem dksX8_tells_4 : cX8_tells.data.toList.drop 94 = dktX8_tells_4 := dk_seg dksX8_tells_3 23 rfl rfl
theorem dksX8_tells_5 : cX8_tells.data.toList.drop 116 = dktX8_tells_5 := dk_seg dksX8_tells_4 22 rfl rfl
theorem dksX8_tells_6 : cX8_tells.data.toList.drop 139 = dktX8_tells_6 := dk_seg dksX8_tells_5 23 rfl rfl
theorem dksX8_tells_7 : cX8_tells.data.toList.drop 162 = dktX8_tells_7 := dk_seg dksX8_tells_6 23 rfl rfl
theorem dksX8_tells_8 : cX8_tells.data.toList.drop 186 = dktX8_tells_8 := dk_seg dksX8_tells_7 24 rfl rfl
theorem dksX8_tells_9 : cX8_tells.data.toList.drop 210 = dktX8_tells_9 := dk_seg dksX8_tells_8 24 rfl rfl
theorem dksX8_tells_10 : cX8_tells.data.toList.drop 234 = dktX8_tells_10 := dk_seg dksX8_tells_9 24 rfl rfl
theorem dksX8_tells_11 : cX8_tells.data.toList.drop 257 = dktX8_tells_11 := dk_seg dksX8_tells_10 23 rfl rfl
theorem dX8_tells_0 : decode cX8_tells 0 = .ok (.iload_n 1, 1) := dk_27 (dk_at dksX8_tells_0 0 rfl rfl)
theorem dX8_tells_1 : decode cX8_tells 1 = .ok (.invokestatic 421, 3) := dk_184 1 165 (dk_at dksX8_tells_0 1 rfl rfl)
theorem dX8_tells_4 : decode cX8_tells 4 = .ok (.ifCond .eq 31, 3) := dk_153 0 31 (dk_at dksX8_tells_0 4 rfl rfl)
theorem dX8_tells_7 : decode cX8_tells 7 = .ok (.aload_n 0, 1) := dk_42 (dk_at dksX8_tells_0 7 rfl rfl)
theorem dX8_tells_8 : decode cX8_tells 8 = .ok (.iload_n 2, 1) := dk_28 (dk_at dksX8_tells_0 8 rfl rfl)
theorem dX8_tells_9 : decode cX8_tells 9 = .ok (.invokevirtual 424, 3) := dk_182 1 168 (dk_at dksX8_tells_0 9 rfl rfl)
theorem dX8_tells_12 : decode cX8_tells 12 = .ok (.ifCond .eq 23, 3) := dk_153 0 23 (dk_at dksX8_tells_0 12 rfl rfl)
theorem dX8_tells_15 : decode cX8_tells 15 = .ok (.iload_n 3, 1) := dk_29 (dk_at dksX8_tells_0 15 rfl rfl)
theorem dX8_tells_16 : decode cX8_tells 16 = .ok (.invokestatic 109, 3) := dk_184 0 109 (dk_at dksX8_tells_0 16 rfl rfl)
theorem dX8_tells_19 : decode cX8_tells 19 = .ok (.ifCond .eq 16, 3) := dk_153 0 16 (dk_at dksX8_tells_0 19 rfl rfl)
theorem dX8_tells_22 : decode cX8_tells 22 = .ok (.iload 4, 2) := dk_21 4 (dk_at dksX8_tells_0 22 rfl rfl)
theorem dX8_tells_24 : decode cX8_tells 24 = .ok (.i2l, 1) := dk_133 (dk_at dksX8_tells_1 0 rfl rfl)
theorem dX8_tells_25 : decode cX8_tells 25 = .ok (.lconst 0, 1) := dk_9 (dk_at dksX8_tells_1 1 rfl rfl)
theorem dX8_tells_26 : decode cX8_tells 26 = .ok (.ldc2_w 427, 3) := dk_20 1 171 (dk_at dksX8_tells_1 2 rfl rfl)
theorem dX8_tells_29 : decode cX8_tells 29 = .ok (.invokestatic 82, 3) := dk_184 0 82 (dk_at dksX8_tells_1 5 rfl rfl)
theorem dX8_tells_32 : decode cX8_tells 32 = .ok (.ifCond .ne 6, 3) := dk_154 0 6 (dk_at dksX8_tells_1 8 rfl rfl)
theorem dX8_tells_35 : decode cX8_tells 35 = .ok (.bipush (-2), 2) := dk_16 254 (dk_at dksX8_tells_1 11 rfl rfl)
theorem dX8_tells_37 : decode cX8_tells 37 = .ok (.ireturn, 1) := dk_172 (dk_at dksX8_tells_1 13 rfl rfl)
theorem dX8_tells_38 : decode cX8_tells 38 = .ok (.aload_n 0, 1) := dk_42 (dk_at dksX8_tells_1 14 rfl rfl)
theorem dX8_tells_39 : decode cX8_tells 39 = .ok (.getfield 56, 3) := dk_180 0 56 (dk_at dksX8_tells_1 15 rfl rfl)
theorem dX8_tells_42 : decode cX8_tells 42 = .ok (.iload_n 1, 1) := dk_27 (dk_at dksX8_tells_1 18 rfl rfl)
theorem dX8_tells_43 : decode cX8_tells 43 = .ok (.baload, 1) := dk_51 (dk_at dksX8_tells_1 19 rfl rfl)
theorem dX8_tells_44 : decode cX8_tells 44 = .ok (.ifCond .ne 6, 3) := dk_154 0 6 (dk_at dksX8_tells_1 20 rfl rfl)
theorem dX8_tells_47 : decode cX8_tells 47 = .ok (.bipush (-11), 2) := dk_16 245 (dk_at dksX8_tells_2 0 rfl rfl)
theorem dX8_tells_49 : decode cX8_tells 49 = .ok (.ireturn, 1) := dk_172 (dk_at dksX8_tells_2 2 rfl rfl)
theorem dX8_tells_50 : decode cX8_tells 50 = .ok (.aload_n 0, 1) := dk_42 (dk_at dksX8_tells_2 3 rfl rfl)
theorem dX8_tells_51 : decode cX8_tells 51 = .ok (.getfield 63, 3) := dk_180 0 63 (dk_at dksX8_tells_2 4 rfl rfl)
theorem dX8_tells_54 : decode cX8_tells 54 = .ok (.iload_n 1, 1) := dk_27 (dk_at dksX8_tells_2 7 rfl rfl)
theorem dX8_tells_55 : decode cX8_tells 55 = .ok (.iaload, 1) := dk_46 (dk_at dksX8_tells_2 8 rfl rfl)
theorem dX8_tells_56 : decode cX8_tells 56 = .ok (.bipush 20, 2) := dk_16 20 (dk_at dksX8_tells_2 9 rfl rfl)
theorem dX8_tells_58 : decode cX8_tells 58 = .ok (.if_icmp .le 6, 3) := dk_164 0 6 (dk_at dksX8_tells_2 11 rfl rfl)
theorem dX8_tells_61 : decode cX8_tells 61 = .ok (.bipush (-2), 2) := dk_16 254 (dk_at dksX8_tells_2 14 rfl rfl)
theorem dX8_tells_63 : decode cX8_tells 63 = .ok (.ireturn, 1) := dk_172 (dk_at dksX8_tells_2 16 rfl rfl)
theorem dX8_tells_64 : decode cX8_tells 64 = .ok (.iload_n 2, 1) := dk_28 (dk_at dksX8_tells_2 17 rfl rfl)
theorem dX8_tells_65 : decode cX8_tells 65 = .ok (.bipush 10, 2) := dk_16 10 (dk_at dksX8_tells_2 18 rfl rfl)
theorem dX8_tells_67 : decode cX8_tells 67 = .ok (.idiv, 1) := dk_108 (dk_at dksX8_tells_2 20 rfl rfl)
theorem dX8_tells_68 : decode cX8_tells 68 = .ok (.istore 5, 2) := dk_54 5 (dk_at dksX8_tells_2 21 rfl rfl)
theorem dX8_tells_70 : decode cX8_tells 70 = .ok (.iload_n 2, 1) := dk_28 (dk_at dksX8_tells_2 23 rfl rfl)
theorem dX8_tells_71 : decode cX8_tells 71 = .ok (.bipush 10, 2) := dk_16 10 (dk_at dksX8_tells_3 0 rfl rfl)
theorem dX8_tells_73 : decode cX8_tells 73 = .ok (.irem, 1) := dk_112 (dk_at dksX8_tells_3 2 rfl rfl)
theorem dX8_tells_74 : decode cX8_tells 74 = .ok (.istore 6, 2) := dk_54 6 (dk_at dksX8_tells_3 3 rfl rfl)
theorem dX8_tells_76 : decode cX8_tells 76 = .ok (.iload 4, 2) := dk_21 4 (dk_at dksX8_tells_3 5 rfl rfl)
theorem dX8_tells_78 : decode cX8_tells 78 = .ok (.iconst 2, 1) := dk_5 (dk_at dksX8_tells_3 7 rfl rfl)
theorem dX8_tells_79 : decode cX8_tells 79 = .ok (.if_icmp .ge 30, 3) := dk_162 0 30 (dk_at dksX8_tells_3 8 rfl rfl)
theorem dX8_tells_82 : decode cX8_tells 82 = .ok (.iload 4, 2) := dk_21 4 (dk_at dksX8_tells_3 11 rfl rfl)
theorem dX8_tells_84 : decode cX8_tells 84 = .ok (.ifCond .ne 16, 3) := dk_154 0 16 (dk_at dksX8_tells_3 13 rfl rfl)
theorem dX8_tells_87 : decode cX8_tells 87 = .ok (.aload_n 0, 1) := dk_42 (dk_at dksX8_tells_3 16 rfl rfl)
theorem dX8_tells_88 : decode cX8_tells 88 = .ok (.iload_n 1, 1) := dk_27 (dk_at dksX8_tells_3 17 rfl rfl)
theorem dX8_tells_89 : decode cX8_tells 89 = .ok (.iload 5, 2) := dk_21 5 (dk_at dksX8_tells_3 18 rfl rfl)
theorem dX8_tells_91 : decode cX8_tells 91 = .ok (.iload 6, 2) := dk_21 6 (dk_at dksX8_tells_3 20 rfl rfl)
theorem dX8_tells_93 : decode cX8_tells 93 = .ok (.iload_n 3, 1) := dk_29 (dk_at dksX8_tells_3 22 rfl rfl)
theorem dX8_tells_94 : decode cX8_tells 94 = .ok (.invokevirtual 416, 3) := dk_182 1 160 (dk_at dksX8_tells_4 0 rfl rfl)
theorem dX8_tells_97 : decode cX8_tells 97 = .ok (.goto 11, 3) := dk_167 0 11 (dk_at dksX8_tells_4 3 rfl rfl)
theorem dX8_tells_100 : decode cX8_tells 100 = .ok (.aload_n 0, 1) := dk_42 (dk_at dksX8_tells_4 6 rfl rfl)
theorem dX8_tells_101 : decode cX8_tells 101 = .ok (.iload_n 1, 1) := dk_27 (dk_at dksX8_tells_4 7 rfl rfl)
theorem dX8_tells_102 : decode cX8_tells 102 = .ok (.iload 5, 2) := dk_21 5 (dk_at dksX8_tells_4 8 rfl rfl)
theorem dX8_tells_104 : decode cX8_tells 104 = .ok (.iload_n 3, 1) := dk_29 (dk_at dksX8_tells_4 10 rfl rfl)
theorem dX8_tells_105 : decode cX8_tells 105 = .ok (.invokevirtual 429, 3) := dk_182 1 173 (dk_at dksX8_tells_4 11 rfl rfl)
theorem dX8_tells_108 : decode cX8_tells 108 = .ok (.ireturn, 1) := dk_172 (dk_at dksX8_tells_4 14 rfl rfl)
theorem dX8_tells_109 : decode cX8_tells 109 = .ok (.iload 4, 2) := dk_21 4 (dk_at dksX8_tells_4 15 rfl rfl)
theorem dX8_tells_111 : decode cX8_tells 111 = .ok (.iconst 2, 1) := dk_5 (dk_at dksX8_tells_4 17 rfl rfl)
theorem dX8_tells_112 : decode cX8_tells 112 = .ok (.if_icmp .ne 7, 3) := dk_160 0 7 (dk_at dksX8_tells_4 18 rfl rfl)
theorem dX8_tells_115 : decode cX8_tells 115 = .ok (.iconst 3, 1) := dk_6 (dk_at dksX8_tells_4 21 rfl rfl)
theorem dX8_tells_116 : decode cX8_tells 116 = .ok (.goto 34, 3) := dk_167 0 34 (dk_at dksX8_tells_5 0 rfl rfl)
theorem dX8_tells_119 : decode cX8_tells 119 = .ok (.iload 4, 2) := dk_21 4 (dk_at dksX8_tells_5 3 rfl rfl)
theorem dX8_tells_121 : decode cX8_tells 121 = .ok (.iconst 3, 1) := dk_6 (dk_at dksX8_tells_5 5 rfl rfl)
theorem dX8_tells_122 : decode cX8_tells 122 = .ok (.if_icmp .ne 7, 3) := dk_160 0 7 (dk_at dksX8_tells_5 6 rfl rfl)
theorem dX8_tells_125 : decode cX8_tells 125 = .ok (.iconst 1, 1) := dk_4 (dk_at dksX8_tells_5 9 rfl rfl)
theorem dX8_tells_126 : decode cX8_tells 126 = .ok (.goto 24, 3) := dk_167 0 24 (dk_at dksX8_tells_5 10 rfl rfl)
theorem dX8_tells_129 : decode cX8_tells 129 = .ok (.iload 4, 2) := dk_21 4 (dk_at dksX8_tells_5 13 rfl rfl)
theorem dX8_tells_131 : decode cX8_tells 131 = .ok (.iconst 4, 1) := dk_7 (dk_at dksX8_tells_5 15 rfl rfl)
theorem dX8_tells_132 : decode cX8_tells 132 = .ok (.if_icmp .ne 7, 3) := dk_160 0 7 (dk_at dksX8_tells_5 16 rfl rfl)
theorem dX8_tells_135 : decode cX8_tells 135 = .ok (.iconst 2, 1) := dk_5 (dk_at dksX8_tells_5 19 rfl rfl)
theorem dX8_tells_136 : decode cX8_tells 136 = .ok (.goto 14, 3) := dk_167 0 14 (dk_at dksX8_tells_5 20 rfl rfl)
theorem dX8_tells_139 : decode cX8_tells 139 = .ok (.iload 4, 2) := dk_21 4 (dk_at dksX8_tells_6 0 rfl rfl)
theorem dX8_tells_141 : decode cX8_tells 141 = .ok (.iconst 5, 1) := dk_8 (dk_at dksX8_tells_6 2 rfl rfl)
theorem dX8_tells_142 : decode cX8_tells 142 = .ok (.if_icmp .ne 7, 3) := dk_160 0 7 (dk_at dksX8_tells_6 3 rfl rfl)
theorem dX8_tells_145 : decode cX8_tells 145 = .ok (.iconst 0, 1) := dk_3 (dk_at dksX8_tells_6 6 rfl rfl)
theorem dX8_tells_146 : decode cX8_tells 146 = .ok (.goto 4, 3) := dk_167 0 4 (dk_at dksX8_tells_6 7 rfl rfl)
theorem dX8_tells_149 : decode cX8_tells 149 = .ok (.iconst 4, 1) := dk_7 (dk_at dksX8_tells_6 10 rfl rfl)
theorem dX8_tells_150 : decode cX8_tells 150 = .ok (.istore 7, 2) := dk_54 7 (dk_at dksX8_tells_6 11 rfl rfl)
theorem dX8_tells_152 : decode cX8_tells 152 = .ok (.iload 7, 2) := dk_21 7 (dk_at dksX8_tells_6 13 rfl rfl)
theorem dX8_tells_154 : decode cX8_tells 154 = .ok (.iconst 4, 1) := dk_7 (dk_at dksX8_tells_6 15 rfl rfl)
theorem dX8_tells_155 : decode cX8_tells 155 = .ok (.if_icmp .ne 10, 3) := dk_160 0 10 (dk_at dksX8_tells_6 16 rfl rfl)
theorem dX8_tells_158 : decode cX8_tells 158 = .ok (.aload_n 0, 1) := dk_42 (dk_at dksX8_tells_6 19 rfl rfl)
theorem dX8_tells_159 : decode cX8_tells 159 = .ok (.getfield 106, 3) := dk_180 0 106 (dk_at dksX8_tells_6 20 rfl rfl)
theorem dX8_tells_162 : decode cX8_tells 162 = .ok (.goto 11, 3) := dk_167 0 11 (dk_at dksX8_tells_7 0 rfl rfl)
theorem dX8_tells_165 : decode cX8_tells 165 = .ok (.aload_n 0, 1) := dk_42 (dk_at dksX8_tells_7 3 rfl rfl)
theorem dX8_tells_166 : decode cX8_tells 166 = .ok (.iload 6, 2) := dk_21 6 (dk_at dksX8_tells_7 4 rfl rfl)
theorem dX8_tells_168 : decode cX8_tells 168 = .ok (.iload 7, 2) := dk_21 7 (dk_at dksX8_tells_7 6 rfl rfl)
theorem dX8_tells_170 : decode cX8_tells 170 = .ok (.invokevirtual 98, 3) := dk_182 0 98 (dk_at dksX8_tells_7 8 rfl rfl)
theorem dX8_tells_173 : decode cX8_tells 173 = .ok (.istore 8, 2) := dk_54 8 (dk_at dksX8_tells_7 11 rfl rfl)
theorem dX8_tells_175 : decode cX8_tells 175 = .ok (.iload 7, 2) := dk_21 7 (dk_at dksX8_tells_7 13 rfl rfl)
theorem dX8_tells_177 : decode cX8_tells 177 = .ok (.iconst 4, 1) := dk_7 (dk_at dksX8_tells_7 15 rfl rfl)
theorem dX8_tells_178 : decode cX8_tells 178 = .ok (.if_icmp .ne 12, 3) := dk_160 0 12 (dk_at dksX8_tells_7 16 rfl rfl)
theorem dX8_tells_181 : decode cX8_tells 181 = .ok (.aload_n 0, 1) := dk_42 (dk_at dksX8_tells_7 19 rfl rfl)
theorem dX8_tells_182 : decode cX8_tells 182 = .ok (.getfield 76, 3) := dk_180 0 76 (dk_at dksX8_tells_7 20 rfl rfl)
theorem dX8_tells_185 : decode cX8_tells 185 = .ok (.iconst 1, 1) := dk_4 (dk_at dksX8_tells_7 23 rfl rfl)
theorem dX8_tells_186 : decode cX8_tells 186 = .ok (.isub, 1) := dk_100 (dk_at dksX8_tells_8 0 rfl rfl)
theorem dX8_tells_187 : decode cX8_tells 187 = .ok (.goto 18, 3) := dk_167 0 18 (dk_at dksX8_tells_8 1 rfl rfl)
theorem dX8_tells_190 : decode cX8_tells 190 = .ok (.iload 7, 2) := dk_21 7 (dk_at dksX8_tells_8 4 rfl rfl)
theorem dX8_tells_192 : decode cX8_tells 192 = .ok (.iconst 3, 1) := dk_6 (dk_at dksX8_tells_8 6 rfl rfl)
theorem dX8_tells_193 : decode cX8_tells 193 = .ok (.if_icmp .ne 7, 3) := dk_160 0 7 (dk_at dksX8_tells_8 7 rfl rfl)
theorem dX8_tells_196 : decode cX8_tells 196 = .ok (.iconst 5, 1) := dk_8 (dk_at dksX8_tells_8 10 rfl rfl)
theorem dX8_tells_197 : decode cX8_tells 197 = .ok (.goto 8, 3) := dk_167 0 8 (dk_at dksX8_tells_8 11 rfl rfl)
theorem dX8_tells_200 : decode cX8_tells 200 = .ok (.iload 7, 2) := dk_21 7 (dk_at dksX8_tells_8 14 rfl rfl)
theorem dX8_tells_202 : decode cX8_tells 202 = .ok (.invokestatic 94, 3) := dk_184 0 94 (dk_at dksX8_tells_8 16 rfl rfl)
theorem dX8_tells_205 : decode cX8_tells 205 = .ok (.istore 9, 2) := dk_54 9 (dk_at dksX8_tells_8 19 rfl rfl)
theorem dX8_tells_207 : decode cX8_tells 207 = .ok (.iconst 0, 1) := dk_3 (dk_at dksX8_tells_8 21 rfl rfl)
theorem dX8_tells_208 : decode cX8_tells 208 = .ok (.istore 10, 2) := dk_54 10 (dk_at dksX8_tells_8 22 rfl rfl)
theorem dX8_tells_210 : decode cX8_tells 210 = .ok (.iconst 0, 1) := dk_3 (dk_at dksX8_tells_9 0 rfl rfl)
theorem dX8_tells_211 : decode cX8_tells 211 = .ok (.istore 11, 2) := dk_54 11 (dk_at dksX8_tells_9 1 rfl rfl)
theorem dX8_tells_213 : decode cX8_tells 213 = .ok (.iload 11, 2) := dk_21 11 (dk_at dksX8_tells_9 3 rfl rfl)
theorem dX8_tells_215 : decode cX8_tells 215 = .ok (.iload 9, 2) := dk_21 9 (dk_at dksX8_tells_9 5 rfl rfl)
theorem dX8_tells_217 : decode cX8_tells 217 = .ok (.if_icmp .gt 46, 3) := dk_163 0 46 (dk_at dksX8_tells_9 7 rfl rfl)
theorem dX8_tells_220 : decode cX8_tells 220 = .ok (.aload_n 0, 1) := dk_42 (dk_at dksX8_tells_9 10 rfl rfl)
theorem dX8_tells_221 : decode cX8_tells 221 = .ok (.iload 7, 2) := dk_21 7 (dk_at dksX8_tells_9 11 rfl rfl)
theorem dX8_tells_223 : decode cX8_tells 223 = .ok (.iload 6, 2) := dk_21 6 (dk_at dksX8_tells_9 13 rfl rfl)
theorem dX8_tells_225 : decode cX8_tells 225 = .ok (.iload 11, 2) := dk_21 11 (dk_at dksX8_tells_9 15 rfl rfl)
theorem dX8_tells_227 : decode cX8_tells 227 = .ok (.invokevirtual 102, 3) := dk_182 0 102 (dk_at dksX8_tells_9 17 rfl rfl)
theorem dX8_tells_230 : decode cX8_tells 230 = .ok (.iload 10, 2) := dk_21 10 (dk_at dksX8_tells_9 20 rfl rfl)
theorem dX8_tells_232 : decode cX8_tells 232 = .ok (.aload_n 0, 1) := dk_42 (dk_at dksX8_tells_9 22 rfl rfl)
theorem dX8_tells_233 : decode cX8_tells 233 = .ok (.iload_n 1, 1) := dk_27 (dk_at dksX8_tells_9 23 rfl rfl)
theorem dX8_tells_234 : decode cX8_tells 234 = .ok (.iload 5, 2) := dk_21 5 (dk_at dksX8_tells_10 0 rfl rfl)
theorem dX8_tells_236 : decode cX8_tells 236 = .ok (.iload 6, 2) := dk_21 6 (dk_at dksX8_tells_10 2 rfl rfl)
theorem dX8_tells_238 : decode cX8_tells 238 = .ok (.iload_n 3, 1) := dk_29 (dk_at dksX8_tells_10 4 rfl rfl)
theorem dX8_tells_239 : decode cX8_tells 239 = .ok (.invokevirtual 416, 3) := dk_182 1 160 (dk_at dksX8_tells_10 5 rfl rfl)
theorem dX8_tells_242 : decode cX8_tells 242 = .ok (.iconst (-1), 1) := dk_2 (dk_at dksX8_tells_10 8 rfl rfl)
theorem dX8_tells_243 : decode cX8_tells 243 = .ok (.if_icmp .ne 7, 3) := dk_160 0 7 (dk_at dksX8_tells_10 9 rfl rfl)
theorem dX8_tells_246 : decode cX8_tells 246 = .ok (.iconst 1, 1) := dk_4 (dk_at dksX8_tells_10 12 rfl rfl)
theorem dX8_tells_247 : decode cX8_tells 247 = .ok (.goto 4, 3) := dk_167 0 4 (dk_at dksX8_tells_10 13 rfl rfl)
theorem dX8_tells_250 : decode cX8_tells 250 = .ok (.iconst 0, 1) := dk_3 (dk_at dksX8_tells_10 16 rfl rfl)
theorem dX8_tells_251 : decode cX8_tells 251 = .ok (.iload 11, 2) := dk_21 11 (dk_at dksX8_tells_10 17 rfl rfl)
theorem dX8_tells_253 : decode cX8_tells 253 = .ok (.ishl, 1) := dk_120 (dk_at dksX8_tells_10 19 rfl rfl)
theorem dX8_tells_254 : decode cX8_tells 254 = .ok (.ior, 1) := dk_128 (dk_at dksX8_tells_10 20 rfl rfl)
theorem dX8_tells_255 : decode cX8_tells 255 = .ok (.istore 10, 2) := dk_54 10 (dk_at dksX8_tells_10 21 rfl rfl)
theorem dX8_tells_257 : decode cX8_tells 257 = .ok (.iinc 11 1, 3) := dk_132 11 1 (dk_at dksX8_tells_11 0 rfl rfl)
theorem dX8_tells_260 : decode cX8_tells 260 = .ok (.goto (-47), 3) := dk_167 255 209 (dk_at dksX8_tells_11 3 rfl rfl)
theorem dX8_tells_263 : decode cX8_tells 263 = .ok (.aload_n 0, 1) := dk_42 (dk_at dksX8_tells_11 6 rfl rfl)
theorem dX8_tells_264 : decode cX8_tells 264 = .ok (.iload 7, 2) := dk_21 7 (dk_at dksX8_tells_11 7 rfl rfl)
theorem dX8_tells_266 : decode cX8_tells 266 = .ok (.iload 6, 2) := dk_21 6 (dk_at dksX8_tells_11 9 rfl rfl)
theorem dX8_tells_268 : decode cX8_tells 268 = .ok (.iload 8, 2) := dk_21 8 (dk_at dksX8_tells_11 11 rfl rfl)
theorem dX8_tells_270 : decode cX8_tells 270 = .ok (.invokevirtual 102, 3) := dk_182 0 102 (dk_at dksX8_tells_11 13 rfl rfl)
theorem dX8_tells_273 : decode cX8_tells 273 = .ok (.iload 10, 2) := dk_21 10 (dk_at dksX8_tells_11 16 rfl rfl)
theorem dX8_tells_275 : decode cX8_tells 275 = .ok (.ireturn, 1) := dk_172 (dk_at dksX8_tells_11 18 rfl rfl)
abbrev cX8_isSheet : ByteArray := prog_16_method_104_code
def yX8_isSheet : MethodName := ⟨RX8, "isSheet", "(I)Z"⟩
def dkwX8_isSheet_0 : List UInt8 := [26, 133, 9, 20, 1, 197, 184, 0, 82, 172]
abbrev dktX8_isSheet_0 : List UInt8 := dkwX8_isSheet_0 ++ []
theorem dksX8_isSheet_0 : cX8_isSheet.data.toList.drop 0 = dktX8_isSheet_0 := by decide +kernel
theorem dX8_isSheet_0 : decode cX8_isSheet 0 = .ok (.iload_n 0, 1) := dk_26 (dk_at dksX8_isSheet_0 0 rfl rfl)
theorem dX8_isSheet_1 : decode cX8_isSheet 1 = .ok (.i2l, 1) := dk_133 (dk_at dksX8_isSheet_0 1 rfl rfl)
theorem dX8_isSheet_2 : decode cX8_isSheet 2 = .ok (.lconst 0, 1) := dk_9 (dk_at dksX8_isSheet_0 2 rfl rfl)
theorem dX8_isSheet_3 : decode cX8_isSheet 3 = .ok (.ldc2_w 453, 3) := dk_20 1 197 (dk_at dksX8_isSheet_0 3 rfl rfl)
theorem dX8_isSheet_6 : decode cX8_isSheet 6 = .ok (.invokestatic 82, 3) := dk_184 0 82 (dk_at dksX8_isSheet_0 6 rfl rfl)
theorem dX8_isSheet_9 : decode cX8_isSheet 9 = .ok (.ireturn, 1) := dk_172 (dk_at dksX8_isSheet_0 9 rfl rfl)
abbrev cX8_areTold : ByteArray := prog_16_method_94_code
def yX8_areTold : MethodName := ⟨RX8, "areTold", "(I)Z"⟩
def dkwX8_areTold_1 : List UInt8 := [153, 0, 7, 4, 167, 0, 4, 3, 172]
abbrev dktX8_areTold_1 : List UInt8 := dkwX8_areTold_1 ++ []
def dkwX8_areTold_0 : List UInt8 := [27, 133, 9, 20, 1, 163, 184, 0, 82, 153, 0, 22, 42, 27, 16, 10, 108, 27, 16, 10, 112, 182, 1, 99]
abbrev dktX8_areTold_0 : List UInt8 := dkwX8_areTold_0 ++ dktX8_areTold_1
theorem dksX8_areTold_0 : cX8_areTold.data.toList.drop 0 = dktX8_areTold_0 := by decide +kernel
theorem dksX8_areTold_1 : cX8_areTold.data.toList.drop 24 = dktX8_areTold_1 := dk_seg dksX8_areTold_0 24 rfl rfl
theorem dX8_areTold_0 : decode cX8_areTold 0 = .ok (.iload_n 1, 1) := dk_27 (dk_at dksX8_areTold_0 0 rfl rfl)
theorem dX8_areTold_1 : decode cX8_areTold 1 = .ok (.i2l, 1) := dk_133 (dk_at dksX8_areTold_0 1 rfl rfl)
theorem dX8_areTold_2 : decode cX8_areTold 2 = .ok (.lconst 0, 1) := dk_9 (dk_at dksX8_areTold_0 2 rfl rfl)
theorem dX8_areTold_3 : decode cX8_areTold 3 = .ok (.ldc2_w 419, 3) := dk_20 1 163 (dk_at dksX8_areTold_0 3 rfl rfl)
theorem dX8_areTold_6 : decode cX8_areTold 6 = .ok (.invokestatic 82, 3) := dk_184 0 82 (dk_at dksX8_areTold_0 6 rfl rfl)
theorem dX8_areTold_9 : decode cX8_areTold 9 = .ok (.ifCond .eq 22, 3) := dk_153 0 22 (dk_at dksX8_areTold_0 9 rfl rfl)
theorem dX8_areTold_12 : decode cX8_areTold 12 = .ok (.aload_n 0, 1) := dk_42 (dk_at dksX8_areTold_0 12 rfl rfl)
theorem dX8_areTold_13 : decode cX8_areTold 13 = .ok (.iload_n 1, 1) := dk_27 (dk_at dksX8_areTold_0 13 rfl rfl)
theorem dX8_areTold_14 : decode cX8_areTold 14 = .ok (.bipush 10, 2) := dk_16 10 (dk_at dksX8_areTold_0 14 rfl rfl)
theorem dX8_areTold_16 : decode cX8_areTold 16 = .ok (.idiv, 1) := dk_108 (dk_at dksX8_areTold_0 16 rfl rfl)
theorem dX8_areTold_17 : decode cX8_areTold 17 = .ok (.iload_n 1, 1) := dk_27 (dk_at dksX8_areTold_0 17 rfl rfl)
theorem dX8_areTold_18 : decode cX8_areTold 18 = .ok (.bipush 10, 2) := dk_16 10 (dk_at dksX8_areTold_0 18 rfl rfl)
theorem dX8_areTold_20 : decode cX8_areTold 20 = .ok (.irem, 1) := dk_112 (dk_at dksX8_areTold_0 20 rfl rfl)
theorem dX8_areTold_21 : decode cX8_areTold 21 = .ok (.invokevirtual 355, 3) := dk_182 1 99 (dk_at dksX8_areTold_0 21 rfl rfl)
theorem dX8_areTold_24 : decode cX8_areTold 24 = .ok (.ifCond .eq 7, 3) := dk_153 0 7 (dk_at dksX8_areTold_1 0 rfl rfl)
theorem dX8_areTold_27 : decode cX8_areTold 27 = .ok (.iconst 1, 1) := dk_4 (dk_at dksX8_areTold_1 3 rfl rfl)
theorem dX8_areTold_28 : decode cX8_areTold 28 = .ok (.goto 4, 3) := dk_167 0 4 (dk_at dksX8_areTold_1 4 rfl rfl)
theorem dX8_areTold_31 : decode cX8_areTold 31 = .ok (.iconst 0, 1) := dk_3 (dk_at dksX8_areTold_1 7 rfl rfl)
theorem dX8_areTold_32 : decode cX8_areTold 32 = .ok (.ireturn, 1) := dk_172 (dk_at dksX8_areTold_1 8 rfl rfl)
abbrev cX8_firstOther : ByteArray := prog_16_method_92_code
def yX8_firstOther : MethodName := ⟨RX8, "firstOther", "(IIII)I"⟩
def dkwX8_firstOther_2 : List UInt8 := [132, 5, 1, 167, 255, 218, 2, 172]
abbrev dktX8_firstOther_2 : List UInt8 := dkwX8_firstOther_2 ++ []
def dkwX8_firstOther_1 : List UInt8 := [21, 5, 182, 1, 128, 42, 180, 0, 66, 16, 40, 27, 104, 21, 5, 96, 46, 159, 0, 6, 21, 5, 172]
abbrev dktX8_firstOther_1 : List UInt8 := dkwX8_firstOther_1 ++ dktX8_firstOther_2
def dkwX8_firstOther_0 : List UInt8 := [42, 28, 29, 21, 4, 182, 1, 123, 3, 54, 5, 21, 5, 42, 180, 0, 63, 27, 46, 162, 0, 33, 42]
abbrev dktX8_firstOther_0 : List UInt8 := dkwX8_firstOther_0 ++ dktX8_firstOther_1
theorem dksX8_firstOther_0 : cX8_firstOther.data.toList.drop 0 = dktX8_firstOther_0 := by decide +kernel
theorem dksX8_firstOther_1 : cX8_firstOther.data.toList.drop 23 = dktX8_firstOther_1 := dk_seg dksX8_firstOther_0 23 rfl rfl
theorem dksX8_firstOther_2 : cX8_firstOther.data.toList.drop 46 = dktX8_firstOther_2 := dk_seg dksX8_firstOther_1 23 rfl rfl
theorem dX8_firstOther_0 : decode cX8_firstOther 0 = .ok (.aload_n 0, 1) := dk_42 (dk_at dksX8_firstOther_0 0 rfl rfl)
theorem dX8_firstOther_1 : decode cX8_firstOther 1 = .ok (.iload_n 2, 1) := dk_28 (dk_at dksX8_firstOther_0 1 rfl rfl)
theorem dX8_firstOther_2 : decode cX8_firstOther 2 = .ok (.iload_n 3, 1) := dk_29 (dk_at dksX8_firstOther_0 2 rfl rfl)
theorem dX8_firstOther_3 : decode cX8_firstOther 3 = .ok (.iload 4, 2) := dk_21 4 (dk_at dksX8_firstOther_0 3 rfl rfl)
theorem dX8_firstOther_5 : decode cX8_firstOther 5 = .ok (.invokevirtual 379, 3) := dk_182 1 123 (dk_at dksX8_firstOther_0 5 rfl rfl)
theorem dX8_firstOther_8 : decode cX8_firstOther 8 = .ok (.iconst 0, 1) := dk_3 (dk_at dksX8_firstOther_0 8 rfl rfl)
theorem dX8_firstOther_9 : decode cX8_firstOther 9 = .ok (.istore 5, 2) := dk_54 5 (dk_at dksX8_firstOther_0 9 rfl rfl)
theorem dX8_firstOther_11 : decode cX8_firstOther 11 = .ok (.iload 5, 2) := dk_21 5 (dk_at dksX8_firstOther_0 11 rfl rfl)
theorem dX8_firstOther_13 : decode cX8_firstOther 13 = .ok (.aload_n 0, 1) := dk_42 (dk_at dksX8_firstOther_0 13 rfl rfl)
theorem dX8_firstOther_14 : decode cX8_firstOther 14 = .ok (.getfield 63, 3) := dk_180 0 63 (dk_at dksX8_firstOther_0 14 rfl rfl)
theorem dX8_firstOther_17 : decode cX8_firstOther 17 = .ok (.iload_n 1, 1) := dk_27 (dk_at dksX8_firstOther_0 17 rfl rfl)
theorem dX8_firstOther_18 : decode cX8_firstOther 18 = .ok (.iaload, 1) := dk_46 (dk_at dksX8_firstOther_0 18 rfl rfl)
theorem dX8_firstOther_19 : decode cX8_firstOther 19 = .ok (.if_icmp .ge 33, 3) := dk_162 0 33 (dk_at dksX8_firstOther_0 19 rfl rfl)
theorem dX8_firstOther_22 : decode cX8_firstOther 22 = .ok (.aload_n 0, 1) := dk_42 (dk_at dksX8_firstOther_0 22 rfl rfl)
theorem dX8_firstOther_23 : decode cX8_firstOther 23 = .ok (.iload 5, 2) := dk_21 5 (dk_at dksX8_firstOther_1 0 rfl rfl)
theorem dX8_firstOther_25 : decode cX8_firstOther 25 = .ok (.invokevirtual 384, 3) := dk_182 1 128 (dk_at dksX8_firstOther_1 2 rfl rfl)
theorem dX8_firstOther_28 : decode cX8_firstOther 28 = .ok (.aload_n 0, 1) := dk_42 (dk_at dksX8_firstOther_1 5 rfl rfl)
theorem dX8_firstOther_29 : decode cX8_firstOther 29 = .ok (.getfield 66, 3) := dk_180 0 66 (dk_at dksX8_firstOther_1 6 rfl rfl)
theorem dX8_firstOther_32 : decode cX8_firstOther 32 = .ok (.bipush 40, 2) := dk_16 40 (dk_at dksX8_firstOther_1 9 rfl rfl)
theorem dX8_firstOther_34 : decode cX8_firstOther 34 = .ok (.iload_n 1, 1) := dk_27 (dk_at dksX8_firstOther_1 11 rfl rfl)
theorem dX8_firstOther_35 : decode cX8_firstOther 35 = .ok (.imul, 1) := dk_104 (dk_at dksX8_firstOther_1 12 rfl rfl)
theorem dX8_firstOther_36 : decode cX8_firstOther 36 = .ok (.iload 5, 2) := dk_21 5 (dk_at dksX8_firstOther_1 13 rfl rfl)
theorem dX8_firstOther_38 : decode cX8_firstOther 38 = .ok (.iadd, 1) := dk_96 (dk_at dksX8_firstOther_1 15 rfl rfl)
theorem dX8_firstOther_39 : decode cX8_firstOther 39 = .ok (.iaload, 1) := dk_46 (dk_at dksX8_firstOther_1 16 rfl rfl)
theorem dX8_firstOther_40 : decode cX8_firstOther 40 = .ok (.if_icmp .eq 6, 3) := dk_159 0 6 (dk_at dksX8_firstOther_1 17 rfl rfl)
theorem dX8_firstOther_43 : decode cX8_firstOther 43 = .ok (.iload 5, 2) := dk_21 5 (dk_at dksX8_firstOther_1 20 rfl rfl)
theorem dX8_firstOther_45 : decode cX8_firstOther 45 = .ok (.ireturn, 1) := dk_172 (dk_at dksX8_firstOther_1 22 rfl rfl)
theorem dX8_firstOther_46 : decode cX8_firstOther 46 = .ok (.iinc 5 1, 3) := dk_132 5 1 (dk_at dksX8_firstOther_2 0 rfl rfl)
theorem dX8_firstOther_49 : decode cX8_firstOther 49 = .ok (.goto (-38), 3) := dk_167 255 218 (dk_at dksX8_firstOther_2 3 rfl rfl)
theorem dX8_firstOther_52 : decode cX8_firstOther 52 = .ok (.iconst (-1), 1) := dk_2 (dk_at dksX8_firstOther_2 6 rfl rfl)
theorem dX8_firstOther_53 : decode cX8_firstOther 53 = .ok (.ireturn, 1) := dk_172 (dk_at dksX8_firstOther_2 7 rfl rfl)
abbrev cX8_behindSet : ByteArray := prog_16_method_93_code
def yX8_behindSet : MethodName := ⟨RX8, "behindSet", "(III)I"⟩
def dkwX8_behindSet_2 : List UInt8 := [132, 5, 1, 167, 255, 212, 21, 4, 172]
abbrev dktX8_behindSet_2 : List UInt8 := dkwX8_behindSet_2 ++ []
def dkwX8_behindSet_1 : List UInt8 := [27, 28, 21, 5, 29, 182, 1, 160, 2, 160, 0, 7, 4, 167, 0, 4, 3, 21, 5, 120, 128, 54, 4]
abbrev dktX8_behindSet_1 : List UInt8 := dkwX8_behindSet_1 ++ dktX8_behindSet_2
def dkwX8_behindSet_0 : List UInt8 := [3, 54, 4, 3, 54, 5, 21, 5, 42, 180, 0, 79, 162, 0, 41, 21, 4, 21, 5, 28, 159, 0, 20, 42]
abbrev dktX8_behindSet_0 : List UInt8 := dkwX8_behindSet_0 ++ dktX8_behindSet_1
theorem dksX8_behindSet_0 : cX8_behindSet.data.toList.drop 0 = dktX8_behindSet_0 := by decide +kernel
theorem dksX8_behindSet_1 : cX8_behindSet.data.toList.drop 24 = dktX8_behindSet_1 := dk_seg dksX8_behindSet_0 24 rfl rfl
theorem dksX8_behindSet_2 : cX8_behindSet.data.toList.drop 47 = dktX8_behindSet_2 := dk_seg dksX8_behindSet_1 23 rfl rfl
theorem dX8_behindSet_0 : decode cX8_behindSet 0 = .ok (.iconst 0, 1) := dk_3 (dk_at dksX8_behindSet_0 0 rfl rfl)
theorem dX8_behindSet_1 : decode cX8_behindSet 1 = .ok (.istore 4, 2) := dk_54 4 (dk_at dksX8_behindSet_0 1 rfl rfl)
theorem dX8_behindSet_3 : decode cX8_behindSet 3 = .ok (.iconst 0, 1) := dk_3 (dk_at dksX8_behindSet_0 3 rfl rfl)
theorem dX8_behindSet_4 : decode cX8_behindSet 4 = .ok (.istore 5, 2) := dk_54 5 (dk_at dksX8_behindSet_0 4 rfl rfl)
theorem dX8_behindSet_6 : decode cX8_behindSet 6 = .ok (.iload 5, 2) := dk_21 5 (dk_at dksX8_behindSet_0 6 rfl rfl)
theorem dX8_behindSet_8 : decode cX8_behindSet 8 = .ok (.aload_n 0, 1) := dk_42 (dk_at dksX8_behindSet_0 8 rfl rfl)
theorem dX8_behindSet_9 : decode cX8_behindSet 9 = .ok (.getfield 79, 3) := dk_180 0 79 (dk_at dksX8_behindSet_0 9 rfl rfl)
theorem dX8_behindSet_12 : decode cX8_behindSet 12 = .ok (.if_icmp .ge 41, 3) := dk_162 0 41 (dk_at dksX8_behindSet_0 12 rfl rfl)
theorem dX8_behindSet_15 : decode cX8_behindSet 15 = .ok (.iload 4, 2) := dk_21 4 (dk_at dksX8_behindSet_0 15 rfl rfl)
theorem dX8_behindSet_17 : decode cX8_behindSet 17 = .ok (.iload 5, 2) := dk_21 5 (dk_at dksX8_behindSet_0 17 rfl rfl)
theorem dX8_behindSet_19 : decode cX8_behindSet 19 = .ok (.iload_n 2, 1) := dk_28 (dk_at dksX8_behindSet_0 19 rfl rfl)
theorem dX8_behindSet_20 : decode cX8_behindSet 20 = .ok (.if_icmp .eq 20, 3) := dk_159 0 20 (dk_at dksX8_behindSet_0 20 rfl rfl)
theorem dX8_behindSet_23 : decode cX8_behindSet 23 = .ok (.aload_n 0, 1) := dk_42 (dk_at dksX8_behindSet_0 23 rfl rfl)
theorem dX8_behindSet_24 : decode cX8_behindSet 24 = .ok (.iload_n 1, 1) := dk_27 (dk_at dksX8_behindSet_1 0 rfl rfl)
theorem dX8_behindSet_25 : decode cX8_behindSet 25 = .ok (.iload_n 2, 1) := dk_28 (dk_at dksX8_behindSet_1 1 rfl rfl)
theorem dX8_behindSet_26 : decode cX8_behindSet 26 = .ok (.iload 5, 2) := dk_21 5 (dk_at dksX8_behindSet_1 2 rfl rfl)
theorem dX8_behindSet_28 : decode cX8_behindSet 28 = .ok (.iload_n 3, 1) := dk_29 (dk_at dksX8_behindSet_1 4 rfl rfl)
theorem dX8_behindSet_29 : decode cX8_behindSet 29 = .ok (.invokevirtual 416, 3) := dk_182 1 160 (dk_at dksX8_behindSet_1 5 rfl rfl)
theorem dX8_behindSet_32 : decode cX8_behindSet 32 = .ok (.iconst (-1), 1) := dk_2 (dk_at dksX8_behindSet_1 8 rfl rfl)
theorem dX8_behindSet_33 : decode cX8_behindSet 33 = .ok (.if_icmp .ne 7, 3) := dk_160 0 7 (dk_at dksX8_behindSet_1 9 rfl rfl)
theorem dX8_behindSet_36 : decode cX8_behindSet 36 = .ok (.iconst 1, 1) := dk_4 (dk_at dksX8_behindSet_1 12 rfl rfl)
theorem dX8_behindSet_37 : decode cX8_behindSet 37 = .ok (.goto 4, 3) := dk_167 0 4 (dk_at dksX8_behindSet_1 13 rfl rfl)
theorem dX8_behindSet_40 : decode cX8_behindSet 40 = .ok (.iconst 0, 1) := dk_3 (dk_at dksX8_behindSet_1 16 rfl rfl)
theorem dX8_behindSet_41 : decode cX8_behindSet 41 = .ok (.iload 5, 2) := dk_21 5 (dk_at dksX8_behindSet_1 17 rfl rfl)
theorem dX8_behindSet_43 : decode cX8_behindSet 43 = .ok (.ishl, 1) := dk_120 (dk_at dksX8_behindSet_1 19 rfl rfl)
theorem dX8_behindSet_44 : decode cX8_behindSet 44 = .ok (.ior, 1) := dk_128 (dk_at dksX8_behindSet_1 20 rfl rfl)
theorem dX8_behindSet_45 : decode cX8_behindSet 45 = .ok (.istore 4, 2) := dk_54 4 (dk_at dksX8_behindSet_1 21 rfl rfl)
theorem dX8_behindSet_47 : decode cX8_behindSet 47 = .ok (.iinc 5 1, 3) := dk_132 5 1 (dk_at dksX8_behindSet_2 0 rfl rfl)
theorem dX8_behindSet_50 : decode cX8_behindSet 50 = .ok (.goto (-44), 3) := dk_167 255 212 (dk_at dksX8_behindSet_2 3 rfl rfl)
theorem dX8_behindSet_53 : decode cX8_behindSet 53 = .ok (.iload 4, 2) := dk_21 4 (dk_at dksX8_behindSet_2 6 rfl rfl)
theorem dX8_behindSet_55 : decode cX8_behindSet 55 = .ok (.ireturn, 1) := dk_172 (dk_at dksX8_behindSet_2 8 rfl rfl)
abbrev cX8_film : ByteArray := prog_16_method_96_code
def yX8_film : MethodName := ⟨RX8, "film", "(IIII)I"⟩
def dkwX8_film_4 : List UInt8 := [21, 4, 172]
abbrev dktX8_film_4 : List UInt8 := dkwX8_film_4 ++ []
def dkwX8_film_3 : List UInt8 := [180, 0, 66, 16, 40, 27, 104, 21, 5, 96, 42, 21, 5, 182, 1, 128, 79, 132, 5, 1, 167, 255, 228]
abbrev dktX8_film_3 : List UInt8 := dkwX8_film_3 ++ dktX8_film_4
def dkwX8_film_2 : List UInt8 := [182, 1, 123, 42, 27, 3, 21, 4, 182, 1, 178, 87, 3, 54, 5, 21, 5, 21, 4, 162, 0, 27, 42]
abbrev dktX8_film_2 : List UInt8 := dkwX8_film_2 ++ dktX8_film_3
def dkwX8_film_1 : List UInt8 := [133, 9, 20, 1, 176, 184, 0, 82, 154, 0, 6, 16, 254, 172, 42, 28, 16, 10, 108, 28, 16, 10, 112, 29]
abbrev dktX8_film_1 : List UInt8 := dkwX8_film_1 ++ dktX8_film_2
def dkwX8_film_0 : List UInt8 := [27, 184, 1, 165, 153, 0, 31, 42, 28, 182, 1, 168, 153, 0, 23, 29, 184, 0, 109, 153, 0, 16, 21, 4]
abbrev dktX8_film_0 : List UInt8 := dkwX8_film_0 ++ dktX8_film_1
theorem dksX8_film_0 : cX8_film.data.toList.drop 0 = dktX8_film_0 := by decide +kernel
theorem dksX8_film_1 : cX8_film.data.toList.drop 24 = dktX8_film_1 := dk_seg dksX8_film_0 24 rfl rfl
theorem dksX8_film_2 : cX8_film.data.toList.drop 48 = dktX8_film_2 := dk_seg dksX8_film_1 24 rfl rfl
theorem dksX8_film_3 : cX8_film.data.toList.drop 71 = dktX8_film_3 := dk_seg dksX8_film_2 23 rfl rfl
theorem dksX8_film_4 : cX8_film.data.toList.drop 94 = dktX8_film_4 := dk_seg dksX8_film_3 23 rfl rfl
theorem dX8_film_0 : decode cX8_film 0 = .ok (.iload_n 1, 1) := dk_27 (dk_at dksX8_film_0 0 rfl rfl)
theorem dX8_film_1 : decode cX8_film 1 = .ok (.invokestatic 421, 3) := dk_184 1 165 (dk_at dksX8_film_0 1 rfl rfl)
theorem dX8_film_4 : decode cX8_film 4 = .ok (.ifCond .eq 31, 3) := dk_153 0 31 (dk_at dksX8_film_0 4 rfl rfl)
theorem dX8_film_7 : decode cX8_film 7 = .ok (.aload_n 0, 1) := dk_42 (dk_at dksX8_film_0 7 rfl rfl)
theorem dX8_film_8 : decode cX8_film 8 = .ok (.iload_n 2, 1) := dk_28 (dk_at dksX8_film_0 8 rfl rfl)
theorem dX8_film_9 : decode cX8_film 9 = .ok (.invokevirtual 424, 3) := dk_182 1 168 (dk_at dksX8_film_0 9 rfl rfl)
theorem dX8_film_12 : decode cX8_film 12 = .ok (.ifCond .eq 23, 3) := dk_153 0 23 (dk_at dksX8_film_0 12 rfl rfl)
theorem dX8_film_15 : decode cX8_film 15 = .ok (.iload_n 3, 1) := dk_29 (dk_at dksX8_film_0 15 rfl rfl)
theorem dX8_film_16 : decode cX8_film 16 = .ok (.invokestatic 109, 3) := dk_184 0 109 (dk_at dksX8_film_0 16 rfl rfl)
theorem dX8_film_19 : decode cX8_film 19 = .ok (.ifCond .eq 16, 3) := dk_153 0 16 (dk_at dksX8_film_0 19 rfl rfl)
theorem dX8_film_22 : decode cX8_film 22 = .ok (.iload 4, 2) := dk_21 4 (dk_at dksX8_film_0 22 rfl rfl)
theorem dX8_film_24 : decode cX8_film 24 = .ok (.i2l, 1) := dk_133 (dk_at dksX8_film_1 0 rfl rfl)
theorem dX8_film_25 : decode cX8_film 25 = .ok (.lconst 0, 1) := dk_9 (dk_at dksX8_film_1 1 rfl rfl)
theorem dX8_film_26 : decode cX8_film 26 = .ok (.ldc2_w 432, 3) := dk_20 1 176 (dk_at dksX8_film_1 2 rfl rfl)
theorem dX8_film_29 : decode cX8_film 29 = .ok (.invokestatic 82, 3) := dk_184 0 82 (dk_at dksX8_film_1 5 rfl rfl)
theorem dX8_film_32 : decode cX8_film 32 = .ok (.ifCond .ne 6, 3) := dk_154 0 6 (dk_at dksX8_film_1 8 rfl rfl)
theorem dX8_film_35 : decode cX8_film 35 = .ok (.bipush (-2), 2) := dk_16 254 (dk_at dksX8_film_1 11 rfl rfl)
theorem dX8_film_37 : decode cX8_film 37 = .ok (.ireturn, 1) := dk_172 (dk_at dksX8_film_1 13 rfl rfl)
theorem dX8_film_38 : decode cX8_film 38 = .ok (.aload_n 0, 1) := dk_42 (dk_at dksX8_film_1 14 rfl rfl)
theorem dX8_film_39 : decode cX8_film 39 = .ok (.iload_n 2, 1) := dk_28 (dk_at dksX8_film_1 15 rfl rfl)
theorem dX8_film_40 : decode cX8_film 40 = .ok (.bipush 10, 2) := dk_16 10 (dk_at dksX8_film_1 16 rfl rfl)
theorem dX8_film_42 : decode cX8_film 42 = .ok (.idiv, 1) := dk_108 (dk_at dksX8_film_1 18 rfl rfl)
theorem dX8_film_43 : decode cX8_film 43 = .ok (.iload_n 2, 1) := dk_28 (dk_at dksX8_film_1 19 rfl rfl)
theorem dX8_film_44 : decode cX8_film 44 = .ok (.bipush 10, 2) := dk_16 10 (dk_at dksX8_film_1 20 rfl rfl)
theorem dX8_film_46 : decode cX8_film 46 = .ok (.irem, 1) := dk_112 (dk_at dksX8_film_1 22 rfl rfl)
theorem dX8_film_47 : decode cX8_film 47 = .ok (.iload_n 3, 1) := dk_29 (dk_at dksX8_film_1 23 rfl rfl)
theorem dX8_film_48 : decode cX8_film 48 = .ok (.invokevirtual 379, 3) := dk_182 1 123 (dk_at dksX8_film_2 0 rfl rfl)
theorem dX8_film_51 : decode cX8_film 51 = .ok (.aload_n 0, 1) := dk_42 (dk_at dksX8_film_2 3 rfl rfl)
theorem dX8_film_52 : decode cX8_film 52 = .ok (.iload_n 1, 1) := dk_27 (dk_at dksX8_film_2 4 rfl rfl)
theorem dX8_film_53 : decode cX8_film 53 = .ok (.iconst 0, 1) := dk_3 (dk_at dksX8_film_2 5 rfl rfl)
theorem dX8_film_54 : decode cX8_film 54 = .ok (.iload 4, 2) := dk_21 4 (dk_at dksX8_film_2 6 rfl rfl)
theorem dX8_film_56 : decode cX8_film 56 = .ok (.invokevirtual 434, 3) := dk_182 1 178 (dk_at dksX8_film_2 8 rfl rfl)
theorem dX8_film_59 : decode cX8_film 59 = .ok (.pop, 1) := dk_87 (dk_at dksX8_film_2 11 rfl rfl)
theorem dX8_film_60 : decode cX8_film 60 = .ok (.iconst 0, 1) := dk_3 (dk_at dksX8_film_2 12 rfl rfl)
theorem dX8_film_61 : decode cX8_film 61 = .ok (.istore 5, 2) := dk_54 5 (dk_at dksX8_film_2 13 rfl rfl)
theorem dX8_film_63 : decode cX8_film 63 = .ok (.iload 5, 2) := dk_21 5 (dk_at dksX8_film_2 15 rfl rfl)
theorem dX8_film_65 : decode cX8_film 65 = .ok (.iload 4, 2) := dk_21 4 (dk_at dksX8_film_2 17 rfl rfl)
theorem dX8_film_67 : decode cX8_film 67 = .ok (.if_icmp .ge 27, 3) := dk_162 0 27 (dk_at dksX8_film_2 19 rfl rfl)
theorem dX8_film_70 : decode cX8_film 70 = .ok (.aload_n 0, 1) := dk_42 (dk_at dksX8_film_2 22 rfl rfl)
theorem dX8_film_71 : decode cX8_film 71 = .ok (.getfield 66, 3) := dk_180 0 66 (dk_at dksX8_film_3 0 rfl rfl)
theorem dX8_film_74 : decode cX8_film 74 = .ok (.bipush 40, 2) := dk_16 40 (dk_at dksX8_film_3 3 rfl rfl)
theorem dX8_film_76 : decode cX8_film 76 = .ok (.iload_n 1, 1) := dk_27 (dk_at dksX8_film_3 5 rfl rfl)
theorem dX8_film_77 : decode cX8_film 77 = .ok (.imul, 1) := dk_104 (dk_at dksX8_film_3 6 rfl rfl)
theorem dX8_film_78 : decode cX8_film 78 = .ok (.iload 5, 2) := dk_21 5 (dk_at dksX8_film_3 7 rfl rfl)
theorem dX8_film_80 : decode cX8_film 80 = .ok (.iadd, 1) := dk_96 (dk_at dksX8_film_3 9 rfl rfl)
theorem dX8_film_81 : decode cX8_film 81 = .ok (.aload_n 0, 1) := dk_42 (dk_at dksX8_film_3 10 rfl rfl)
theorem dX8_film_82 : decode cX8_film 82 = .ok (.iload 5, 2) := dk_21 5 (dk_at dksX8_film_3 11 rfl rfl)
theorem dX8_film_84 : decode cX8_film 84 = .ok (.invokevirtual 384, 3) := dk_182 1 128 (dk_at dksX8_film_3 13 rfl rfl)
theorem dX8_film_87 : decode cX8_film 87 = .ok (.iastore, 1) := dk_79 (dk_at dksX8_film_3 16 rfl rfl)
theorem dX8_film_88 : decode cX8_film 88 = .ok (.iinc 5 1, 3) := dk_132 5 1 (dk_at dksX8_film_3 17 rfl rfl)
theorem dX8_film_91 : decode cX8_film 91 = .ok (.goto (-28), 3) := dk_167 255 228 (dk_at dksX8_film_3 20 rfl rfl)
theorem dX8_film_94 : decode cX8_film 94 = .ok (.iload 4, 2) := dk_21 4 (dk_at dksX8_film_4 0 rfl rfl)
theorem dX8_film_96 : decode cX8_film 96 = .ok (.ireturn, 1) := dk_172 (dk_at dksX8_film_4 2 rfl rfl)
abbrev cX8_sheet : ByteArray := prog_16_method_105_code
def yX8_sheet : MethodName := ⟨RX8, "sheet", "(III)I"⟩
def dkwX8_sheet_4 : List UInt8 := [16, 40, 27, 104, 21, 4, 96, 3, 79, 132, 4, 1, 167, 255, 230, 4, 172]
abbrev dktX8_sheet_4 : List UInt8 := dkwX8_sheet_4 ++ []
def dkwX8_sheet_3 : List UInt8 := [180, 0, 63, 27, 29, 79, 3, 54, 4, 21, 4, 29, 162, 0, 26, 28, 155, 0, 22, 42, 180, 0, 66]
abbrev dktX8_sheet_3 : List UInt8 := dkwX8_sheet_3 ++ dktX8_sheet_4
def dkwX8_sheet_2 : List UInt8 := [180, 0, 56, 27, 28, 155, 0, 7, 4, 167, 0, 4, 3, 84, 42, 180, 0, 60, 27, 28, 79, 42]
abbrev dktX8_sheet_2 : List UInt8 := dkwX8_sheet_2 ++ dktX8_sheet_3
def dkwX8_sheet_1 : List UInt8 := [155, 0, 12, 29, 16, 40, 164, 0, 6, 16, 254, 172, 28, 155, 0, 10, 29, 156, 0, 6, 16, 242, 172, 42]
abbrev dktX8_sheet_1 : List UInt8 := dkwX8_sheet_1 ++ dktX8_sheet_2
def dkwX8_sheet_0 : List UInt8 := [27, 184, 1, 165, 153, 0, 27, 28, 133, 20, 1, 199, 20, 0, 92, 184, 0, 82, 153, 0, 13, 28]
abbrev dktX8_sheet_0 : List UInt8 := dkwX8_sheet_0 ++ dktX8_sheet_1
theorem dksX8_sheet_0 : cX8_sheet.data.toList.drop 0 = dktX8_sheet_0 := by decide +kernel
theorem dksX8_sheet_1 : cX8_sheet.data.toList.drop 22 = dktX8_sheet_1 := dk_seg dksX8_sheet_0 22 rfl rfl
theorem dksX8_sheet_2 : cX8_sheet.data.toList.drop 46 = dktX8_sheet_2 := dk_seg dksX8_sheet_1 24 rfl rfl
theorem dksX8_sheet_3 : cX8_sheet.data.toList.drop 68 = dktX8_sheet_3 := dk_seg dksX8_sheet_2 22 rfl rfl
theorem dksX8_sheet_4 : cX8_sheet.data.toList.drop 91 = dktX8_sheet_4 := dk_seg dksX8_sheet_3 23 rfl rfl
theorem dX8_sheet_0 : decode cX8_sheet 0 = .ok (.iload_n 1, 1) := dk_27 (dk_at dksX8_sheet_0 0 rfl rfl)
theorem dX8_sheet_1 : decode cX8_sheet 1 = .ok (.invokestatic 421, 3) := dk_184 1 165 (dk_at dksX8_sheet_0 1 rfl rfl)
theorem dX8_sheet_4 : decode cX8_sheet 4 = .ok (.ifCond .eq 27, 3) := dk_153 0 27 (dk_at dksX8_sheet_0 4 rfl rfl)
theorem dX8_sheet_7 : decode cX8_sheet 7 = .ok (.iload_n 2, 1) := dk_28 (dk_at dksX8_sheet_0 7 rfl rfl)
theorem dX8_sheet_8 : decode cX8_sheet 8 = .ok (.i2l, 1) := dk_133 (dk_at dksX8_sheet_0 8 rfl rfl)
theorem dX8_sheet_9 : decode cX8_sheet 9 = .ok (.ldc2_w 455, 3) := dk_20 1 199 (dk_at dksX8_sheet_0 9 rfl rfl)
theorem dX8_sheet_12 : decode cX8_sheet 12 = .ok (.ldc2_w 92, 3) := dk_20 0 92 (dk_at dksX8_sheet_0 12 rfl rfl)
theorem dX8_sheet_15 : decode cX8_sheet 15 = .ok (.invokestatic 82, 3) := dk_184 0 82 (dk_at dksX8_sheet_0 15 rfl rfl)
theorem dX8_sheet_18 : decode cX8_sheet 18 = .ok (.ifCond .eq 13, 3) := dk_153 0 13 (dk_at dksX8_sheet_0 18 rfl rfl)
theorem dX8_sheet_21 : decode cX8_sheet 21 = .ok (.iload_n 2, 1) := dk_28 (dk_at dksX8_sheet_0 21 rfl rfl)
theorem dX8_sheet_22 : decode cX8_sheet 22 = .ok (.ifCond .lt 12, 3) := dk_155 0 12 (dk_at dksX8_sheet_1 0 rfl rfl)
theorem dX8_sheet_25 : decode cX8_sheet 25 = .ok (.iload_n 3, 1) := dk_29 (dk_at dksX8_sheet_1 3 rfl rfl)
theorem dX8_sheet_26 : decode cX8_sheet 26 = .ok (.bipush 40, 2) := dk_16 40 (dk_at dksX8_sheet_1 4 rfl rfl)
theorem dX8_sheet_28 : decode cX8_sheet 28 = .ok (.if_icmp .le 6, 3) := dk_164 0 6 (dk_at dksX8_sheet_1 6 rfl rfl)
theorem dX8_sheet_31 : decode cX8_sheet 31 = .ok (.bipush (-2), 2) := dk_16 254 (dk_at dksX8_sheet_1 9 rfl rfl)
theorem dX8_sheet_33 : decode cX8_sheet 33 = .ok (.ireturn, 1) := dk_172 (dk_at dksX8_sheet_1 11 rfl rfl)
theorem dX8_sheet_34 : decode cX8_sheet 34 = .ok (.iload_n 2, 1) := dk_28 (dk_at dksX8_sheet_1 12 rfl rfl)
theorem dX8_sheet_35 : decode cX8_sheet 35 = .ok (.ifCond .lt 10, 3) := dk_155 0 10 (dk_at dksX8_sheet_1 13 rfl rfl)
theorem dX8_sheet_38 : decode cX8_sheet 38 = .ok (.iload_n 3, 1) := dk_29 (dk_at dksX8_sheet_1 16 rfl rfl)
theorem dX8_sheet_39 : decode cX8_sheet 39 = .ok (.ifCond .ge 6, 3) := dk_156 0 6 (dk_at dksX8_sheet_1 17 rfl rfl)
theorem dX8_sheet_42 : decode cX8_sheet 42 = .ok (.bipush (-14), 2) := dk_16 242 (dk_at dksX8_sheet_1 20 rfl rfl)
theorem dX8_sheet_44 : decode cX8_sheet 44 = .ok (.ireturn, 1) := dk_172 (dk_at dksX8_sheet_1 22 rfl rfl)
theorem dX8_sheet_45 : decode cX8_sheet 45 = .ok (.aload_n 0, 1) := dk_42 (dk_at dksX8_sheet_1 23 rfl rfl)
theorem dX8_sheet_46 : decode cX8_sheet 46 = .ok (.getfield 56, 3) := dk_180 0 56 (dk_at dksX8_sheet_2 0 rfl rfl)
theorem dX8_sheet_49 : decode cX8_sheet 49 = .ok (.iload_n 1, 1) := dk_27 (dk_at dksX8_sheet_2 3 rfl rfl)
theorem dX8_sheet_50 : decode cX8_sheet 50 = .ok (.iload_n 2, 1) := dk_28 (dk_at dksX8_sheet_2 4 rfl rfl)
theorem dX8_sheet_51 : decode cX8_sheet 51 = .ok (.ifCond .lt 7, 3) := dk_155 0 7 (dk_at dksX8_sheet_2 5 rfl rfl)
theorem dX8_sheet_54 : decode cX8_sheet 54 = .ok (.iconst 1, 1) := dk_4 (dk_at dksX8_sheet_2 8 rfl rfl)
theorem dX8_sheet_55 : decode cX8_sheet 55 = .ok (.goto 4, 3) := dk_167 0 4 (dk_at dksX8_sheet_2 9 rfl rfl)
theorem dX8_sheet_58 : decode cX8_sheet 58 = .ok (.iconst 0, 1) := dk_3 (dk_at dksX8_sheet_2 12 rfl rfl)
theorem dX8_sheet_59 : decode cX8_sheet 59 = .ok (.bastore, 1) := dk_84 (dk_at dksX8_sheet_2 13 rfl rfl)
theorem dX8_sheet_60 : decode cX8_sheet 60 = .ok (.aload_n 0, 1) := dk_42 (dk_at dksX8_sheet_2 14 rfl rfl)
theorem dX8_sheet_61 : decode cX8_sheet 61 = .ok (.getfield 60, 3) := dk_180 0 60 (dk_at dksX8_sheet_2 15 rfl rfl)
theorem dX8_sheet_64 : decode cX8_sheet 64 = .ok (.iload_n 1, 1) := dk_27 (dk_at dksX8_sheet_2 18 rfl rfl)
theorem dX8_sheet_65 : decode cX8_sheet 65 = .ok (.iload_n 2, 1) := dk_28 (dk_at dksX8_sheet_2 19 rfl rfl)
theorem dX8_sheet_66 : decode cX8_sheet 66 = .ok (.iastore, 1) := dk_79 (dk_at dksX8_sheet_2 20 rfl rfl)
theorem dX8_sheet_67 : decode cX8_sheet 67 = .ok (.aload_n 0, 1) := dk_42 (dk_at dksX8_sheet_2 21 rfl rfl)
theorem dX8_sheet_68 : decode cX8_sheet 68 = .ok (.getfield 63, 3) := dk_180 0 63 (dk_at dksX8_sheet_3 0 rfl rfl)
theorem dX8_sheet_71 : decode cX8_sheet 71 = .ok (.iload_n 1, 1) := dk_27 (dk_at dksX8_sheet_3 3 rfl rfl)
theorem dX8_sheet_72 : decode cX8_sheet 72 = .ok (.iload_n 3, 1) := dk_29 (dk_at dksX8_sheet_3 4 rfl rfl)
theorem dX8_sheet_73 : decode cX8_sheet 73 = .ok (.iastore, 1) := dk_79 (dk_at dksX8_sheet_3 5 rfl rfl)
theorem dX8_sheet_74 : decode cX8_sheet 74 = .ok (.iconst 0, 1) := dk_3 (dk_at dksX8_sheet_3 6 rfl rfl)
theorem dX8_sheet_75 : decode cX8_sheet 75 = .ok (.istore 4, 2) := dk_54 4 (dk_at dksX8_sheet_3 7 rfl rfl)
theorem dX8_sheet_77 : decode cX8_sheet 77 = .ok (.iload 4, 2) := dk_21 4 (dk_at dksX8_sheet_3 9 rfl rfl)
theorem dX8_sheet_79 : decode cX8_sheet 79 = .ok (.iload_n 3, 1) := dk_29 (dk_at dksX8_sheet_3 11 rfl rfl)
theorem dX8_sheet_80 : decode cX8_sheet 80 = .ok (.if_icmp .ge 26, 3) := dk_162 0 26 (dk_at dksX8_sheet_3 12 rfl rfl)
theorem dX8_sheet_83 : decode cX8_sheet 83 = .ok (.iload_n 2, 1) := dk_28 (dk_at dksX8_sheet_3 15 rfl rfl)
theorem dX8_sheet_84 : decode cX8_sheet 84 = .ok (.ifCond .lt 22, 3) := dk_155 0 22 (dk_at dksX8_sheet_3 16 rfl rfl)
theorem dX8_sheet_87 : decode cX8_sheet 87 = .ok (.aload_n 0, 1) := dk_42 (dk_at dksX8_sheet_3 19 rfl rfl)
theorem dX8_sheet_88 : decode cX8_sheet 88 = .ok (.getfield 66, 3) := dk_180 0 66 (dk_at dksX8_sheet_3 20 rfl rfl)
theorem dX8_sheet_91 : decode cX8_sheet 91 = .ok (.bipush 40, 2) := dk_16 40 (dk_at dksX8_sheet_4 0 rfl rfl)
theorem dX8_sheet_93 : decode cX8_sheet 93 = .ok (.iload_n 1, 1) := dk_27 (dk_at dksX8_sheet_4 2 rfl rfl)
theorem dX8_sheet_94 : decode cX8_sheet 94 = .ok (.imul, 1) := dk_104 (dk_at dksX8_sheet_4 3 rfl rfl)
theorem dX8_sheet_95 : decode cX8_sheet 95 = .ok (.iload 4, 2) := dk_21 4 (dk_at dksX8_sheet_4 4 rfl rfl)
theorem dX8_sheet_97 : decode cX8_sheet 97 = .ok (.iadd, 1) := dk_96 (dk_at dksX8_sheet_4 6 rfl rfl)
theorem dX8_sheet_98 : decode cX8_sheet 98 = .ok (.iconst 0, 1) := dk_3 (dk_at dksX8_sheet_4 7 rfl rfl)
theorem dX8_sheet_99 : decode cX8_sheet 99 = .ok (.iastore, 1) := dk_79 (dk_at dksX8_sheet_4 8 rfl rfl)
theorem dX8_sheet_100 : decode cX8_sheet 100 = .ok (.iinc 4 1, 3) := dk_132 4 1 (dk_at dksX8_sheet_4 9 rfl rfl)
theorem dX8_sheet_103 : decode cX8_sheet 103 = .ok (.goto (-26), 3) := dk_167 255 230 (dk_at dksX8_sheet_4 12 rfl rfl)
theorem dX8_sheet_106 : decode cX8_sheet 106 = .ok (.iconst 1, 1) := dk_4 (dk_at dksX8_sheet_4 15 rfl rfl)
theorem dX8_sheet_107 : decode cX8_sheet 107 = .ok (.ireturn, 1) := dk_172 (dk_at dksX8_sheet_4 16 rfl rfl)
abbrev cX8_drawn : ByteArray := prog_16_method_99_code
def yX8_drawn : MethodName := ⟨RX8, "drawn", "(III)I"⟩
def dkwX8_drawn_1 : List UInt8 := [28, 16, 10, 108, 28, 16, 10, 112, 29, 182, 1, 137, 54, 4, 42, 182, 1, 186, 21, 4, 172]
abbrev dktX8_drawn_1 : List UInt8 := dkwX8_drawn_1 ++ []
def dkwX8_drawn_0 : List UInt8 := [42, 28, 182, 1, 168, 153, 0, 10, 29, 184, 0, 109, 154, 0, 6, 16, 254, 172, 42, 27, 182, 1, 182, 42]
abbrev dktX8_drawn_0 : List UInt8 := dkwX8_drawn_0 ++ dktX8_drawn_1
theorem dksX8_drawn_0 : cX8_drawn.data.toList.drop 0 = dktX8_drawn_0 := by decide +kernel
theorem dksX8_drawn_1 : cX8_drawn.data.toList.drop 24 = dktX8_drawn_1 := dk_seg dksX8_drawn_0 24 rfl rfl
theorem dX8_drawn_0 : decode cX8_drawn 0 = .ok (.aload_n 0, 1) := dk_42 (dk_at dksX8_drawn_0 0 rfl rfl)
theorem dX8_drawn_1 : decode cX8_drawn 1 = .ok (.iload_n 2, 1) := dk_28 (dk_at dksX8_drawn_0 1 rfl rfl)
theorem dX8_drawn_2 : decode cX8_drawn 2 = .ok (.invokevirtual 424, 3) := dk_182 1 168 (dk_at dksX8_drawn_0 2 rfl rfl)
theorem dX8_drawn_5 : decode cX8_drawn 5 = .ok (.ifCond .eq 10, 3) := dk_153 0 10 (dk_at dksX8_drawn_0 5 rfl rfl)
theorem dX8_drawn_8 : decode cX8_drawn 8 = .ok (.iload_n 3, 1) := dk_29 (dk_at dksX8_drawn_0 8 rfl rfl)
theorem dX8_drawn_9 : decode cX8_drawn 9 = .ok (.invokestatic 109, 3) := dk_184 0 109 (dk_at dksX8_drawn_0 9 rfl rfl)
theorem dX8_drawn_12 : decode cX8_drawn 12 = .ok (.ifCond .ne 6, 3) := dk_154 0 6 (dk_at dksX8_drawn_0 12 rfl rfl)
theorem dX8_drawn_15 : decode cX8_drawn 15 = .ok (.bipush (-2), 2) := dk_16 254 (dk_at dksX8_drawn_0 15 rfl rfl)
theorem dX8_drawn_17 : decode cX8_drawn 17 = .ok (.ireturn, 1) := dk_172 (dk_at dksX8_drawn_0 17 rfl rfl)
theorem dX8_drawn_18 : decode cX8_drawn 18 = .ok (.aload_n 0, 1) := dk_42 (dk_at dksX8_drawn_0 18 rfl rfl)
theorem dX8_drawn_19 : decode cX8_drawn 19 = .ok (.iload_n 1, 1) := dk_27 (dk_at dksX8_drawn_0 19 rfl rfl)
theorem dX8_drawn_20 : decode cX8_drawn 20 = .ok (.invokevirtual 438, 3) := dk_182 1 182 (dk_at dksX8_drawn_0 20 rfl rfl)
theorem dX8_drawn_23 : decode cX8_drawn 23 = .ok (.aload_n 0, 1) := dk_42 (dk_at dksX8_drawn_0 23 rfl rfl)
theorem dX8_drawn_24 : decode cX8_drawn 24 = .ok (.iload_n 2, 1) := dk_28 (dk_at dksX8_drawn_1 0 rfl rfl)
theorem dX8_drawn_25 : decode cX8_drawn 25 = .ok (.bipush 10, 2) := dk_16 10 (dk_at dksX8_drawn_1 1 rfl rfl)
theorem dX8_drawn_27 : decode cX8_drawn 27 = .ok (.idiv, 1) := dk_108 (dk_at dksX8_drawn_1 3 rfl rfl)
theorem dX8_drawn_28 : decode cX8_drawn 28 = .ok (.iload_n 2, 1) := dk_28 (dk_at dksX8_drawn_1 4 rfl rfl)
theorem dX8_drawn_29 : decode cX8_drawn 29 = .ok (.bipush 10, 2) := dk_16 10 (dk_at dksX8_drawn_1 5 rfl rfl)
theorem dX8_drawn_31 : decode cX8_drawn 31 = .ok (.irem, 1) := dk_112 (dk_at dksX8_drawn_1 7 rfl rfl)
theorem dX8_drawn_32 : decode cX8_drawn 32 = .ok (.iload_n 3, 1) := dk_29 (dk_at dksX8_drawn_1 8 rfl rfl)
theorem dX8_drawn_33 : decode cX8_drawn 33 = .ok (.invokevirtual 393, 3) := dk_182 1 137 (dk_at dksX8_drawn_1 9 rfl rfl)
theorem dX8_drawn_36 : decode cX8_drawn 36 = .ok (.istore 4, 2) := dk_54 4 (dk_at dksX8_drawn_1 12 rfl rfl)
theorem dX8_drawn_38 : decode cX8_drawn 38 = .ok (.aload_n 0, 1) := dk_42 (dk_at dksX8_drawn_1 14 rfl rfl)
theorem dX8_drawn_39 : decode cX8_drawn 39 = .ok (.invokevirtual 442, 3) := dk_182 1 186 (dk_at dksX8_drawn_1 15 rfl rfl)
theorem dX8_drawn_42 : decode cX8_drawn 42 = .ok (.iload 4, 2) := dk_21 4 (dk_at dksX8_drawn_1 18 rfl rfl)
theorem dX8_drawn_44 : decode cX8_drawn 44 = .ok (.ireturn, 1) := dk_172 (dk_at dksX8_drawn_1 20 rfl rfl)
abbrev cX8_draws : ByteArray := prog_16_method_97_code
def yX8_draws : MethodName := ⟨RX8, "draws", "(I)V"⟩
def dkwX8_draws_2 : List UInt8 := [112, 79, 132, 3, 1, 167, 255, 207, 177]
abbrev dktX8_draws_2 : List UInt8 := dkwX8_draws_2 ++ []
def dkwX8_draws_1 : List UInt8 := [19, 1, 181, 104, 17, 48, 57, 96, 61, 42, 180, 0, 32, 6, 29, 104, 4, 96, 28, 16, 9, 124, 16, 8]
abbrev dktX8_draws_1 : List UInt8 := dkwX8_draws_1 ++ dktX8_draws_2
def dkwX8_draws_0 : List UInt8 := [27, 61, 3, 62, 29, 42, 180, 0, 79, 162, 0, 47, 42, 180, 0, 44, 29, 42, 29, 182, 1, 77, 79, 28]
abbrev dktX8_draws_0 : List UInt8 := dkwX8_draws_0 ++ dktX8_draws_1
theorem dksX8_draws_0 : cX8_draws.data.toList.drop 0 = dktX8_draws_0 := by decide +kernel
theorem dksX8_draws_1 : cX8_draws.data.toList.drop 24 = dktX8_draws_1 := dk_seg dksX8_draws_0 24 rfl rfl
theorem dksX8_draws_2 : cX8_draws.data.toList.drop 48 = dktX8_draws_2 := dk_seg dksX8_draws_1 24 rfl rfl
theorem dX8_draws_0 : decode cX8_draws 0 = .ok (.iload_n 1, 1) := dk_27 (dk_at dksX8_draws_0 0 rfl rfl)
theorem dX8_draws_1 : decode cX8_draws 1 = .ok (.istore_n 2, 1) := dk_61 (dk_at dksX8_draws_0 1 rfl rfl)
theorem dX8_draws_2 : decode cX8_draws 2 = .ok (.iconst 0, 1) := dk_3 (dk_at dksX8_draws_0 2 rfl rfl)
theorem dX8_draws_3 : decode cX8_draws 3 = .ok (.istore_n 3, 1) := dk_62 (dk_at dksX8_draws_0 3 rfl rfl)
theorem dX8_draws_4 : decode cX8_draws 4 = .ok (.iload_n 3, 1) := dk_29 (dk_at dksX8_draws_0 4 rfl rfl)
theorem dX8_draws_5 : decode cX8_draws 5 = .ok (.aload_n 0, 1) := dk_42 (dk_at dksX8_draws_0 5 rfl rfl)
theorem dX8_draws_6 : decode cX8_draws 6 = .ok (.getfield 79, 3) := dk_180 0 79 (dk_at dksX8_draws_0 6 rfl rfl)
theorem dX8_draws_9 : decode cX8_draws 9 = .ok (.if_icmp .ge 47, 3) := dk_162 0 47 (dk_at dksX8_draws_0 9 rfl rfl)
theorem dX8_draws_12 : decode cX8_draws 12 = .ok (.aload_n 0, 1) := dk_42 (dk_at dksX8_draws_0 12 rfl rfl)
theorem dX8_draws_13 : decode cX8_draws 13 = .ok (.getfield 44, 3) := dk_180 0 44 (dk_at dksX8_draws_0 13 rfl rfl)
theorem dX8_draws_16 : decode cX8_draws 16 = .ok (.iload_n 3, 1) := dk_29 (dk_at dksX8_draws_0 16 rfl rfl)
theorem dX8_draws_17 : decode cX8_draws 17 = .ok (.aload_n 0, 1) := dk_42 (dk_at dksX8_draws_0 17 rfl rfl)
theorem dX8_draws_18 : decode cX8_draws 18 = .ok (.iload_n 3, 1) := dk_29 (dk_at dksX8_draws_0 18 rfl rfl)
theorem dX8_draws_19 : decode cX8_draws 19 = .ok (.invokevirtual 333, 3) := dk_182 1 77 (dk_at dksX8_draws_0 19 rfl rfl)
theorem dX8_draws_22 : decode cX8_draws 22 = .ok (.iastore, 1) := dk_79 (dk_at dksX8_draws_0 22 rfl rfl)
theorem dX8_draws_23 : decode cX8_draws 23 = .ok (.iload_n 2, 1) := dk_28 (dk_at dksX8_draws_0 23 rfl rfl)
theorem dX8_draws_24 : decode cX8_draws 24 = .ok (.ldc_w 437, 3) := dk_19 1 181 (dk_at dksX8_draws_1 0 rfl rfl)
theorem dX8_draws_27 : decode cX8_draws 27 = .ok (.imul, 1) := dk_104 (dk_at dksX8_draws_1 3 rfl rfl)
theorem dX8_draws_28 : decode cX8_draws 28 = .ok (.sipush 12345, 3) := dk_17 48 57 (dk_at dksX8_draws_1 4 rfl rfl)
theorem dX8_draws_31 : decode cX8_draws 31 = .ok (.iadd, 1) := dk_96 (dk_at dksX8_draws_1 7 rfl rfl)
theorem dX8_draws_32 : decode cX8_draws 32 = .ok (.istore_n 2, 1) := dk_61 (dk_at dksX8_draws_1 8 rfl rfl)
theorem dX8_draws_33 : decode cX8_draws 33 = .ok (.aload_n 0, 1) := dk_42 (dk_at dksX8_draws_1 9 rfl rfl)
theorem dX8_draws_34 : decode cX8_draws 34 = .ok (.getfield 32, 3) := dk_180 0 32 (dk_at dksX8_draws_1 10 rfl rfl)
theorem dX8_draws_37 : decode cX8_draws 37 = .ok (.iconst 3, 1) := dk_6 (dk_at dksX8_draws_1 13 rfl rfl)
theorem dX8_draws_38 : decode cX8_draws 38 = .ok (.iload_n 3, 1) := dk_29 (dk_at dksX8_draws_1 14 rfl rfl)
theorem dX8_draws_39 : decode cX8_draws 39 = .ok (.imul, 1) := dk_104 (dk_at dksX8_draws_1 15 rfl rfl)
theorem dX8_draws_40 : decode cX8_draws 40 = .ok (.iconst 1, 1) := dk_4 (dk_at dksX8_draws_1 16 rfl rfl)
theorem dX8_draws_41 : decode cX8_draws 41 = .ok (.iadd, 1) := dk_96 (dk_at dksX8_draws_1 17 rfl rfl)
theorem dX8_draws_42 : decode cX8_draws 42 = .ok (.iload_n 2, 1) := dk_28 (dk_at dksX8_draws_1 18 rfl rfl)
theorem dX8_draws_43 : decode cX8_draws 43 = .ok (.bipush 9, 2) := dk_16 9 (dk_at dksX8_draws_1 19 rfl rfl)
theorem dX8_draws_45 : decode cX8_draws 45 = .ok (.iushr, 1) := dk_124 (dk_at dksX8_draws_1 21 rfl rfl)
theorem dX8_draws_46 : decode cX8_draws 46 = .ok (.bipush 8, 2) := dk_16 8 (dk_at dksX8_draws_1 22 rfl rfl)
theorem dX8_draws_48 : decode cX8_draws 48 = .ok (.irem, 1) := dk_112 (dk_at dksX8_draws_2 0 rfl rfl)
theorem dX8_draws_49 : decode cX8_draws 49 = .ok (.iastore, 1) := dk_79 (dk_at dksX8_draws_2 1 rfl rfl)
theorem dX8_draws_50 : decode cX8_draws 50 = .ok (.iinc 3 1, 3) := dk_132 3 1 (dk_at dksX8_draws_2 2 rfl rfl)
theorem dX8_draws_53 : decode cX8_draws 53 = .ok (.goto (-49), 3) := dk_167 255 207 (dk_at dksX8_draws_2 5 rfl rfl)
theorem dX8_draws_56 : decode cX8_draws 56 = .ok (.return_, 1) := dk_177 (dk_at dksX8_draws_2 8 rfl rfl)
abbrev cX8_laysBack : ByteArray := prog_16_method_98_code
def yX8_laysBack : MethodName := ⟨RX8, "laysBack", "()V"⟩
def dkwX8_laysBack_1 : List UInt8 := [46, 79, 132, 1, 1, 167, 255, 229, 177]
abbrev dktX8_laysBack_1 : List UInt8 := dkwX8_laysBack_1 ++ []
def dkwX8_laysBack_0 : List UInt8 := [3, 60, 27, 42, 180, 0, 79, 162, 0, 25, 42, 180, 0, 32, 6, 27, 104, 4, 96, 42, 180, 0, 44, 27]
abbrev dktX8_laysBack_0 : List UInt8 := dkwX8_laysBack_0 ++ dktX8_laysBack_1
theorem dksX8_laysBack_0 : cX8_laysBack.data.toList.drop 0 = dktX8_laysBack_0 := by decide +kernel
theorem dksX8_laysBack_1 : cX8_laysBack.data.toList.drop 24 = dktX8_laysBack_1 := dk_seg dksX8_laysBack_0 24 rfl rfl
theorem dX8_laysBack_0 : decode cX8_laysBack 0 = .ok (.iconst 0, 1) := dk_3 (dk_at dksX8_laysBack_0 0 rfl rfl)
theorem dX8_laysBack_1 : decode cX8_laysBack 1 = .ok (.istore_n 1, 1) := dk_60 (dk_at dksX8_laysBack_0 1 rfl rfl)
theorem dX8_laysBack_2 : decode cX8_laysBack 2 = .ok (.iload_n 1, 1) := dk_27 (dk_at dksX8_laysBack_0 2 rfl rfl)
theorem dX8_laysBack_3 : decode cX8_laysBack 3 = .ok (.aload_n 0, 1) := dk_42 (dk_at dksX8_laysBack_0 3 rfl rfl)
theorem dX8_laysBack_4 : decode cX8_laysBack 4 = .ok (.getfield 79, 3) := dk_180 0 79 (dk_at dksX8_laysBack_0 4 rfl rfl)
theorem dX8_laysBack_7 : decode cX8_laysBack 7 = .ok (.if_icmp .ge 25, 3) := dk_162 0 25 (dk_at dksX8_laysBack_0 7 rfl rfl)
theorem dX8_laysBack_10 : decode cX8_laysBack 10 = .ok (.aload_n 0, 1) := dk_42 (dk_at dksX8_laysBack_0 10 rfl rfl)
theorem dX8_laysBack_11 : decode cX8_laysBack 11 = .ok (.getfield 32, 3) := dk_180 0 32 (dk_at dksX8_laysBack_0 11 rfl rfl)
theorem dX8_laysBack_14 : decode cX8_laysBack 14 = .ok (.iconst 3, 1) := dk_6 (dk_at dksX8_laysBack_0 14 rfl rfl)
theorem dX8_laysBack_15 : decode cX8_laysBack 15 = .ok (.iload_n 1, 1) := dk_27 (dk_at dksX8_laysBack_0 15 rfl rfl)
theorem dX8_laysBack_16 : decode cX8_laysBack 16 = .ok (.imul, 1) := dk_104 (dk_at dksX8_laysBack_0 16 rfl rfl)
theorem dX8_laysBack_17 : decode cX8_laysBack 17 = .ok (.iconst 1, 1) := dk_4 (dk_at dksX8_laysBack_0 17 rfl rfl)
theorem dX8_laysBack_18 : decode cX8_laysBack 18 = .ok (.iadd, 1) := dk_96 (dk_at dksX8_laysBack_0 18 rfl rfl)
theorem dX8_laysBack_19 : decode cX8_laysBack 19 = .ok (.aload_n 0, 1) := dk_42 (dk_at dksX8_laysBack_0 19 rfl rfl)
theorem dX8_laysBack_20 : decode cX8_laysBack 20 = .ok (.getfield 44, 3) := dk_180 0 44 (dk_at dksX8_laysBack_0 20 rfl rfl)
theorem dX8_laysBack_23 : decode cX8_laysBack 23 = .ok (.iload_n 1, 1) := dk_27 (dk_at dksX8_laysBack_0 23 rfl rfl)
theorem dX8_laysBack_24 : decode cX8_laysBack 24 = .ok (.iaload, 1) := dk_46 (dk_at dksX8_laysBack_1 0 rfl rfl)
theorem dX8_laysBack_25 : decode cX8_laysBack 25 = .ok (.iastore, 1) := dk_79 (dk_at dksX8_laysBack_1 1 rfl rfl)
theorem dX8_laysBack_26 : decode cX8_laysBack 26 = .ok (.iinc 1 1, 3) := dk_132 1 1 (dk_at dksX8_laysBack_1 2 rfl rfl)
theorem dX8_laysBack_29 : decode cX8_laysBack 29 = .ok (.goto (-27), 3) := dk_167 255 229 (dk_at dksX8_laysBack_1 5 rfl rfl)
theorem dX8_laysBack_32 : decode cX8_laysBack 32 = .ok (.return_, 1) := dk_177 (dk_at dksX8_laysBack_1 8 rfl rfl)
abbrev cX8_chance : ByteArray := prog_16_method_100_code
def yX8_chance : MethodName := ⟨RX8, "chance", "(IIII)J"⟩
def dkwX8_chance_6 : List UInt8 := [167, 0, 8, 28, 133, 22, 7, 109, 173]
abbrev dktX8_chance_6 : List UInt8 := dkwX8_chance_6 ++ []
def dkwX8_chance_5 : List UInt8 := [55, 11, 22, 9, 55, 7, 22, 11, 55, 9, 167, 255, 234, 21, 4, 154, 0, 11, 22, 5, 22, 7, 109]
abbrev dktX8_chance_5 : List UInt8 := dkwX8_chance_5 ++ dktX8_chance_6
def dkwX8_chance_4 : List UInt8 := [167, 255, 201, 22, 5, 55, 7, 28, 133, 55, 9, 22, 9, 9, 148, 153, 0, 21, 22, 7, 22, 9, 113]
abbrev dktX8_chance_4 : List UInt8 := dkwX8_chance_4 ++ dktX8_chance_5
def dkwX8_chance_3 : List UInt8 := [16, 10, 108, 182, 1, 77, 160, 0, 7, 10, 167, 0, 4, 9, 97, 55, 5, 42, 182, 1, 186, 132, 7, 1]
abbrev dktX8_chance_3 : List UInt8 := dkwX8_chance_3 ++ dktX8_chance_4
def dkwX8_chance_2 : List UInt8 := [27, 21, 7, 96, 182, 1, 182, 22, 5, 42, 29, 16, 10, 108, 29, 16, 10, 112, 3, 182, 1, 141, 42, 29]
abbrev dktX8_chance_2 : List UInt8 := dkwX8_chance_2 ++ dktX8_chance_3
def dkwX8_chance_1 : List UInt8 := [10, 184, 0, 82, 154, 0, 7, 20, 1, 189, 173, 9, 55, 5, 3, 54, 7, 21, 7, 28, 162, 0, 55, 42]
abbrev dktX8_chance_1 : List UInt8 := dkwX8_chance_1 ++ dktX8_chance_2
def dkwX8_chance_0 : List UInt8 := [28, 133, 10, 20, 1, 176, 184, 0, 82, 153, 0, 22, 42, 29, 182, 1, 168, 153, 0, 14, 21, 4, 133, 9]
abbrev dktX8_chance_0 : List UInt8 := dkwX8_chance_0 ++ dktX8_chance_1
theorem dksX8_chance_0 : cX8_chance.data.toList.drop 0 = dktX8_chance_0 := by decide +kernel
theorem dksX8_chance_1 : cX8_chance.data.toList.drop 24 = dktX8_chance_1 := dk_seg dksX8_chance_0 24 rfl rfl
theorem dksX8_chance_2 : cX8_chance.data.toList.drop 48 = dktX8_chance_2 := dk_seg dksX8_chance_1 24 rfl rfl
theorem dksX8_chance_3 : cX8_chance.data.toList.drop 72 = dktX8_chance_3 := dk_seg dksX8_chance_2 24 rfl rfl
theorem dksX8_chance_4 : cX8_chance.data.toList.drop 96 = dktX8_chance_4 := dk_seg dksX8_chance_3 24 rfl rfl
theorem dksX8_chance_5 : cX8_chance.data.toList.drop 119 = dktX8_chance_5 := dk_seg dksX8_chance_4 23 rfl rfl
theorem dksX8_chance_6 : cX8_chance.data.toList.drop 142 = dktX8_chance_6 := dk_seg dksX8_chance_5 23 rfl rfl
theorem dX8_chance_0 : decode cX8_chance 0 = .ok (.iload_n 2, 1) := dk_28 (dk_at dksX8_chance_0 0 rfl rfl)
theorem dX8_chance_1 : decode cX8_chance 1 = .ok (.i2l, 1) := dk_133 (dk_at dksX8_chance_0 1 rfl rfl)
theorem dX8_chance_2 : decode cX8_chance 2 = .ok (.lconst 1, 1) := dk_10 (dk_at dksX8_chance_0 2 rfl rfl)
theorem dX8_chance_3 : decode cX8_chance 3 = .ok (.ldc2_w 432, 3) := dk_20 1 176 (dk_at dksX8_chance_0 3 rfl rfl)
theorem dX8_chance_6 : decode cX8_chance 6 = .ok (.invokestatic 82, 3) := dk_184 0 82 (dk_at dksX8_chance_0 6 rfl rfl)
theorem dX8_chance_9 : decode cX8_chance 9 = .ok (.ifCond .eq 22, 3) := dk_153 0 22 (dk_at dksX8_chance_0 9 rfl rfl)
theorem dX8_chance_12 : decode cX8_chance 12 = .ok (.aload_n 0, 1) := dk_42 (dk_at dksX8_chance_0 12 rfl rfl)
theorem dX8_chance_13 : decode cX8_chance 13 = .ok (.iload_n 3, 1) := dk_29 (dk_at dksX8_chance_0 13 rfl rfl)
theorem dX8_chance_14 : decode cX8_chance 14 = .ok (.invokevirtual 424, 3) := dk_182 1 168 (dk_at dksX8_chance_0 14 rfl rfl)
theorem dX8_chance_17 : decode cX8_chance 17 = .ok (.ifCond .eq 14, 3) := dk_153 0 14 (dk_at dksX8_chance_0 17 rfl rfl)
theorem dX8_chance_20 : decode cX8_chance 20 = .ok (.iload 4, 2) := dk_21 4 (dk_at dksX8_chance_0 20 rfl rfl)
theorem dX8_chance_22 : decode cX8_chance 22 = .ok (.i2l, 1) := dk_133 (dk_at dksX8_chance_0 22 rfl rfl)
theorem dX8_chance_23 : decode cX8_chance 23 = .ok (.lconst 0, 1) := dk_9 (dk_at dksX8_chance_0 23 rfl rfl)
theorem dX8_chance_24 : decode cX8_chance 24 = .ok (.lconst 1, 1) := dk_10 (dk_at dksX8_chance_1 0 rfl rfl)
theorem dX8_chance_25 : decode cX8_chance 25 = .ok (.invokestatic 82, 3) := dk_184 0 82 (dk_at dksX8_chance_1 1 rfl rfl)
theorem dX8_chance_28 : decode cX8_chance 28 = .ok (.ifCond .ne 7, 3) := dk_154 0 7 (dk_at dksX8_chance_1 4 rfl rfl)
theorem dX8_chance_31 : decode cX8_chance 31 = .ok (.ldc2_w 445, 3) := dk_20 1 189 (dk_at dksX8_chance_1 7 rfl rfl)
theorem dX8_chance_34 : decode cX8_chance 34 = .ok (.lreturn, 1) := dk_173 (dk_at dksX8_chance_1 10 rfl rfl)
theorem dX8_chance_35 : decode cX8_chance 35 = .ok (.lconst 0, 1) := dk_9 (dk_at dksX8_chance_1 11 rfl rfl)
theorem dX8_chance_36 : decode cX8_chance 36 = .ok (.lstore 5, 2) := dk_55 5 (dk_at dksX8_chance_1 12 rfl rfl)
theorem dX8_chance_38 : decode cX8_chance 38 = .ok (.iconst 0, 1) := dk_3 (dk_at dksX8_chance_1 14 rfl rfl)
theorem dX8_chance_39 : decode cX8_chance 39 = .ok (.istore 7, 2) := dk_54 7 (dk_at dksX8_chance_1 15 rfl rfl)
theorem dX8_chance_41 : decode cX8_chance 41 = .ok (.iload 7, 2) := dk_21 7 (dk_at dksX8_chance_1 17 rfl rfl)
theorem dX8_chance_43 : decode cX8_chance 43 = .ok (.iload_n 2, 1) := dk_28 (dk_at dksX8_chance_1 19 rfl rfl)
theorem dX8_chance_44 : decode cX8_chance 44 = .ok (.if_icmp .ge 55, 3) := dk_162 0 55 (dk_at dksX8_chance_1 20 rfl rfl)
theorem dX8_chance_47 : decode cX8_chance 47 = .ok (.aload_n 0, 1) := dk_42 (dk_at dksX8_chance_1 23 rfl rfl)
theorem dX8_chance_48 : decode cX8_chance 48 = .ok (.iload_n 1, 1) := dk_27 (dk_at dksX8_chance_2 0 rfl rfl)
theorem dX8_chance_49 : decode cX8_chance 49 = .ok (.iload 7, 2) := dk_21 7 (dk_at dksX8_chance_2 1 rfl rfl)
theorem dX8_chance_51 : decode cX8_chance 51 = .ok (.iadd, 1) := dk_96 (dk_at dksX8_chance_2 3 rfl rfl)
theorem dX8_chance_52 : decode cX8_chance 52 = .ok (.invokevirtual 438, 3) := dk_182 1 182 (dk_at dksX8_chance_2 4 rfl rfl)
theorem dX8_chance_55 : decode cX8_chance 55 = .ok (.lload 5, 2) := dk_22 5 (dk_at dksX8_chance_2 7 rfl rfl)
theorem dX8_chance_57 : decode cX8_chance 57 = .ok (.aload_n 0, 1) := dk_42 (dk_at dksX8_chance_2 9 rfl rfl)
theorem dX8_chance_58 : decode cX8_chance 58 = .ok (.iload_n 3, 1) := dk_29 (dk_at dksX8_chance_2 10 rfl rfl)
theorem dX8_chance_59 : decode cX8_chance 59 = .ok (.bipush 10, 2) := dk_16 10 (dk_at dksX8_chance_2 11 rfl rfl)
theorem dX8_chance_61 : decode cX8_chance 61 = .ok (.idiv, 1) := dk_108 (dk_at dksX8_chance_2 13 rfl rfl)
theorem dX8_chance_62 : decode cX8_chance 62 = .ok (.iload_n 3, 1) := dk_29 (dk_at dksX8_chance_2 14 rfl rfl)
theorem dX8_chance_63 : decode cX8_chance 63 = .ok (.bipush 10, 2) := dk_16 10 (dk_at dksX8_chance_2 15 rfl rfl)
theorem dX8_chance_65 : decode cX8_chance 65 = .ok (.irem, 1) := dk_112 (dk_at dksX8_chance_2 17 rfl rfl)
theorem dX8_chance_66 : decode cX8_chance 66 = .ok (.iconst 0, 1) := dk_3 (dk_at dksX8_chance_2 18 rfl rfl)
theorem dX8_chance_67 : decode cX8_chance 67 = .ok (.invokevirtual 397, 3) := dk_182 1 141 (dk_at dksX8_chance_2 19 rfl rfl)
theorem dX8_chance_70 : decode cX8_chance 70 = .ok (.aload_n 0, 1) := dk_42 (dk_at dksX8_chance_2 22 rfl rfl)
theorem dX8_chance_71 : decode cX8_chance 71 = .ok (.iload_n 3, 1) := dk_29 (dk_at dksX8_chance_2 23 rfl rfl)
theorem dX8_chance_72 : decode cX8_chance 72 = .ok (.bipush 10, 2) := dk_16 10 (dk_at dksX8_chance_3 0 rfl rfl)
theorem dX8_chance_74 : decode cX8_chance 74 = .ok (.idiv, 1) := dk_108 (dk_at dksX8_chance_3 2 rfl rfl)
theorem dX8_chance_75 : decode cX8_chance 75 = .ok (.invokevirtual 333, 3) := dk_182 1 77 (dk_at dksX8_chance_3 3 rfl rfl)
theorem dX8_chance_78 : decode cX8_chance 78 = .ok (.if_icmp .ne 7, 3) := dk_160 0 7 (dk_at dksX8_chance_3 6 rfl rfl)
theorem dX8_chance_81 : decode cX8_chance 81 = .ok (.lconst 1, 1) := dk_10 (dk_at dksX8_chance_3 9 rfl rfl)
theorem dX8_chance_82 : decode cX8_chance 82 = .ok (.goto 4, 3) := dk_167 0 4 (dk_at dksX8_chance_3 10 rfl rfl)
theorem dX8_chance_85 : decode cX8_chance 85 = .ok (.lconst 0, 1) := dk_9 (dk_at dksX8_chance_3 13 rfl rfl)
theorem dX8_chance_86 : decode cX8_chance 86 = .ok (.ladd, 1) := dk_97 (dk_at dksX8_chance_3 14 rfl rfl)
theorem dX8_chance_87 : decode cX8_chance 87 = .ok (.lstore 5, 2) := dk_55 5 (dk_at dksX8_chance_3 15 rfl rfl)
theorem dX8_chance_89 : decode cX8_chance 89 = .ok (.aload_n 0, 1) := dk_42 (dk_at dksX8_chance_3 17 rfl rfl)
theorem dX8_chance_90 : decode cX8_chance 90 = .ok (.invokevirtual 442, 3) := dk_182 1 186 (dk_at dksX8_chance_3 18 rfl rfl)
theorem dX8_chance_93 : decode cX8_chance 93 = .ok (.iinc 7 1, 3) := dk_132 7 1 (dk_at dksX8_chance_3 21 rfl rfl)
theorem dX8_chance_96 : decode cX8_chance 96 = .ok (.goto (-55), 3) := dk_167 255 201 (dk_at dksX8_chance_4 0 rfl rfl)
theorem dX8_chance_99 : decode cX8_chance 99 = .ok (.lload 5, 2) := dk_22 5 (dk_at dksX8_chance_4 3 rfl rfl)
theorem dX8_chance_101 : decode cX8_chance 101 = .ok (.lstore 7, 2) := dk_55 7 (dk_at dksX8_chance_4 5 rfl rfl)
theorem dX8_chance_103 : decode cX8_chance 103 = .ok (.iload_n 2, 1) := dk_28 (dk_at dksX8_chance_4 7 rfl rfl)
theorem dX8_chance_104 : decode cX8_chance 104 = .ok (.i2l, 1) := dk_133 (dk_at dksX8_chance_4 8 rfl rfl)
theorem dX8_chance_105 : decode cX8_chance 105 = .ok (.lstore 9, 2) := dk_55 9 (dk_at dksX8_chance_4 9 rfl rfl)
theorem dX8_chance_107 : decode cX8_chance 107 = .ok (.lload 9, 2) := dk_22 9 (dk_at dksX8_chance_4 11 rfl rfl)
theorem dX8_chance_109 : decode cX8_chance 109 = .ok (.lconst 0, 1) := dk_9 (dk_at dksX8_chance_4 13 rfl rfl)
theorem dX8_chance_110 : decode cX8_chance 110 = .ok (.lcmp, 1) := dk_148 (dk_at dksX8_chance_4 14 rfl rfl)
theorem dX8_chance_111 : decode cX8_chance 111 = .ok (.ifCond .eq 21, 3) := dk_153 0 21 (dk_at dksX8_chance_4 15 rfl rfl)
theorem dX8_chance_114 : decode cX8_chance 114 = .ok (.lload 7, 2) := dk_22 7 (dk_at dksX8_chance_4 18 rfl rfl)
theorem dX8_chance_116 : decode cX8_chance 116 = .ok (.lload 9, 2) := dk_22 9 (dk_at dksX8_chance_4 20 rfl rfl)
theorem dX8_chance_118 : decode cX8_chance 118 = .ok (.lrem, 1) := dk_113 (dk_at dksX8_chance_4 22 rfl rfl)
theorem dX8_chance_119 : decode cX8_chance 119 = .ok (.lstore 11, 2) := dk_55 11 (dk_at dksX8_chance_5 0 rfl rfl)
theorem dX8_chance_121 : decode cX8_chance 121 = .ok (.lload 9, 2) := dk_22 9 (dk_at dksX8_chance_5 2 rfl rfl)
theorem dX8_chance_123 : decode cX8_chance 123 = .ok (.lstore 7, 2) := dk_55 7 (dk_at dksX8_chance_5 4 rfl rfl)
theorem dX8_chance_125 : decode cX8_chance 125 = .ok (.lload 11, 2) := dk_22 11 (dk_at dksX8_chance_5 6 rfl rfl)
theorem dX8_chance_127 : decode cX8_chance 127 = .ok (.lstore 9, 2) := dk_55 9 (dk_at dksX8_chance_5 8 rfl rfl)
theorem dX8_chance_129 : decode cX8_chance 129 = .ok (.goto (-22), 3) := dk_167 255 234 (dk_at dksX8_chance_5 10 rfl rfl)
theorem dX8_chance_132 : decode cX8_chance 132 = .ok (.iload 4, 2) := dk_21 4 (dk_at dksX8_chance_5 13 rfl rfl)
theorem dX8_chance_134 : decode cX8_chance 134 = .ok (.ifCond .ne 11, 3) := dk_154 0 11 (dk_at dksX8_chance_5 15 rfl rfl)
theorem dX8_chance_137 : decode cX8_chance 137 = .ok (.lload 5, 2) := dk_22 5 (dk_at dksX8_chance_5 18 rfl rfl)
theorem dX8_chance_139 : decode cX8_chance 139 = .ok (.lload 7, 2) := dk_22 7 (dk_at dksX8_chance_5 20 rfl rfl)
theorem dX8_chance_141 : decode cX8_chance 141 = .ok (.ldiv, 1) := dk_109 (dk_at dksX8_chance_5 22 rfl rfl)
theorem dX8_chance_142 : decode cX8_chance 142 = .ok (.goto 8, 3) := dk_167 0 8 (dk_at dksX8_chance_6 0 rfl rfl)
theorem dX8_chance_145 : decode cX8_chance 145 = .ok (.iload_n 2, 1) := dk_28 (dk_at dksX8_chance_6 3 rfl rfl)
theorem dX8_chance_146 : decode cX8_chance 146 = .ok (.i2l, 1) := dk_133 (dk_at dksX8_chance_6 4 rfl rfl)
theorem dX8_chance_147 : decode cX8_chance 147 = .ok (.lload 7, 2) := dk_22 7 (dk_at dksX8_chance_6 5 rfl rfl)
theorem dX8_chance_149 : decode cX8_chance 149 = .ok (.ldiv, 1) := dk_109 (dk_at dksX8_chance_6 7 rfl rfl)
theorem dX8_chance_150 : decode cX8_chance 150 = .ok (.lreturn, 1) := dk_173 (dk_at dksX8_chance_6 8 rfl rfl)
abbrev cX8_image : ByteArray := prog_16_method_101_code
def yX8_image : MethodName := ⟨RX8, "image", "()I"⟩
def dkwX8_image_3 : List UInt8 := [180, 0, 106, 181, 1, 194, 42, 180, 0, 79, 172]
abbrev dktX8_image_3 : List UInt8 := dkwX8_image_3 ++ []
def dkwX8_image_2 : List UInt8 := [132, 1, 1, 167, 255, 235, 42, 42, 180, 0, 79, 181, 0, 53, 42, 42, 180, 0, 23, 181, 1, 191, 42, 42]
abbrev dktX8_image_2 : List UInt8 := dkwX8_image_2 ++ dktX8_image_3
def dkwX8_image_1 : List UInt8 := [167, 255, 235, 3, 60, 27, 16, 18, 162, 0, 21, 42, 180, 0, 50, 27, 42, 180, 0, 32, 27, 46, 79]
abbrev dktX8_image_1 : List UInt8 := dkwX8_image_1 ++ dktX8_image_2
def dkwX8_image_0 : List UInt8 := [3, 60, 27, 16, 64, 162, 0, 21, 42, 180, 0, 47, 27, 42, 180, 0, 26, 27, 46, 79, 132, 1, 1]
abbrev dktX8_image_0 : List UInt8 := dkwX8_image_0 ++ dktX8_image_1
theorem dksX8_image_0 : cX8_image.data.toList.drop 0 = dktX8_image_0 := by decide +kernel
theorem dksX8_image_1 : cX8_image.data.toList.drop 23 = dktX8_image_1 := dk_seg dksX8_image_0 23 rfl rfl
theorem dksX8_image_2 : cX8_image.data.toList.drop 46 = dktX8_image_2 := dk_seg dksX8_image_1 23 rfl rfl
theorem dksX8_image_3 : cX8_image.data.toList.drop 70 = dktX8_image_3 := dk_seg dksX8_image_2 24 rfl rfl
theorem dX8_image_0 : decode cX8_image 0 = .ok (.iconst 0, 1) := dk_3 (dk_at dksX8_image_0 0 rfl rfl)
theorem dX8_image_1 : decode cX8_image 1 = .ok (.istore_n 1, 1) := dk_60 (dk_at dksX8_image_0 1 rfl rfl)
theorem dX8_image_2 : decode cX8_image 2 = .ok (.iload_n 1, 1) := dk_27 (dk_at dksX8_image_0 2 rfl rfl)
theorem dX8_image_3 : decode cX8_image 3 = .ok (.bipush 64, 2) := dk_16 64 (dk_at dksX8_image_0 3 rfl rfl)
theorem dX8_image_5 : decode cX8_image 5 = .ok (.if_icmp .ge 21, 3) := dk_162 0 21 (dk_at dksX8_image_0 5 rfl rfl)
theorem dX8_image_8 : decode cX8_image 8 = .ok (.aload_n 0, 1) := dk_42 (dk_at dksX8_image_0 8 rfl rfl)
theorem dX8_image_9 : decode cX8_image 9 = .ok (.getfield 47, 3) := dk_180 0 47 (dk_at dksX8_image_0 9 rfl rfl)
theorem dX8_image_12 : decode cX8_image 12 = .ok (.iload_n 1, 1) := dk_27 (dk_at dksX8_image_0 12 rfl rfl)
theorem dX8_image_13 : decode cX8_image 13 = .ok (.aload_n 0, 1) := dk_42 (dk_at dksX8_image_0 13 rfl rfl)
theorem dX8_image_14 : decode cX8_image 14 = .ok (.getfield 26, 3) := dk_180 0 26 (dk_at dksX8_image_0 14 rfl rfl)
theorem dX8_image_17 : decode cX8_image 17 = .ok (.iload_n 1, 1) := dk_27 (dk_at dksX8_image_0 17 rfl rfl)
theorem dX8_image_18 : decode cX8_image 18 = .ok (.iaload, 1) := dk_46 (dk_at dksX8_image_0 18 rfl rfl)
theorem dX8_image_19 : decode cX8_image 19 = .ok (.iastore, 1) := dk_79 (dk_at dksX8_image_0 19 rfl rfl)
theorem dX8_image_20 : decode cX8_image 20 = .ok (.iinc 1 1, 3) := dk_132 1 1 (dk_at dksX8_image_0 20 rfl rfl)
theorem dX8_image_23 : decode cX8_image 23 = .ok (.goto (-21), 3) := dk_167 255 235 (dk_at dksX8_image_1 0 rfl rfl)
theorem dX8_image_26 : decode cX8_image 26 = .ok (.iconst 0, 1) := dk_3 (dk_at dksX8_image_1 3 rfl rfl)
theorem dX8_image_27 : decode cX8_image 27 = .ok (.istore_n 1, 1) := dk_60 (dk_at dksX8_image_1 4 rfl rfl)
theorem dX8_image_28 : decode cX8_image 28 = .ok (.iload_n 1, 1) := dk_27 (dk_at dksX8_image_1 5 rfl rfl)
theorem dX8_image_29 : decode cX8_image 29 = .ok (.bipush 18, 2) := dk_16 18 (dk_at dksX8_image_1 6 rfl rfl)
theorem dX8_image_31 : decode cX8_image 31 = .ok (.if_icmp .ge 21, 3) := dk_162 0 21 (dk_at dksX8_image_1 8 rfl rfl)
theorem dX8_image_34 : decode cX8_image 34 = .ok (.aload_n 0, 1) := dk_42 (dk_at dksX8_image_1 11 rfl rfl)
theorem dX8_image_35 : decode cX8_image 35 = .ok (.getfield 50, 3) := dk_180 0 50 (dk_at dksX8_image_1 12 rfl rfl)
theorem dX8_image_38 : decode cX8_image 38 = .ok (.iload_n 1, 1) := dk_27 (dk_at dksX8_image_1 15 rfl rfl)
theorem dX8_image_39 : decode cX8_image 39 = .ok (.aload_n 0, 1) := dk_42 (dk_at dksX8_image_1 16 rfl rfl)
theorem dX8_image_40 : decode cX8_image 40 = .ok (.getfield 32, 3) := dk_180 0 32 (dk_at dksX8_image_1 17 rfl rfl)
theorem dX8_image_43 : decode cX8_image 43 = .ok (.iload_n 1, 1) := dk_27 (dk_at dksX8_image_1 20 rfl rfl)
theorem dX8_image_44 : decode cX8_image 44 = .ok (.iaload, 1) := dk_46 (dk_at dksX8_image_1 21 rfl rfl)
theorem dX8_image_45 : decode cX8_image 45 = .ok (.iastore, 1) := dk_79 (dk_at dksX8_image_1 22 rfl rfl)
theorem dX8_image_46 : decode cX8_image 46 = .ok (.iinc 1 1, 3) := dk_132 1 1 (dk_at dksX8_image_2 0 rfl rfl)
theorem dX8_image_49 : decode cX8_image 49 = .ok (.goto (-21), 3) := dk_167 255 235 (dk_at dksX8_image_2 3 rfl rfl)
theorem dX8_image_52 : decode cX8_image 52 = .ok (.aload_n 0, 1) := dk_42 (dk_at dksX8_image_2 6 rfl rfl)
theorem dX8_image_53 : decode cX8_image 53 = .ok (.aload_n 0, 1) := dk_42 (dk_at dksX8_image_2 7 rfl rfl)
theorem dX8_image_54 : decode cX8_image 54 = .ok (.getfield 79, 3) := dk_180 0 79 (dk_at dksX8_image_2 8 rfl rfl)
theorem dX8_image_57 : decode cX8_image 57 = .ok (.putfield 53, 3) := dk_181 0 53 (dk_at dksX8_image_2 11 rfl rfl)
theorem dX8_image_60 : decode cX8_image 60 = .ok (.aload_n 0, 1) := dk_42 (dk_at dksX8_image_2 14 rfl rfl)
theorem dX8_image_61 : decode cX8_image 61 = .ok (.aload_n 0, 1) := dk_42 (dk_at dksX8_image_2 15 rfl rfl)
theorem dX8_image_62 : decode cX8_image 62 = .ok (.getfield 23, 3) := dk_180 0 23 (dk_at dksX8_image_2 16 rfl rfl)
theorem dX8_image_65 : decode cX8_image 65 = .ok (.putfield 447, 3) := dk_181 1 191 (dk_at dksX8_image_2 19 rfl rfl)
theorem dX8_image_68 : decode cX8_image 68 = .ok (.aload_n 0, 1) := dk_42 (dk_at dksX8_image_2 22 rfl rfl)
theorem dX8_image_69 : decode cX8_image 69 = .ok (.aload_n 0, 1) := dk_42 (dk_at dksX8_image_2 23 rfl rfl)
theorem dX8_image_70 : decode cX8_image 70 = .ok (.getfield 106, 3) := dk_180 0 106 (dk_at dksX8_image_3 0 rfl rfl)
theorem dX8_image_73 : decode cX8_image 73 = .ok (.putfield 450, 3) := dk_181 1 194 (dk_at dksX8_image_3 3 rfl rfl)
theorem dX8_image_76 : decode cX8_image 76 = .ok (.aload_n 0, 1) := dk_42 (dk_at dksX8_image_3 6 rfl rfl)
theorem dX8_image_77 : decode cX8_image 77 = .ok (.getfield 79, 3) := dk_180 0 79 (dk_at dksX8_image_3 7 rfl rfl)
theorem dX8_image_80 : decode cX8_image 80 = .ok (.ireturn, 1) := dk_172 (dk_at dksX8_image_3 10 rfl rfl)
abbrev cX8_back : ByteArray := prog_16_method_102_code
def yX8_back : MethodName := ⟨RX8, "back", "()I"⟩
def dkwX8_back_4 : List UInt8 := [180, 0, 79, 172]
abbrev dktX8_back_4 : List UInt8 := dkwX8_back_4 ++ []
def dkwX8_back_3 : List UInt8 := [180, 0, 53, 181, 0, 79, 42, 42, 180, 1, 191, 181, 0, 23, 42, 42, 180, 1, 194, 181, 0, 106, 42]
abbrev dktX8_back_3 : List UInt8 := dkwX8_back_3 ++ dktX8_back_4
def dkwX8_back_2 : List UInt8 := [180, 0, 32, 27, 42, 180, 0, 50, 27, 46, 79, 132, 1, 1, 167, 255, 235, 42, 182, 0, 69, 42, 42]
abbrev dktX8_back_2 : List UInt8 := dkwX8_back_2 ++ dktX8_back_3
def dkwX8_back_1 : List UInt8 := [42, 180, 0, 47, 27, 46, 79, 132, 1, 1, 167, 255, 235, 3, 60, 27, 16, 18, 162, 0, 21, 42]
abbrev dktX8_back_1 : List UInt8 := dkwX8_back_1 ++ dktX8_back_2
def dkwX8_back_0 : List UInt8 := [42, 180, 0, 53, 2, 160, 0, 6, 16, 253, 172, 3, 60, 27, 16, 64, 162, 0, 21, 42, 180, 0, 26, 27]
abbrev dktX8_back_0 : List UInt8 := dkwX8_back_0 ++ dktX8_back_1
theorem dksX8_back_0 : cX8_back.data.toList.drop 0 = dktX8_back_0 := by decide +kernel
theorem dksX8_back_1 : cX8_back.data.toList.drop 24 = dktX8_back_1 := dk_seg dksX8_back_0 24 rfl rfl
theorem dksX8_back_2 : cX8_back.data.toList.drop 46 = dktX8_back_2 := dk_seg dksX8_back_1 22 rfl rfl
theorem dksX8_back_3 : cX8_back.data.toList.drop 69 = dktX8_back_3 := dk_seg dksX8_back_2 23 rfl rfl
theorem dksX8_back_4 : cX8_back.data.toList.drop 92 = dktX8_back_4 := dk_seg dksX8_back_3 23 rfl rfl
theorem dX8_back_0 : decode cX8_back 0 = .ok (.aload_n 0, 1) := dk_42 (dk_at dksX8_back_0 0 rfl rfl)
theorem dX8_back_1 : decode cX8_back 1 = .ok (.getfield 53, 3) := dk_180 0 53 (dk_at dksX8_back_0 1 rfl rfl)
theorem dX8_back_4 : decode cX8_back 4 = .ok (.iconst (-1), 1) := dk_2 (dk_at dksX8_back_0 4 rfl rfl)
theorem dX8_back_5 : decode cX8_back 5 = .ok (.if_icmp .ne 6, 3) := dk_160 0 6 (dk_at dksX8_back_0 5 rfl rfl)
theorem dX8_back_8 : decode cX8_back 8 = .ok (.bipush (-3), 2) := dk_16 253 (dk_at dksX8_back_0 8 rfl rfl)
theorem dX8_back_10 : decode cX8_back 10 = .ok (.ireturn, 1) := dk_172 (dk_at dksX8_back_0 10 rfl rfl)
theorem dX8_back_11 : decode cX8_back 11 = .ok (.iconst 0, 1) := dk_3 (dk_at dksX8_back_0 11 rfl rfl)
theorem dX8_back_12 : decode cX8_back 12 = .ok (.istore_n 1, 1) := dk_60 (dk_at dksX8_back_0 12 rfl rfl)
theorem dX8_back_13 : decode cX8_back 13 = .ok (.iload_n 1, 1) := dk_27 (dk_at dksX8_back_0 13 rfl rfl)
theorem dX8_back_14 : decode cX8_back 14 = .ok (.bipush 64, 2) := dk_16 64 (dk_at dksX8_back_0 14 rfl rfl)
theorem dX8_back_16 : decode cX8_back 16 = .ok (.if_icmp .ge 21, 3) := dk_162 0 21 (dk_at dksX8_back_0 16 rfl rfl)
theorem dX8_back_19 : decode cX8_back 19 = .ok (.aload_n 0, 1) := dk_42 (dk_at dksX8_back_0 19 rfl rfl)
theorem dX8_back_20 : decode cX8_back 20 = .ok (.getfield 26, 3) := dk_180 0 26 (dk_at dksX8_back_0 20 rfl rfl)
theorem dX8_back_23 : decode cX8_back 23 = .ok (.iload_n 1, 1) := dk_27 (dk_at dksX8_back_0 23 rfl rfl)
theorem dX8_back_24 : decode cX8_back 24 = .ok (.aload_n 0, 1) := dk_42 (dk_at dksX8_back_1 0 rfl rfl)
theorem dX8_back_25 : decode cX8_back 25 = .ok (.getfield 47, 3) := dk_180 0 47 (dk_at dksX8_back_1 1 rfl rfl)
theorem dX8_back_28 : decode cX8_back 28 = .ok (.iload_n 1, 1) := dk_27 (dk_at dksX8_back_1 4 rfl rfl)
theorem dX8_back_29 : decode cX8_back 29 = .ok (.iaload, 1) := dk_46 (dk_at dksX8_back_1 5 rfl rfl)
theorem dX8_back_30 : decode cX8_back 30 = .ok (.iastore, 1) := dk_79 (dk_at dksX8_back_1 6 rfl rfl)
theorem dX8_back_31 : decode cX8_back 31 = .ok (.iinc 1 1, 3) := dk_132 1 1 (dk_at dksX8_back_1 7 rfl rfl)
theorem dX8_back_34 : decode cX8_back 34 = .ok (.goto (-21), 3) := dk_167 255 235 (dk_at dksX8_back_1 10 rfl rfl)
theorem dX8_back_37 : decode cX8_back 37 = .ok (.iconst 0, 1) := dk_3 (dk_at dksX8_back_1 13 rfl rfl)
theorem dX8_back_38 : decode cX8_back 38 = .ok (.istore_n 1, 1) := dk_60 (dk_at dksX8_back_1 14 rfl rfl)
theorem dX8_back_39 : decode cX8_back 39 = .ok (.iload_n 1, 1) := dk_27 (dk_at dksX8_back_1 15 rfl rfl)
theorem dX8_back_40 : decode cX8_back 40 = .ok (.bipush 18, 2) := dk_16 18 (dk_at dksX8_back_1 16 rfl rfl)
theorem dX8_back_42 : decode cX8_back 42 = .ok (.if_icmp .ge 21, 3) := dk_162 0 21 (dk_at dksX8_back_1 18 rfl rfl)
theorem dX8_back_45 : decode cX8_back 45 = .ok (.aload_n 0, 1) := dk_42 (dk_at dksX8_back_1 21 rfl rfl)
theorem dX8_back_46 : decode cX8_back 46 = .ok (.getfield 32, 3) := dk_180 0 32 (dk_at dksX8_back_2 0 rfl rfl)
theorem dX8_back_49 : decode cX8_back 49 = .ok (.iload_n 1, 1) := dk_27 (dk_at dksX8_back_2 3 rfl rfl)
theorem dX8_back_50 : decode cX8_back 50 = .ok (.aload_n 0, 1) := dk_42 (dk_at dksX8_back_2 4 rfl rfl)
theorem dX8_back_51 : decode cX8_back 51 = .ok (.getfield 50, 3) := dk_180 0 50 (dk_at dksX8_back_2 5 rfl rfl)
theorem dX8_back_54 : decode cX8_back 54 = .ok (.iload_n 1, 1) := dk_27 (dk_at dksX8_back_2 8 rfl rfl)
theorem dX8_back_55 : decode cX8_back 55 = .ok (.iaload, 1) := dk_46 (dk_at dksX8_back_2 9 rfl rfl)
theorem dX8_back_56 : decode cX8_back 56 = .ok (.iastore, 1) := dk_79 (dk_at dksX8_back_2 10 rfl rfl)
theorem dX8_back_57 : decode cX8_back 57 = .ok (.iinc 1 1, 3) := dk_132 1 1 (dk_at dksX8_back_2 11 rfl rfl)
theorem dX8_back_60 : decode cX8_back 60 = .ok (.goto (-21), 3) := dk_167 255 235 (dk_at dksX8_back_2 14 rfl rfl)
theorem dX8_back_63 : decode cX8_back 63 = .ok (.aload_n 0, 1) := dk_42 (dk_at dksX8_back_2 17 rfl rfl)
theorem dX8_back_64 : decode cX8_back 64 = .ok (.invokevirtual 69, 3) := dk_182 0 69 (dk_at dksX8_back_2 18 rfl rfl)
theorem dX8_back_67 : decode cX8_back 67 = .ok (.aload_n 0, 1) := dk_42 (dk_at dksX8_back_2 21 rfl rfl)
theorem dX8_back_68 : decode cX8_back 68 = .ok (.aload_n 0, 1) := dk_42 (dk_at dksX8_back_2 22 rfl rfl)
theorem dX8_back_69 : decode cX8_back 69 = .ok (.getfield 53, 3) := dk_180 0 53 (dk_at dksX8_back_3 0 rfl rfl)
theorem dX8_back_72 : decode cX8_back 72 = .ok (.putfield 79, 3) := dk_181 0 79 (dk_at dksX8_back_3 3 rfl rfl)
theorem dX8_back_75 : decode cX8_back 75 = .ok (.aload_n 0, 1) := dk_42 (dk_at dksX8_back_3 6 rfl rfl)
theorem dX8_back_76 : decode cX8_back 76 = .ok (.aload_n 0, 1) := dk_42 (dk_at dksX8_back_3 7 rfl rfl)
theorem dX8_back_77 : decode cX8_back 77 = .ok (.getfield 447, 3) := dk_180 1 191 (dk_at dksX8_back_3 8 rfl rfl)
theorem dX8_back_80 : decode cX8_back 80 = .ok (.putfield 23, 3) := dk_181 0 23 (dk_at dksX8_back_3 11 rfl rfl)
theorem dX8_back_83 : decode cX8_back 83 = .ok (.aload_n 0, 1) := dk_42 (dk_at dksX8_back_3 14 rfl rfl)
theorem dX8_back_84 : decode cX8_back 84 = .ok (.aload_n 0, 1) := dk_42 (dk_at dksX8_back_3 15 rfl rfl)
theorem dX8_back_85 : decode cX8_back 85 = .ok (.getfield 450, 3) := dk_180 1 194 (dk_at dksX8_back_3 16 rfl rfl)
theorem dX8_back_88 : decode cX8_back 88 = .ok (.putfield 106, 3) := dk_181 0 106 (dk_at dksX8_back_3 19 rfl rfl)
theorem dX8_back_91 : decode cX8_back 91 = .ok (.aload_n 0, 1) := dk_42 (dk_at dksX8_back_3 22 rfl rfl)
theorem dX8_back_92 : decode cX8_back 92 = .ok (.getfield 79, 3) := dk_180 0 79 (dk_at dksX8_back_4 0 rfl rfl)
theorem dX8_back_95 : decode cX8_back 95 = .ok (.ireturn, 1) := dk_172 (dk_at dksX8_back_4 3 rfl rfl)
abbrev cX8_count : ByteArray := prog_16_method_103_code
def yX8_count : MethodName := ⟨RX8, "count", "(I)I"⟩
def dkwX8_count_6 : List UInt8 := [180, 0, 79, 167, 0, 4, 28, 172]
abbrev dktX8_count_6 : List UInt8 := dkwX8_count_6 ++ []
def dkwX8_count_5 : List UInt8 := [180, 0, 32, 6, 29, 104, 5, 96, 46, 96, 61, 132, 3, 1, 167, 255, 227, 27, 154, 0, 10, 42]
abbrev dktX8_count_5 : List UInt8 := dkwX8_count_5 ++ dktX8_count_6
def dkwX8_count_4 : List UInt8 := [132, 3, 1, 167, 255, 214, 3, 62, 29, 42, 180, 0, 79, 162, 0, 27, 27, 5, 160, 0, 22, 28, 42]
abbrev dktX8_count_4 : List UInt8 := dkwX8_count_4 ++ dktX8_count_5
def dkwX8_count_3 : List UInt8 := [29, 46, 158, 0, 18, 29, 16, 8, 108, 29, 16, 8, 112, 162, 0, 7, 4, 167, 0, 4, 3, 96, 61]
abbrev dktX8_count_3 : List UInt8 := dkwX8_count_3 ++ dktX8_count_4
def dkwX8_count_2 : List UInt8 := [180, 0, 106, 172, 3, 61, 3, 62, 29, 16, 64, 162, 0, 42, 27, 4, 160, 0, 37, 28, 42, 180, 0, 26]
abbrev dktX8_count_2 : List UInt8 := dkwX8_count_2 ++ dktX8_count_3
def dkwX8_count_1 : List UInt8 := [160, 0, 10, 42, 180, 0, 76, 167, 0, 19, 27, 7, 160, 0, 10, 42, 180, 0, 126, 167, 0, 7, 42]
abbrev dktX8_count_1 : List UInt8 := dkwX8_count_1 ++ dktX8_count_2
def dkwX8_count_0 : List UInt8 := [27, 133, 9, 20, 0, 117, 184, 0, 82, 154, 0, 6, 16, 254, 172, 27, 5, 164, 0, 32, 27, 6]
abbrev dktX8_count_0 : List UInt8 := dkwX8_count_0 ++ dktX8_count_1
theorem dksX8_count_0 : cX8_count.data.toList.drop 0 = dktX8_count_0 := by decide +kernel
theorem dksX8_count_1 : cX8_count.data.toList.drop 22 = dktX8_count_1 := dk_seg dksX8_count_0 22 rfl rfl
theorem dksX8_count_2 : cX8_count.data.toList.drop 45 = dktX8_count_2 := dk_seg dksX8_count_1 23 rfl rfl
theorem dksX8_count_3 : cX8_count.data.toList.drop 69 = dktX8_count_3 := dk_seg dksX8_count_2 24 rfl rfl
theorem dksX8_count_4 : cX8_count.data.toList.drop 92 = dktX8_count_4 := dk_seg dksX8_count_3 23 rfl rfl
theorem dksX8_count_5 : cX8_count.data.toList.drop 115 = dktX8_count_5 := dk_seg dksX8_count_4 23 rfl rfl
theorem dksX8_count_6 : cX8_count.data.toList.drop 137 = dktX8_count_6 := dk_seg dksX8_count_5 22 rfl rfl
theorem dX8_count_0 : decode cX8_count 0 = .ok (.iload_n 1, 1) := dk_27 (dk_at dksX8_count_0 0 rfl rfl)
theorem dX8_count_1 : decode cX8_count 1 = .ok (.i2l, 1) := dk_133 (dk_at dksX8_count_0 1 rfl rfl)
theorem dX8_count_2 : decode cX8_count 2 = .ok (.lconst 0, 1) := dk_9 (dk_at dksX8_count_0 2 rfl rfl)
theorem dX8_count_3 : decode cX8_count 3 = .ok (.ldc2_w 117, 3) := dk_20 0 117 (dk_at dksX8_count_0 3 rfl rfl)
theorem dX8_count_6 : decode cX8_count 6 = .ok (.invokestatic 82, 3) := dk_184 0 82 (dk_at dksX8_count_0 6 rfl rfl)
theorem dX8_count_9 : decode cX8_count 9 = .ok (.ifCond .ne 6, 3) := dk_154 0 6 (dk_at dksX8_count_0 9 rfl rfl)
theorem dX8_count_12 : decode cX8_count 12 = .ok (.bipush (-2), 2) := dk_16 254 (dk_at dksX8_count_0 12 rfl rfl)
theorem dX8_count_14 : decode cX8_count 14 = .ok (.ireturn, 1) := dk_172 (dk_at dksX8_count_0 14 rfl rfl)
theorem dX8_count_15 : decode cX8_count 15 = .ok (.iload_n 1, 1) := dk_27 (dk_at dksX8_count_0 15 rfl rfl)
theorem dX8_count_16 : decode cX8_count 16 = .ok (.iconst 2, 1) := dk_5 (dk_at dksX8_count_0 16 rfl rfl)
theorem dX8_count_17 : decode cX8_count 17 = .ok (.if_icmp .le 32, 3) := dk_164 0 32 (dk_at dksX8_count_0 17 rfl rfl)
theorem dX8_count_20 : decode cX8_count 20 = .ok (.iload_n 1, 1) := dk_27 (dk_at dksX8_count_0 20 rfl rfl)
theorem dX8_count_21 : decode cX8_count 21 = .ok (.iconst 3, 1) := dk_6 (dk_at dksX8_count_0 21 rfl rfl)
theorem dX8_count_22 : decode cX8_count 22 = .ok (.if_icmp .ne 10, 3) := dk_160 0 10 (dk_at dksX8_count_1 0 rfl rfl)
theorem dX8_count_25 : decode cX8_count 25 = .ok (.aload_n 0, 1) := dk_42 (dk_at dksX8_count_1 3 rfl rfl)
theorem dX8_count_26 : decode cX8_count 26 = .ok (.getfield 76, 3) := dk_180 0 76 (dk_at dksX8_count_1 4 rfl rfl)
theorem dX8_count_29 : decode cX8_count 29 = .ok (.goto 19, 3) := dk_167 0 19 (dk_at dksX8_count_1 7 rfl rfl)
theorem dX8_count_32 : decode cX8_count 32 = .ok (.iload_n 1, 1) := dk_27 (dk_at dksX8_count_1 10 rfl rfl)
theorem dX8_count_33 : decode cX8_count 33 = .ok (.iconst 4, 1) := dk_7 (dk_at dksX8_count_1 11 rfl rfl)
theorem dX8_count_34 : decode cX8_count 34 = .ok (.if_icmp .ne 10, 3) := dk_160 0 10 (dk_at dksX8_count_1 12 rfl rfl)
theorem dX8_count_37 : decode cX8_count 37 = .ok (.aload_n 0, 1) := dk_42 (dk_at dksX8_count_1 15 rfl rfl)
theorem dX8_count_38 : decode cX8_count 38 = .ok (.getfield 126, 3) := dk_180 0 126 (dk_at dksX8_count_1 16 rfl rfl)
theorem dX8_count_41 : decode cX8_count 41 = .ok (.goto 7, 3) := dk_167 0 7 (dk_at dksX8_count_1 19 rfl rfl)
theorem dX8_count_44 : decode cX8_count 44 = .ok (.aload_n 0, 1) := dk_42 (dk_at dksX8_count_1 22 rfl rfl)
theorem dX8_count_45 : decode cX8_count 45 = .ok (.getfield 106, 3) := dk_180 0 106 (dk_at dksX8_count_2 0 rfl rfl)
theorem dX8_count_48 : decode cX8_count 48 = .ok (.ireturn, 1) := dk_172 (dk_at dksX8_count_2 3 rfl rfl)
theorem dX8_count_49 : decode cX8_count 49 = .ok (.iconst 0, 1) := dk_3 (dk_at dksX8_count_2 4 rfl rfl)
theorem dX8_count_50 : decode cX8_count 50 = .ok (.istore_n 2, 1) := dk_61 (dk_at dksX8_count_2 5 rfl rfl)
theorem dX8_count_51 : decode cX8_count 51 = .ok (.iconst 0, 1) := dk_3 (dk_at dksX8_count_2 6 rfl rfl)
theorem dX8_count_52 : decode cX8_count 52 = .ok (.istore_n 3, 1) := dk_62 (dk_at dksX8_count_2 7 rfl rfl)
theorem dX8_count_53 : decode cX8_count 53 = .ok (.iload_n 3, 1) := dk_29 (dk_at dksX8_count_2 8 rfl rfl)
theorem dX8_count_54 : decode cX8_count 54 = .ok (.bipush 64, 2) := dk_16 64 (dk_at dksX8_count_2 9 rfl rfl)
theorem dX8_count_56 : decode cX8_count 56 = .ok (.if_icmp .ge 42, 3) := dk_162 0 42 (dk_at dksX8_count_2 11 rfl rfl)
theorem dX8_count_59 : decode cX8_count 59 = .ok (.iload_n 1, 1) := dk_27 (dk_at dksX8_count_2 14 rfl rfl)
theorem dX8_count_60 : decode cX8_count 60 = .ok (.iconst 1, 1) := dk_4 (dk_at dksX8_count_2 15 rfl rfl)
theorem dX8_count_61 : decode cX8_count 61 = .ok (.if_icmp .ne 37, 3) := dk_160 0 37 (dk_at dksX8_count_2 16 rfl rfl)
theorem dX8_count_64 : decode cX8_count 64 = .ok (.iload_n 2, 1) := dk_28 (dk_at dksX8_count_2 19 rfl rfl)
theorem dX8_count_65 : decode cX8_count 65 = .ok (.aload_n 0, 1) := dk_42 (dk_at dksX8_count_2 20 rfl rfl)
theorem dX8_count_66 : decode cX8_count 66 = .ok (.getfield 26, 3) := dk_180 0 26 (dk_at dksX8_count_2 21 rfl rfl)
theorem dX8_count_69 : decode cX8_count 69 = .ok (.iload_n 3, 1) := dk_29 (dk_at dksX8_count_3 0 rfl rfl)
theorem dX8_count_70 : decode cX8_count 70 = .ok (.iaload, 1) := dk_46 (dk_at dksX8_count_3 1 rfl rfl)
theorem dX8_count_71 : decode cX8_count 71 = .ok (.ifCond .le 18, 3) := dk_158 0 18 (dk_at dksX8_count_3 2 rfl rfl)
theorem dX8_count_74 : decode cX8_count 74 = .ok (.iload_n 3, 1) := dk_29 (dk_at dksX8_count_3 5 rfl rfl)
theorem dX8_count_75 : decode cX8_count 75 = .ok (.bipush 8, 2) := dk_16 8 (dk_at dksX8_count_3 6 rfl rfl)
theorem dX8_count_77 : decode cX8_count 77 = .ok (.idiv, 1) := dk_108 (dk_at dksX8_count_3 8 rfl rfl)
theorem dX8_count_78 : decode cX8_count 78 = .ok (.iload_n 3, 1) := dk_29 (dk_at dksX8_count_3 9 rfl rfl)
theorem dX8_count_79 : decode cX8_count 79 = .ok (.bipush 8, 2) := dk_16 8 (dk_at dksX8_count_3 10 rfl rfl)
theorem dX8_count_81 : decode cX8_count 81 = .ok (.irem, 1) := dk_112 (dk_at dksX8_count_3 12 rfl rfl)
theorem dX8_count_82 : decode cX8_count 82 = .ok (.if_icmp .ge 7, 3) := dk_162 0 7 (dk_at dksX8_count_3 13 rfl rfl)
theorem dX8_count_85 : decode cX8_count 85 = .ok (.iconst 1, 1) := dk_4 (dk_at dksX8_count_3 16 rfl rfl)
theorem dX8_count_86 : decode cX8_count 86 = .ok (.goto 4, 3) := dk_167 0 4 (dk_at dksX8_count_3 17 rfl rfl)
theorem dX8_count_89 : decode cX8_count 89 = .ok (.iconst 0, 1) := dk_3 (dk_at dksX8_count_3 20 rfl rfl)
theorem dX8_count_90 : decode cX8_count 90 = .ok (.iadd, 1) := dk_96 (dk_at dksX8_count_3 21 rfl rfl)
theorem dX8_count_91 : decode cX8_count 91 = .ok (.istore_n 2, 1) := dk_61 (dk_at dksX8_count_3 22 rfl rfl)
theorem dX8_count_92 : decode cX8_count 92 = .ok (.iinc 3 1, 3) := dk_132 3 1 (dk_at dksX8_count_4 0 rfl rfl)
theorem dX8_count_95 : decode cX8_count 95 = .ok (.goto (-42), 3) := dk_167 255 214 (dk_at dksX8_count_4 3 rfl rfl)
theorem dX8_count_98 : decode cX8_count 98 = .ok (.iconst 0, 1) := dk_3 (dk_at dksX8_count_4 6 rfl rfl)
theorem dX8_count_99 : decode cX8_count 99 = .ok (.istore_n 3, 1) := dk_62 (dk_at dksX8_count_4 7 rfl rfl)
theorem dX8_count_100 : decode cX8_count 100 = .ok (.iload_n 3, 1) := dk_29 (dk_at dksX8_count_4 8 rfl rfl)
theorem dX8_count_101 : decode cX8_count 101 = .ok (.aload_n 0, 1) := dk_42 (dk_at dksX8_count_4 9 rfl rfl)
theorem dX8_count_102 : decode cX8_count 102 = .ok (.getfield 79, 3) := dk_180 0 79 (dk_at dksX8_count_4 10 rfl rfl)
theorem dX8_count_105 : decode cX8_count 105 = .ok (.if_icmp .ge 27, 3) := dk_162 0 27 (dk_at dksX8_count_4 13 rfl rfl)
theorem dX8_count_108 : decode cX8_count 108 = .ok (.iload_n 1, 1) := dk_27 (dk_at dksX8_count_4 16 rfl rfl)
theorem dX8_count_109 : decode cX8_count 109 = .ok (.iconst 2, 1) := dk_5 (dk_at dksX8_count_4 17 rfl rfl)
theorem dX8_count_110 : decode cX8_count 110 = .ok (.if_icmp .ne 22, 3) := dk_160 0 22 (dk_at dksX8_count_4 18 rfl rfl)
theorem dX8_count_113 : decode cX8_count 113 = .ok (.iload_n 2, 1) := dk_28 (dk_at dksX8_count_4 21 rfl rfl)
theorem dX8_count_114 : decode cX8_count 114 = .ok (.aload_n 0, 1) := dk_42 (dk_at dksX8_count_4 22 rfl rfl)
theorem dX8_count_115 : decode cX8_count 115 = .ok (.getfield 32, 3) := dk_180 0 32 (dk_at dksX8_count_5 0 rfl rfl)
theorem dX8_count_118 : decode cX8_count 118 = .ok (.iconst 3, 1) := dk_6 (dk_at dksX8_count_5 3 rfl rfl)
theorem dX8_count_119 : decode cX8_count 119 = .ok (.iload_n 3, 1) := dk_29 (dk_at dksX8_count_5 4 rfl rfl)
theorem dX8_count_120 : decode cX8_count 120 = .ok (.imul, 1) := dk_104 (dk_at dksX8_count_5 5 rfl rfl)
theorem dX8_count_121 : decode cX8_count 121 = .ok (.iconst 2, 1) := dk_5 (dk_at dksX8_count_5 6 rfl rfl)
theorem dX8_count_122 : decode cX8_count 122 = .ok (.iadd, 1) := dk_96 (dk_at dksX8_count_5 7 rfl rfl)
theorem dX8_count_123 : decode cX8_count 123 = .ok (.iaload, 1) := dk_46 (dk_at dksX8_count_5 8 rfl rfl)
theorem dX8_count_124 : decode cX8_count 124 = .ok (.iadd, 1) := dk_96 (dk_at dksX8_count_5 9 rfl rfl)
theorem dX8_count_125 : decode cX8_count 125 = .ok (.istore_n 2, 1) := dk_61 (dk_at dksX8_count_5 10 rfl rfl)
theorem dX8_count_126 : decode cX8_count 126 = .ok (.iinc 3 1, 3) := dk_132 3 1 (dk_at dksX8_count_5 11 rfl rfl)
theorem dX8_count_129 : decode cX8_count 129 = .ok (.goto (-29), 3) := dk_167 255 227 (dk_at dksX8_count_5 14 rfl rfl)
theorem dX8_count_132 : decode cX8_count 132 = .ok (.iload_n 1, 1) := dk_27 (dk_at dksX8_count_5 17 rfl rfl)
theorem dX8_count_133 : decode cX8_count 133 = .ok (.ifCond .ne 10, 3) := dk_154 0 10 (dk_at dksX8_count_5 18 rfl rfl)
theorem dX8_count_136 : decode cX8_count 136 = .ok (.aload_n 0, 1) := dk_42 (dk_at dksX8_count_5 21 rfl rfl)
theorem dX8_count_137 : decode cX8_count 137 = .ok (.getfield 79, 3) := dk_180 0 79 (dk_at dksX8_count_6 0 rfl rfl)
theorem dX8_count_140 : decode cX8_count 140 = .ok (.goto 4, 3) := dk_167 0 4 (dk_at dksX8_count_6 3 rfl rfl)
theorem dX8_count_143 : decode cX8_count 143 = .ok (.iload_n 2, 1) := dk_28 (dk_at dksX8_count_6 6 rfl rfl)
theorem dX8_count_144 : decode cX8_count 144 = .ok (.ireturn, 1) := dk_172 (dk_at dksX8_count_6 7 rfl rfl)
abbrev cX8_cell : ByteArray := prog_16_method_106_code
def yX8_cell : MethodName := ⟨RX8, "cell", "(III)I"⟩
def dkwX8_cell_3 : List UInt8 := [27, 46, 4, 160, 0, 8, 29, 147, 167, 0, 4, 29, 79, 4, 172]
abbrev dktX8_cell_3 : List UInt8 := dkwX8_cell_3 ++ []
def dkwX8_cell_2 : List UInt8 := [16, 40, 27, 104, 28, 96, 42, 180, 0, 60, 27, 46, 154, 0, 8, 29, 145, 167, 0, 19, 42, 180, 0, 60]
abbrev dktX8_cell_2 : List UInt8 := dkwX8_cell_2 ++ dktX8_cell_3
def dkwX8_cell_1 : List UInt8 := [9, 42, 180, 0, 63, 27, 46, 4, 100, 133, 184, 0, 82, 154, 0, 6, 16, 244, 172, 42, 180, 0, 66]
abbrev dktX8_cell_1 : List UInt8 := dkwX8_cell_1 ++ dktX8_cell_2
def dkwX8_cell_0 : List UInt8 := [27, 184, 1, 165, 154, 0, 6, 16, 254, 172, 42, 180, 0, 56, 27, 51, 154, 0, 6, 16, 245, 172, 28, 133]
abbrev dktX8_cell_0 : List UInt8 := dkwX8_cell_0 ++ dktX8_cell_1
theorem dksX8_cell_0 : cX8_cell.data.toList.drop 0 = dktX8_cell_0 := by decide +kernel
theorem dksX8_cell_1 : cX8_cell.data.toList.drop 24 = dktX8_cell_1 := dk_seg dksX8_cell_0 24 rfl rfl
theorem dksX8_cell_2 : cX8_cell.data.toList.drop 47 = dktX8_cell_2 := dk_seg dksX8_cell_1 23 rfl rfl
theorem dksX8_cell_3 : cX8_cell.data.toList.drop 71 = dktX8_cell_3 := dk_seg dksX8_cell_2 24 rfl rfl
theorem dX8_cell_0 : decode cX8_cell 0 = .ok (.iload_n 1, 1) := dk_27 (dk_at dksX8_cell_0 0 rfl rfl)
theorem dX8_cell_1 : decode cX8_cell 1 = .ok (.invokestatic 421, 3) := dk_184 1 165 (dk_at dksX8_cell_0 1 rfl rfl)
theorem dX8_cell_4 : decode cX8_cell 4 = .ok (.ifCond .ne 6, 3) := dk_154 0 6 (dk_at dksX8_cell_0 4 rfl rfl)
theorem dX8_cell_7 : decode cX8_cell 7 = .ok (.bipush (-2), 2) := dk_16 254 (dk_at dksX8_cell_0 7 rfl rfl)
theorem dX8_cell_9 : decode cX8_cell 9 = .ok (.ireturn, 1) := dk_172 (dk_at dksX8_cell_0 9 rfl rfl)
theorem dX8_cell_10 : decode cX8_cell 10 = .ok (.aload_n 0, 1) := dk_42 (dk_at dksX8_cell_0 10 rfl rfl)
theorem dX8_cell_11 : decode cX8_cell 11 = .ok (.getfield 56, 3) := dk_180 0 56 (dk_at dksX8_cell_0 11 rfl rfl)
theorem dX8_cell_14 : decode cX8_cell 14 = .ok (.iload_n 1, 1) := dk_27 (dk_at dksX8_cell_0 14 rfl rfl)
theorem dX8_cell_15 : decode cX8_cell 15 = .ok (.baload, 1) := dk_51 (dk_at dksX8_cell_0 15 rfl rfl)
theorem dX8_cell_16 : decode cX8_cell 16 = .ok (.ifCond .ne 6, 3) := dk_154 0 6 (dk_at dksX8_cell_0 16 rfl rfl)
theorem dX8_cell_19 : decode cX8_cell 19 = .ok (.bipush (-11), 2) := dk_16 245 (dk_at dksX8_cell_0 19 rfl rfl)
theorem dX8_cell_21 : decode cX8_cell 21 = .ok (.ireturn, 1) := dk_172 (dk_at dksX8_cell_0 21 rfl rfl)
theorem dX8_cell_22 : decode cX8_cell 22 = .ok (.iload_n 2, 1) := dk_28 (dk_at dksX8_cell_0 22 rfl rfl)
theorem dX8_cell_23 : decode cX8_cell 23 = .ok (.i2l, 1) := dk_133 (dk_at dksX8_cell_0 23 rfl rfl)
theorem dX8_cell_24 : decode cX8_cell 24 = .ok (.lconst 0, 1) := dk_9 (dk_at dksX8_cell_1 0 rfl rfl)
theorem dX8_cell_25 : decode cX8_cell 25 = .ok (.aload_n 0, 1) := dk_42 (dk_at dksX8_cell_1 1 rfl rfl)
theorem dX8_cell_26 : decode cX8_cell 26 = .ok (.getfield 63, 3) := dk_180 0 63 (dk_at dksX8_cell_1 2 rfl rfl)
theorem dX8_cell_29 : decode cX8_cell 29 = .ok (.iload_n 1, 1) := dk_27 (dk_at dksX8_cell_1 5 rfl rfl)
theorem dX8_cell_30 : decode cX8_cell 30 = .ok (.iaload, 1) := dk_46 (dk_at dksX8_cell_1 6 rfl rfl)
theorem dX8_cell_31 : decode cX8_cell 31 = .ok (.iconst 1, 1) := dk_4 (dk_at dksX8_cell_1 7 rfl rfl)
theorem dX8_cell_32 : decode cX8_cell 32 = .ok (.isub, 1) := dk_100 (dk_at dksX8_cell_1 8 rfl rfl)
theorem dX8_cell_33 : decode cX8_cell 33 = .ok (.i2l, 1) := dk_133 (dk_at dksX8_cell_1 9 rfl rfl)
theorem dX8_cell_34 : decode cX8_cell 34 = .ok (.invokestatic 82, 3) := dk_184 0 82 (dk_at dksX8_cell_1 10 rfl rfl)
theorem dX8_cell_37 : decode cX8_cell 37 = .ok (.ifCond .ne 6, 3) := dk_154 0 6 (dk_at dksX8_cell_1 13 rfl rfl)
theorem dX8_cell_40 : decode cX8_cell 40 = .ok (.bipush (-12), 2) := dk_16 244 (dk_at dksX8_cell_1 16 rfl rfl)
theorem dX8_cell_42 : decode cX8_cell 42 = .ok (.ireturn, 1) := dk_172 (dk_at dksX8_cell_1 18 rfl rfl)
theorem dX8_cell_43 : decode cX8_cell 43 = .ok (.aload_n 0, 1) := dk_42 (dk_at dksX8_cell_1 19 rfl rfl)
theorem dX8_cell_44 : decode cX8_cell 44 = .ok (.getfield 66, 3) := dk_180 0 66 (dk_at dksX8_cell_1 20 rfl rfl)
theorem dX8_cell_47 : decode cX8_cell 47 = .ok (.bipush 40, 2) := dk_16 40 (dk_at dksX8_cell_2 0 rfl rfl)
theorem dX8_cell_49 : decode cX8_cell 49 = .ok (.iload_n 1, 1) := dk_27 (dk_at dksX8_cell_2 2 rfl rfl)
theorem dX8_cell_50 : decode cX8_cell 50 = .ok (.imul, 1) := dk_104 (dk_at dksX8_cell_2 3 rfl rfl)
theorem dX8_cell_51 : decode cX8_cell 51 = .ok (.iload_n 2, 1) := dk_28 (dk_at dksX8_cell_2 4 rfl rfl)
theorem dX8_cell_52 : decode cX8_cell 52 = .ok (.iadd, 1) := dk_96 (dk_at dksX8_cell_2 5 rfl rfl)
theorem dX8_cell_53 : decode cX8_cell 53 = .ok (.aload_n 0, 1) := dk_42 (dk_at dksX8_cell_2 6 rfl rfl)
theorem dX8_cell_54 : decode cX8_cell 54 = .ok (.getfield 60, 3) := dk_180 0 60 (dk_at dksX8_cell_2 7 rfl rfl)
theorem dX8_cell_57 : decode cX8_cell 57 = .ok (.iload_n 1, 1) := dk_27 (dk_at dksX8_cell_2 10 rfl rfl)
theorem dX8_cell_58 : decode cX8_cell 58 = .ok (.iaload, 1) := dk_46 (dk_at dksX8_cell_2 11 rfl rfl)
theorem dX8_cell_59 : decode cX8_cell 59 = .ok (.ifCond .ne 8, 3) := dk_154 0 8 (dk_at dksX8_cell_2 12 rfl rfl)
theorem dX8_cell_62 : decode cX8_cell 62 = .ok (.iload_n 3, 1) := dk_29 (dk_at dksX8_cell_2 15 rfl rfl)
theorem dX8_cell_63 : decode cX8_cell 63 = .ok (.i2b, 1) := dk_145 (dk_at dksX8_cell_2 16 rfl rfl)
theorem dX8_cell_64 : decode cX8_cell 64 = .ok (.goto 19, 3) := dk_167 0 19 (dk_at dksX8_cell_2 17 rfl rfl)
theorem dX8_cell_67 : decode cX8_cell 67 = .ok (.aload_n 0, 1) := dk_42 (dk_at dksX8_cell_2 20 rfl rfl)
theorem dX8_cell_68 : decode cX8_cell 68 = .ok (.getfield 60, 3) := dk_180 0 60 (dk_at dksX8_cell_2 21 rfl rfl)
theorem dX8_cell_71 : decode cX8_cell 71 = .ok (.iload_n 1, 1) := dk_27 (dk_at dksX8_cell_3 0 rfl rfl)
theorem dX8_cell_72 : decode cX8_cell 72 = .ok (.iaload, 1) := dk_46 (dk_at dksX8_cell_3 1 rfl rfl)
theorem dX8_cell_73 : decode cX8_cell 73 = .ok (.iconst 1, 1) := dk_4 (dk_at dksX8_cell_3 2 rfl rfl)
theorem dX8_cell_74 : decode cX8_cell 74 = .ok (.if_icmp .ne 8, 3) := dk_160 0 8 (dk_at dksX8_cell_3 3 rfl rfl)
theorem dX8_cell_77 : decode cX8_cell 77 = .ok (.iload_n 3, 1) := dk_29 (dk_at dksX8_cell_3 6 rfl rfl)
theorem dX8_cell_78 : decode cX8_cell 78 = .ok (.i2s, 1) := dk_147 (dk_at dksX8_cell_3 7 rfl rfl)
theorem dX8_cell_79 : decode cX8_cell 79 = .ok (.goto 4, 3) := dk_167 0 4 (dk_at dksX8_cell_3 8 rfl rfl)
theorem dX8_cell_82 : decode cX8_cell 82 = .ok (.iload_n 3, 1) := dk_29 (dk_at dksX8_cell_3 11 rfl rfl)
theorem dX8_cell_83 : decode cX8_cell 83 = .ok (.iastore, 1) := dk_79 (dk_at dksX8_cell_3 12 rfl rfl)
theorem dX8_cell_84 : decode cX8_cell 84 = .ok (.iconst 1, 1) := dk_4 (dk_at dksX8_cell_3 13 rfl rfl)
theorem dX8_cell_85 : decode cX8_cell 85 = .ok (.ireturn, 1) := dk_172 (dk_at dksX8_cell_3 14 rfl rfl)
abbrev cX8_copy : ByteArray := prog_16_method_107_code
def yX8_copy : MethodName := ⟨RX8, "copy", "(IIIII)I"⟩
def dkwX8_copy_7 : List UInt8 := [180, 0, 66, 16, 40, 27, 104, 28, 96, 21, 8, 96, 46, 79, 132, 7, 1, 167, 255, 198, 21, 5, 172]
abbrev dktX8_copy_7 : List UInt8 := dkwX8_copy_7 ++ []
def dkwX8_copy_6 : List UInt8 := [100, 167, 0, 5, 21, 7, 54, 8, 42, 180, 0, 66, 16, 40, 29, 104, 21, 4, 96, 21, 8, 96, 42]
abbrev dktX8_copy_6 : List UInt8 := dkwX8_copy_6 ++ dktX8_copy_7
def dkwX8_copy_5 : List UInt8 := [3, 54, 6, 3, 54, 7, 21, 7, 21, 5, 162, 0, 57, 21, 6, 153, 0, 13, 21, 5, 4, 100, 21, 7]
abbrev dktX8_copy_5 : List UInt8 := dkwX8_copy_5 ++ dktX8_copy_6
def dkwX8_copy_4 : List UInt8 := [21, 5, 100, 164, 0, 6, 16, 244, 172, 27, 29, 160, 0, 13, 28, 21, 4, 162, 0, 7, 4, 167, 0, 4]
abbrev dktX8_copy_4 : List UInt8 := dkwX8_copy_4 ++ dktX8_copy_5
def dkwX8_copy_3 : List UInt8 := [155, 0, 30, 28, 42, 180, 0, 63, 27, 46, 21, 5, 100, 163, 0, 17, 21, 4, 42, 180, 0, 63, 29, 46]
abbrev dktX8_copy_3 : List UInt8 := dkwX8_copy_3 ++ dktX8_copy_4
def dkwX8_copy_2 : List UInt8 := [180, 0, 60, 29, 46, 159, 0, 6, 16, 243, 172, 21, 5, 155, 0, 39, 28, 155, 0, 35, 21, 4]
abbrev dktX8_copy_2 : List UInt8 := dkwX8_copy_2 ++ dktX8_copy_3
def dkwX8_copy_1 : List UInt8 := [153, 0, 12, 42, 180, 0, 56, 29, 51, 154, 0, 6, 16, 245, 172, 42, 180, 0, 60, 27, 46, 42]
abbrev dktX8_copy_1 : List UInt8 := dkwX8_copy_1 ++ dktX8_copy_2
def dkwX8_copy_0 : List UInt8 := [27, 184, 1, 165, 153, 0, 10, 29, 184, 1, 165, 154, 0, 6, 16, 254, 172, 42, 180, 0, 56, 27, 51]
abbrev dktX8_copy_0 : List UInt8 := dkwX8_copy_0 ++ dktX8_copy_1
theorem dksX8_copy_0 : cX8_copy.data.toList.drop 0 = dktX8_copy_0 := by decide +kernel
theorem dksX8_copy_1 : cX8_copy.data.toList.drop 23 = dktX8_copy_1 := dk_seg dksX8_copy_0 23 rfl rfl
theorem dksX8_copy_2 : cX8_copy.data.toList.drop 45 = dktX8_copy_2 := dk_seg dksX8_copy_1 22 rfl rfl
theorem dksX8_copy_3 : cX8_copy.data.toList.drop 67 = dktX8_copy_3 := dk_seg dksX8_copy_2 22 rfl rfl
theorem dksX8_copy_4 : cX8_copy.data.toList.drop 91 = dktX8_copy_4 := dk_seg dksX8_copy_3 24 rfl rfl
theorem dksX8_copy_5 : cX8_copy.data.toList.drop 115 = dktX8_copy_5 := dk_seg dksX8_copy_4 24 rfl rfl
theorem dksX8_copy_6 : cX8_copy.data.toList.drop 139 = dktX8_copy_6 := dk_seg dksX8_copy_5 24 rfl rfl
theorem dksX8_copy_7 : cX8_copy.data.toList.drop 162 = dktX8_copy_7 := dk_seg dksX8_copy_6 23 rfl rfl
theorem dX8_copy_0 : decode cX8_copy 0 = .ok (.iload_n 1, 1) := dk_27 (dk_at dksX8_copy_0 0 rfl rfl)
theorem dX8_copy_1 : decode cX8_copy 1 = .ok (.invokestatic 421, 3) := dk_184 1 165 (dk_at dksX8_copy_0 1 rfl rfl)
theorem dX8_copy_4 : decode cX8_copy 4 = .ok (.ifCond .eq 10, 3) := dk_153 0 10 (dk_at dksX8_copy_0 4 rfl rfl)
theorem dX8_copy_7 : decode cX8_copy 7 = .ok (.iload_n 3, 1) := dk_29 (dk_at dksX8_copy_0 7 rfl rfl)
theorem dX8_copy_8 : decode cX8_copy 8 = .ok (.invokestatic 421, 3) := dk_184 1 165 (dk_at dksX8_copy_0 8 rfl rfl)
theorem dX8_copy_11 : decode cX8_copy 11 = .ok (.ifCond .ne 6, 3) := dk_154 0 6 (dk_at dksX8_copy_0 11 rfl rfl)
theorem dX8_copy_14 : decode cX8_copy 14 = .ok (.bipush (-2), 2) := dk_16 254 (dk_at dksX8_copy_0 14 rfl rfl)
theorem dX8_copy_16 : decode cX8_copy 16 = .ok (.ireturn, 1) := dk_172 (dk_at dksX8_copy_0 16 rfl rfl)
theorem dX8_copy_17 : decode cX8_copy 17 = .ok (.aload_n 0, 1) := dk_42 (dk_at dksX8_copy_0 17 rfl rfl)
theorem dX8_copy_18 : decode cX8_copy 18 = .ok (.getfield 56, 3) := dk_180 0 56 (dk_at dksX8_copy_0 18 rfl rfl)
theorem dX8_copy_21 : decode cX8_copy 21 = .ok (.iload_n 1, 1) := dk_27 (dk_at dksX8_copy_0 21 rfl rfl)
theorem dX8_copy_22 : decode cX8_copy 22 = .ok (.baload, 1) := dk_51 (dk_at dksX8_copy_0 22 rfl rfl)
theorem dX8_copy_23 : decode cX8_copy 23 = .ok (.ifCond .eq 12, 3) := dk_153 0 12 (dk_at dksX8_copy_1 0 rfl rfl)
theorem dX8_copy_26 : decode cX8_copy 26 = .ok (.aload_n 0, 1) := dk_42 (dk_at dksX8_copy_1 3 rfl rfl)
theorem dX8_copy_27 : decode cX8_copy 27 = .ok (.getfield 56, 3) := dk_180 0 56 (dk_at dksX8_copy_1 4 rfl rfl)
theorem dX8_copy_30 : decode cX8_copy 30 = .ok (.iload_n 3, 1) := dk_29 (dk_at dksX8_copy_1 7 rfl rfl)
theorem dX8_copy_31 : decode cX8_copy 31 = .ok (.baload, 1) := dk_51 (dk_at dksX8_copy_1 8 rfl rfl)
theorem dX8_copy_32 : decode cX8_copy 32 = .ok (.ifCond .ne 6, 3) := dk_154 0 6 (dk_at dksX8_copy_1 9 rfl rfl)
theorem dX8_copy_35 : decode cX8_copy 35 = .ok (.bipush (-11), 2) := dk_16 245 (dk_at dksX8_copy_1 12 rfl rfl)
theorem dX8_copy_37 : decode cX8_copy 37 = .ok (.ireturn, 1) := dk_172 (dk_at dksX8_copy_1 14 rfl rfl)
theorem dX8_copy_38 : decode cX8_copy 38 = .ok (.aload_n 0, 1) := dk_42 (dk_at dksX8_copy_1 15 rfl rfl)
theorem dX8_copy_39 : decode cX8_copy 39 = .ok (.getfield 60, 3) := dk_180 0 60 (dk_at dksX8_copy_1 16 rfl rfl)
theorem dX8_copy_42 : decode cX8_copy 42 = .ok (.iload_n 1, 1) := dk_27 (dk_at dksX8_copy_1 19 rfl rfl)
theorem dX8_copy_43 : decode cX8_copy 43 = .ok (.iaload, 1) := dk_46 (dk_at dksX8_copy_1 20 rfl rfl)
theorem dX8_copy_44 : decode cX8_copy 44 = .ok (.aload_n 0, 1) := dk_42 (dk_at dksX8_copy_1 21 rfl rfl)
theorem dX8_copy_45 : decode cX8_copy 45 = .ok (.getfield 60, 3) := dk_180 0 60 (dk_at dksX8_copy_2 0 rfl rfl)
theorem dX8_copy_48 : decode cX8_copy 48 = .ok (.iload_n 3, 1) := dk_29 (dk_at dksX8_copy_2 3 rfl rfl)
theorem dX8_copy_49 : decode cX8_copy 49 = .ok (.iaload, 1) := dk_46 (dk_at dksX8_copy_2 4 rfl rfl)
theorem dX8_copy_50 : decode cX8_copy 50 = .ok (.if_icmp .eq 6, 3) := dk_159 0 6 (dk_at dksX8_copy_2 5 rfl rfl)
theorem dX8_copy_53 : decode cX8_copy 53 = .ok (.bipush (-13), 2) := dk_16 243 (dk_at dksX8_copy_2 8 rfl rfl)
theorem dX8_copy_55 : decode cX8_copy 55 = .ok (.ireturn, 1) := dk_172 (dk_at dksX8_copy_2 10 rfl rfl)
theorem dX8_copy_56 : decode cX8_copy 56 = .ok (.iload 5, 2) := dk_21 5 (dk_at dksX8_copy_2 11 rfl rfl)
theorem dX8_copy_58 : decode cX8_copy 58 = .ok (.ifCond .lt 39, 3) := dk_155 0 39 (dk_at dksX8_copy_2 13 rfl rfl)
theorem dX8_copy_61 : decode cX8_copy 61 = .ok (.iload_n 2, 1) := dk_28 (dk_at dksX8_copy_2 16 rfl rfl)
theorem dX8_copy_62 : decode cX8_copy 62 = .ok (.ifCond .lt 35, 3) := dk_155 0 35 (dk_at dksX8_copy_2 17 rfl rfl)
theorem dX8_copy_65 : decode cX8_copy 65 = .ok (.iload 4, 2) := dk_21 4 (dk_at dksX8_copy_2 20 rfl rfl)
theorem dX8_copy_67 : decode cX8_copy 67 = .ok (.ifCond .lt 30, 3) := dk_155 0 30 (dk_at dksX8_copy_3 0 rfl rfl)
theorem dX8_copy_70 : decode cX8_copy 70 = .ok (.iload_n 2, 1) := dk_28 (dk_at dksX8_copy_3 3 rfl rfl)
theorem dX8_copy_71 : decode cX8_copy 71 = .ok (.aload_n 0, 1) := dk_42 (dk_at dksX8_copy_3 4 rfl rfl)
theorem dX8_copy_72 : decode cX8_copy 72 = .ok (.getfield 63, 3) := dk_180 0 63 (dk_at dksX8_copy_3 5 rfl rfl)
theorem dX8_copy_75 : decode cX8_copy 75 = .ok (.iload_n 1, 1) := dk_27 (dk_at dksX8_copy_3 8 rfl rfl)
theorem dX8_copy_76 : decode cX8_copy 76 = .ok (.iaload, 1) := dk_46 (dk_at dksX8_copy_3 9 rfl rfl)
theorem dX8_copy_77 : decode cX8_copy 77 = .ok (.iload 5, 2) := dk_21 5 (dk_at dksX8_copy_3 10 rfl rfl)
theorem dX8_copy_79 : decode cX8_copy 79 = .ok (.isub, 1) := dk_100 (dk_at dksX8_copy_3 12 rfl rfl)
theorem dX8_copy_80 : decode cX8_copy 80 = .ok (.if_icmp .gt 17, 3) := dk_163 0 17 (dk_at dksX8_copy_3 13 rfl rfl)
theorem dX8_copy_83 : decode cX8_copy 83 = .ok (.iload 4, 2) := dk_21 4 (dk_at dksX8_copy_3 16 rfl rfl)
theorem dX8_copy_85 : decode cX8_copy 85 = .ok (.aload_n 0, 1) := dk_42 (dk_at dksX8_copy_3 18 rfl rfl)
theorem dX8_copy_86 : decode cX8_copy 86 = .ok (.getfield 63, 3) := dk_180 0 63 (dk_at dksX8_copy_3 19 rfl rfl)
theorem dX8_copy_89 : decode cX8_copy 89 = .ok (.iload_n 3, 1) := dk_29 (dk_at dksX8_copy_3 22 rfl rfl)
theorem dX8_copy_90 : decode cX8_copy 90 = .ok (.iaload, 1) := dk_46 (dk_at dksX8_copy_3 23 rfl rfl)
theorem dX8_copy_91 : decode cX8_copy 91 = .ok (.iload 5, 2) := dk_21 5 (dk_at dksX8_copy_4 0 rfl rfl)
theorem dX8_copy_93 : decode cX8_copy 93 = .ok (.isub, 1) := dk_100 (dk_at dksX8_copy_4 2 rfl rfl)
theorem dX8_copy_94 : decode cX8_copy 94 = .ok (.if_icmp .le 6, 3) := dk_164 0 6 (dk_at dksX8_copy_4 3 rfl rfl)
theorem dX8_copy_97 : decode cX8_copy 97 = .ok (.bipush (-12), 2) := dk_16 244 (dk_at dksX8_copy_4 6 rfl rfl)
theorem dX8_copy_99 : decode cX8_copy 99 = .ok (.ireturn, 1) := dk_172 (dk_at dksX8_copy_4 8 rfl rfl)
theorem dX8_copy_100 : decode cX8_copy 100 = .ok (.iload_n 1, 1) := dk_27 (dk_at dksX8_copy_4 9 rfl rfl)
theorem dX8_copy_101 : decode cX8_copy 101 = .ok (.iload_n 3, 1) := dk_29 (dk_at dksX8_copy_4 10 rfl rfl)
theorem dX8_copy_102 : decode cX8_copy 102 = .ok (.if_icmp .ne 13, 3) := dk_160 0 13 (dk_at dksX8_copy_4 11 rfl rfl)
theorem dX8_copy_105 : decode cX8_copy 105 = .ok (.iload_n 2, 1) := dk_28 (dk_at dksX8_copy_4 14 rfl rfl)
theorem dX8_copy_106 : decode cX8_copy 106 = .ok (.iload 4, 2) := dk_21 4 (dk_at dksX8_copy_4 15 rfl rfl)
theorem dX8_copy_108 : decode cX8_copy 108 = .ok (.if_icmp .ge 7, 3) := dk_162 0 7 (dk_at dksX8_copy_4 17 rfl rfl)
theorem dX8_copy_111 : decode cX8_copy 111 = .ok (.iconst 1, 1) := dk_4 (dk_at dksX8_copy_4 20 rfl rfl)
theorem dX8_copy_112 : decode cX8_copy 112 = .ok (.goto 4, 3) := dk_167 0 4 (dk_at dksX8_copy_4 21 rfl rfl)
theorem dX8_copy_115 : decode cX8_copy 115 = .ok (.iconst 0, 1) := dk_3 (dk_at dksX8_copy_5 0 rfl rfl)
theorem dX8_copy_116 : decode cX8_copy 116 = .ok (.istore 6, 2) := dk_54 6 (dk_at dksX8_copy_5 1 rfl rfl)
theorem dX8_copy_118 : decode cX8_copy 118 = .ok (.iconst 0, 1) := dk_3 (dk_at dksX8_copy_5 3 rfl rfl)
theorem dX8_copy_119 : decode cX8_copy 119 = .ok (.istore 7, 2) := dk_54 7 (dk_at dksX8_copy_5 4 rfl rfl)
theorem dX8_copy_121 : decode cX8_copy 121 = .ok (.iload 7, 2) := dk_21 7 (dk_at dksX8_copy_5 6 rfl rfl)
theorem dX8_copy_123 : decode cX8_copy 123 = .ok (.iload 5, 2) := dk_21 5 (dk_at dksX8_copy_5 8 rfl rfl)
theorem dX8_copy_125 : decode cX8_copy 125 = .ok (.if_icmp .ge 57, 3) := dk_162 0 57 (dk_at dksX8_copy_5 10 rfl rfl)
theorem dX8_copy_128 : decode cX8_copy 128 = .ok (.iload 6, 2) := dk_21 6 (dk_at dksX8_copy_5 13 rfl rfl)
theorem dX8_copy_130 : decode cX8_copy 130 = .ok (.ifCond .eq 13, 3) := dk_153 0 13 (dk_at dksX8_copy_5 15 rfl rfl)
theorem dX8_copy_133 : decode cX8_copy 133 = .ok (.iload 5, 2) := dk_21 5 (dk_at dksX8_copy_5 18 rfl rfl)
theorem dX8_copy_135 : decode cX8_copy 135 = .ok (.iconst 1, 1) := dk_4 (dk_at dksX8_copy_5 20 rfl rfl)
theorem dX8_copy_136 : decode cX8_copy 136 = .ok (.isub, 1) := dk_100 (dk_at dksX8_copy_5 21 rfl rfl)
theorem dX8_copy_137 : decode cX8_copy 137 = .ok (.iload 7, 2) := dk_21 7 (dk_at dksX8_copy_5 22 rfl rfl)
theorem dX8_copy_139 : decode cX8_copy 139 = .ok (.isub, 1) := dk_100 (dk_at dksX8_copy_6 0 rfl rfl)
theorem dX8_copy_140 : decode cX8_copy 140 = .ok (.goto 5, 3) := dk_167 0 5 (dk_at dksX8_copy_6 1 rfl rfl)
theorem dX8_copy_143 : decode cX8_copy 143 = .ok (.iload 7, 2) := dk_21 7 (dk_at dksX8_copy_6 4 rfl rfl)
theorem dX8_copy_145 : decode cX8_copy 145 = .ok (.istore 8, 2) := dk_54 8 (dk_at dksX8_copy_6 6 rfl rfl)
theorem dX8_copy_147 : decode cX8_copy 147 = .ok (.aload_n 0, 1) := dk_42 (dk_at dksX8_copy_6 8 rfl rfl)
theorem dX8_copy_148 : decode cX8_copy 148 = .ok (.getfield 66, 3) := dk_180 0 66 (dk_at dksX8_copy_6 9 rfl rfl)
theorem dX8_copy_151 : decode cX8_copy 151 = .ok (.bipush 40, 2) := dk_16 40 (dk_at dksX8_copy_6 12 rfl rfl)
theorem dX8_copy_153 : decode cX8_copy 153 = .ok (.iload_n 3, 1) := dk_29 (dk_at dksX8_copy_6 14 rfl rfl)
theorem dX8_copy_154 : decode cX8_copy 154 = .ok (.imul, 1) := dk_104 (dk_at dksX8_copy_6 15 rfl rfl)
theorem dX8_copy_155 : decode cX8_copy 155 = .ok (.iload 4, 2) := dk_21 4 (dk_at dksX8_copy_6 16 rfl rfl)
theorem dX8_copy_157 : decode cX8_copy 157 = .ok (.iadd, 1) := dk_96 (dk_at dksX8_copy_6 18 rfl rfl)
theorem dX8_copy_158 : decode cX8_copy 158 = .ok (.iload 8, 2) := dk_21 8 (dk_at dksX8_copy_6 19 rfl rfl)
theorem dX8_copy_160 : decode cX8_copy 160 = .ok (.iadd, 1) := dk_96 (dk_at dksX8_copy_6 21 rfl rfl)
theorem dX8_copy_161 : decode cX8_copy 161 = .ok (.aload_n 0, 1) := dk_42 (dk_at dksX8_copy_6 22 rfl rfl)
theorem dX8_copy_162 : decode cX8_copy 162 = .ok (.getfield 66, 3) := dk_180 0 66 (dk_at dksX8_copy_7 0 rfl rfl)
theorem dX8_copy_165 : decode cX8_copy 165 = .ok (.bipush 40, 2) := dk_16 40 (dk_at dksX8_copy_7 3 rfl rfl)
theorem dX8_copy_167 : decode cX8_copy 167 = .ok (.iload_n 1, 1) := dk_27 (dk_at dksX8_copy_7 5 rfl rfl)
theorem dX8_copy_168 : decode cX8_copy 168 = .ok (.imul, 1) := dk_104 (dk_at dksX8_copy_7 6 rfl rfl)
theorem dX8_copy_169 : decode cX8_copy 169 = .ok (.iload_n 2, 1) := dk_28 (dk_at dksX8_copy_7 7 rfl rfl)
theorem dX8_copy_170 : decode cX8_copy 170 = .ok (.iadd, 1) := dk_96 (dk_at dksX8_copy_7 8 rfl rfl)
theorem dX8_copy_171 : decode cX8_copy 171 = .ok (.iload 8, 2) := dk_21 8 (dk_at dksX8_copy_7 9 rfl rfl)
theorem dX8_copy_173 : decode cX8_copy 173 = .ok (.iadd, 1) := dk_96 (dk_at dksX8_copy_7 11 rfl rfl)
theorem dX8_copy_174 : decode cX8_copy 174 = .ok (.iaload, 1) := dk_46 (dk_at dksX8_copy_7 12 rfl rfl)
theorem dX8_copy_175 : decode cX8_copy 175 = .ok (.iastore, 1) := dk_79 (dk_at dksX8_copy_7 13 rfl rfl)
theorem dX8_copy_176 : decode cX8_copy 176 = .ok (.iinc 7 1, 3) := dk_132 7 1 (dk_at dksX8_copy_7 14 rfl rfl)
theorem dX8_copy_179 : decode cX8_copy 179 = .ok (.goto (-58), 3) := dk_167 255 198 (dk_at dksX8_copy_7 17 rfl rfl)
theorem dX8_copy_182 : decode cX8_copy 182 = .ok (.iload 5, 2) := dk_21 5 (dk_at dksX8_copy_7 20 rfl rfl)
theorem dX8_copy_184 : decode cX8_copy 184 = .ok (.ireturn, 1) := dk_172 (dk_at dksX8_copy_7 22 rfl rfl)
abbrev cX8_people : ByteArray := prog_16_method_108_code
def yX8_people : MethodName := ⟨RX8, "people", "(IIII)I"⟩
def dkwX8_people_7 : List UInt8 := [132, 6, 1, 167, 255, 167, 21, 5, 172]
abbrev dktX8_people_7 : List UInt8 := dkwX8_people_7 ++ []
def dkwX8_people_6 : List UInt8 := [180, 0, 66, 21, 7, 5, 96, 46, 182, 1, 201, 155, 0, 7, 4, 167, 0, 4, 3, 96, 54, 5]
abbrev dktX8_people_6 : List UInt8 := dkwX8_people_6 ++ dktX8_people_7
def dkwX8_people_5 : List UInt8 := [54, 7, 21, 5, 42, 42, 180, 0, 66, 21, 7, 46, 42, 180, 0, 66, 21, 7, 4, 96, 46, 42]
abbrev dktX8_people_5 : List UInt8 := dkwX8_people_5 ++ dktX8_people_6
def dkwX8_people_4 : List UInt8 := [6, 21, 6, 104, 100, 6, 100, 164, 0, 6, 16, 244, 172, 16, 40, 27, 104, 29, 96, 6, 21, 6, 104, 96]
abbrev dktX8_people_4 : List UInt8 := dkwX8_people_4 ++ dktX8_people_5
def dkwX8_people_3 : List UInt8 := [3, 54, 5, 3, 54, 6, 21, 6, 21, 4, 162, 0, 88, 29, 155, 0, 20, 29, 42, 180, 0, 63, 27, 46]
abbrev dktX8_people_3 : List UInt8 := dkwX8_people_3 ++ dktX8_people_4
def dkwX8_people_2 : List UInt8 := [180, 0, 60, 27, 46, 28, 159, 0, 6, 16, 243, 172, 42, 180, 0, 56, 27, 51, 154, 0, 6, 16, 245, 172]
abbrev dktX8_people_2 : List UInt8 := dkwX8_people_2 ++ dktX8_people_3
def dkwX8_people_1 : List UInt8 := [20, 1, 171, 184, 0, 82, 154, 0, 6, 16, 254, 172, 42, 180, 0, 56, 27, 51, 153, 0, 16, 42]
abbrev dktX8_people_1 : List UInt8 := dkwX8_people_1 ++ dktX8_people_2
def dkwX8_people_0 : List UInt8 := [27, 184, 1, 165, 153, 0, 28, 28, 133, 9, 20, 0, 92, 184, 0, 82, 153, 0, 16, 21, 4, 133, 9]
abbrev dktX8_people_0 : List UInt8 := dkwX8_people_0 ++ dktX8_people_1
theorem dksX8_people_0 : cX8_people.data.toList.drop 0 = dktX8_people_0 := by decide +kernel
theorem dksX8_people_1 : cX8_people.data.toList.drop 23 = dktX8_people_1 := dk_seg dksX8_people_0 23 rfl rfl
theorem dksX8_people_2 : cX8_people.data.toList.drop 45 = dktX8_people_2 := dk_seg dksX8_people_1 22 rfl rfl
theorem dksX8_people_3 : cX8_people.data.toList.drop 69 = dktX8_people_3 := dk_seg dksX8_people_2 24 rfl rfl
theorem dksX8_people_4 : cX8_people.data.toList.drop 93 = dktX8_people_4 := dk_seg dksX8_people_3 24 rfl rfl
theorem dksX8_people_5 : cX8_people.data.toList.drop 117 = dktX8_people_5 := dk_seg dksX8_people_4 24 rfl rfl
theorem dksX8_people_6 : cX8_people.data.toList.drop 139 = dktX8_people_6 := dk_seg dksX8_people_5 22 rfl rfl
theorem dksX8_people_7 : cX8_people.data.toList.drop 161 = dktX8_people_7 := dk_seg dksX8_people_6 22 rfl rfl
theorem dX8_people_0 : decode cX8_people 0 = .ok (.iload_n 1, 1) := dk_27 (dk_at dksX8_people_0 0 rfl rfl)
theorem dX8_people_1 : decode cX8_people 1 = .ok (.invokestatic 421, 3) := dk_184 1 165 (dk_at dksX8_people_0 1 rfl rfl)
theorem dX8_people_4 : decode cX8_people 4 = .ok (.ifCond .eq 28, 3) := dk_153 0 28 (dk_at dksX8_people_0 4 rfl rfl)
theorem dX8_people_7 : decode cX8_people 7 = .ok (.iload_n 2, 1) := dk_28 (dk_at dksX8_people_0 7 rfl rfl)
theorem dX8_people_8 : decode cX8_people 8 = .ok (.i2l, 1) := dk_133 (dk_at dksX8_people_0 8 rfl rfl)
theorem dX8_people_9 : decode cX8_people 9 = .ok (.lconst 0, 1) := dk_9 (dk_at dksX8_people_0 9 rfl rfl)
theorem dX8_people_10 : decode cX8_people 10 = .ok (.ldc2_w 92, 3) := dk_20 0 92 (dk_at dksX8_people_0 10 rfl rfl)
theorem dX8_people_13 : decode cX8_people 13 = .ok (.invokestatic 82, 3) := dk_184 0 82 (dk_at dksX8_people_0 13 rfl rfl)
theorem dX8_people_16 : decode cX8_people 16 = .ok (.ifCond .eq 16, 3) := dk_153 0 16 (dk_at dksX8_people_0 16 rfl rfl)
theorem dX8_people_19 : decode cX8_people 19 = .ok (.iload 4, 2) := dk_21 4 (dk_at dksX8_people_0 19 rfl rfl)
theorem dX8_people_21 : decode cX8_people 21 = .ok (.i2l, 1) := dk_133 (dk_at dksX8_people_0 21 rfl rfl)
theorem dX8_people_22 : decode cX8_people 22 = .ok (.lconst 0, 1) := dk_9 (dk_at dksX8_people_0 22 rfl rfl)
theorem dX8_people_23 : decode cX8_people 23 = .ok (.ldc2_w 427, 3) := dk_20 1 171 (dk_at dksX8_people_1 0 rfl rfl)
theorem dX8_people_26 : decode cX8_people 26 = .ok (.invokestatic 82, 3) := dk_184 0 82 (dk_at dksX8_people_1 3 rfl rfl)
theorem dX8_people_29 : decode cX8_people 29 = .ok (.ifCond .ne 6, 3) := dk_154 0 6 (dk_at dksX8_people_1 6 rfl rfl)
theorem dX8_people_32 : decode cX8_people 32 = .ok (.bipush (-2), 2) := dk_16 254 (dk_at dksX8_people_1 9 rfl rfl)
theorem dX8_people_34 : decode cX8_people 34 = .ok (.ireturn, 1) := dk_172 (dk_at dksX8_people_1 11 rfl rfl)
theorem dX8_people_35 : decode cX8_people 35 = .ok (.aload_n 0, 1) := dk_42 (dk_at dksX8_people_1 12 rfl rfl)
theorem dX8_people_36 : decode cX8_people 36 = .ok (.getfield 56, 3) := dk_180 0 56 (dk_at dksX8_people_1 13 rfl rfl)
theorem dX8_people_39 : decode cX8_people 39 = .ok (.iload_n 1, 1) := dk_27 (dk_at dksX8_people_1 16 rfl rfl)
theorem dX8_people_40 : decode cX8_people 40 = .ok (.baload, 1) := dk_51 (dk_at dksX8_people_1 17 rfl rfl)
theorem dX8_people_41 : decode cX8_people 41 = .ok (.ifCond .eq 16, 3) := dk_153 0 16 (dk_at dksX8_people_1 18 rfl rfl)
theorem dX8_people_44 : decode cX8_people 44 = .ok (.aload_n 0, 1) := dk_42 (dk_at dksX8_people_1 21 rfl rfl)
theorem dX8_people_45 : decode cX8_people 45 = .ok (.getfield 60, 3) := dk_180 0 60 (dk_at dksX8_people_2 0 rfl rfl)
theorem dX8_people_48 : decode cX8_people 48 = .ok (.iload_n 1, 1) := dk_27 (dk_at dksX8_people_2 3 rfl rfl)
theorem dX8_people_49 : decode cX8_people 49 = .ok (.iaload, 1) := dk_46 (dk_at dksX8_people_2 4 rfl rfl)
theorem dX8_people_50 : decode cX8_people 50 = .ok (.iload_n 2, 1) := dk_28 (dk_at dksX8_people_2 5 rfl rfl)
theorem dX8_people_51 : decode cX8_people 51 = .ok (.if_icmp .eq 6, 3) := dk_159 0 6 (dk_at dksX8_people_2 6 rfl rfl)
theorem dX8_people_54 : decode cX8_people 54 = .ok (.bipush (-13), 2) := dk_16 243 (dk_at dksX8_people_2 9 rfl rfl)
theorem dX8_people_56 : decode cX8_people 56 = .ok (.ireturn, 1) := dk_172 (dk_at dksX8_people_2 11 rfl rfl)
theorem dX8_people_57 : decode cX8_people 57 = .ok (.aload_n 0, 1) := dk_42 (dk_at dksX8_people_2 12 rfl rfl)
theorem dX8_people_58 : decode cX8_people 58 = .ok (.getfield 56, 3) := dk_180 0 56 (dk_at dksX8_people_2 13 rfl rfl)
theorem dX8_people_61 : decode cX8_people 61 = .ok (.iload_n 1, 1) := dk_27 (dk_at dksX8_people_2 16 rfl rfl)
theorem dX8_people_62 : decode cX8_people 62 = .ok (.baload, 1) := dk_51 (dk_at dksX8_people_2 17 rfl rfl)
theorem dX8_people_63 : decode cX8_people 63 = .ok (.ifCond .ne 6, 3) := dk_154 0 6 (dk_at dksX8_people_2 18 rfl rfl)
theorem dX8_people_66 : decode cX8_people 66 = .ok (.bipush (-11), 2) := dk_16 245 (dk_at dksX8_people_2 21 rfl rfl)
theorem dX8_people_68 : decode cX8_people 68 = .ok (.ireturn, 1) := dk_172 (dk_at dksX8_people_2 23 rfl rfl)
theorem dX8_people_69 : decode cX8_people 69 = .ok (.iconst 0, 1) := dk_3 (dk_at dksX8_people_3 0 rfl rfl)
theorem dX8_people_70 : decode cX8_people 70 = .ok (.istore 5, 2) := dk_54 5 (dk_at dksX8_people_3 1 rfl rfl)
theorem dX8_people_72 : decode cX8_people 72 = .ok (.iconst 0, 1) := dk_3 (dk_at dksX8_people_3 3 rfl rfl)
theorem dX8_people_73 : decode cX8_people 73 = .ok (.istore 6, 2) := dk_54 6 (dk_at dksX8_people_3 4 rfl rfl)
theorem dX8_people_75 : decode cX8_people 75 = .ok (.iload 6, 2) := dk_21 6 (dk_at dksX8_people_3 6 rfl rfl)
theorem dX8_people_77 : decode cX8_people 77 = .ok (.iload 4, 2) := dk_21 4 (dk_at dksX8_people_3 8 rfl rfl)
theorem dX8_people_79 : decode cX8_people 79 = .ok (.if_icmp .ge 88, 3) := dk_162 0 88 (dk_at dksX8_people_3 10 rfl rfl)
theorem dX8_people_82 : decode cX8_people 82 = .ok (.iload_n 3, 1) := dk_29 (dk_at dksX8_people_3 13 rfl rfl)
theorem dX8_people_83 : decode cX8_people 83 = .ok (.ifCond .lt 20, 3) := dk_155 0 20 (dk_at dksX8_people_3 14 rfl rfl)
theorem dX8_people_86 : decode cX8_people 86 = .ok (.iload_n 3, 1) := dk_29 (dk_at dksX8_people_3 17 rfl rfl)
theorem dX8_people_87 : decode cX8_people 87 = .ok (.aload_n 0, 1) := dk_42 (dk_at dksX8_people_3 18 rfl rfl)
theorem dX8_people_88 : decode cX8_people 88 = .ok (.getfield 63, 3) := dk_180 0 63 (dk_at dksX8_people_3 19 rfl rfl)
theorem dX8_people_91 : decode cX8_people 91 = .ok (.iload_n 1, 1) := dk_27 (dk_at dksX8_people_3 22 rfl rfl)
theorem dX8_people_92 : decode cX8_people 92 = .ok (.iaload, 1) := dk_46 (dk_at dksX8_people_3 23 rfl rfl)
theorem dX8_people_93 : decode cX8_people 93 = .ok (.iconst 3, 1) := dk_6 (dk_at dksX8_people_4 0 rfl rfl)
theorem dX8_people_94 : decode cX8_people 94 = .ok (.iload 6, 2) := dk_21 6 (dk_at dksX8_people_4 1 rfl rfl)
theorem dX8_people_96 : decode cX8_people 96 = .ok (.imul, 1) := dk_104 (dk_at dksX8_people_4 3 rfl rfl)
theorem dX8_people_97 : decode cX8_people 97 = .ok (.isub, 1) := dk_100 (dk_at dksX8_people_4 4 rfl rfl)
theorem dX8_people_98 : decode cX8_people 98 = .ok (.iconst 3, 1) := dk_6 (dk_at dksX8_people_4 5 rfl rfl)
theorem dX8_people_99 : decode cX8_people 99 = .ok (.isub, 1) := dk_100 (dk_at dksX8_people_4 6 rfl rfl)
theorem dX8_people_100 : decode cX8_people 100 = .ok (.if_icmp .le 6, 3) := dk_164 0 6 (dk_at dksX8_people_4 7 rfl rfl)
theorem dX8_people_103 : decode cX8_people 103 = .ok (.bipush (-12), 2) := dk_16 244 (dk_at dksX8_people_4 10 rfl rfl)
theorem dX8_people_105 : decode cX8_people 105 = .ok (.ireturn, 1) := dk_172 (dk_at dksX8_people_4 12 rfl rfl)
theorem dX8_people_106 : decode cX8_people 106 = .ok (.bipush 40, 2) := dk_16 40 (dk_at dksX8_people_4 13 rfl rfl)
theorem dX8_people_108 : decode cX8_people 108 = .ok (.iload_n 1, 1) := dk_27 (dk_at dksX8_people_4 15 rfl rfl)
theorem dX8_people_109 : decode cX8_people 109 = .ok (.imul, 1) := dk_104 (dk_at dksX8_people_4 16 rfl rfl)
theorem dX8_people_110 : decode cX8_people 110 = .ok (.iload_n 3, 1) := dk_29 (dk_at dksX8_people_4 17 rfl rfl)
theorem dX8_people_111 : decode cX8_people 111 = .ok (.iadd, 1) := dk_96 (dk_at dksX8_people_4 18 rfl rfl)
theorem dX8_people_112 : decode cX8_people 112 = .ok (.iconst 3, 1) := dk_6 (dk_at dksX8_people_4 19 rfl rfl)
theorem dX8_people_113 : decode cX8_people 113 = .ok (.iload 6, 2) := dk_21 6 (dk_at dksX8_people_4 20 rfl rfl)
theorem dX8_people_115 : decode cX8_people 115 = .ok (.imul, 1) := dk_104 (dk_at dksX8_people_4 22 rfl rfl)
theorem dX8_people_116 : decode cX8_people 116 = .ok (.iadd, 1) := dk_96 (dk_at dksX8_people_4 23 rfl rfl)
theorem dX8_people_117 : decode cX8_people 117 = .ok (.istore 7, 2) := dk_54 7 (dk_at dksX8_people_5 0 rfl rfl)
theorem dX8_people_119 : decode cX8_people 119 = .ok (.iload 5, 2) := dk_21 5 (dk_at dksX8_people_5 2 rfl rfl)
theorem dX8_people_121 : decode cX8_people 121 = .ok (.aload_n 0, 1) := dk_42 (dk_at dksX8_people_5 4 rfl rfl)
theorem dX8_people_122 : decode cX8_people 122 = .ok (.aload_n 0, 1) := dk_42 (dk_at dksX8_people_5 5 rfl rfl)
theorem dX8_people_123 : decode cX8_people 123 = .ok (.getfield 66, 3) := dk_180 0 66 (dk_at dksX8_people_5 6 rfl rfl)
theorem dX8_people_126 : decode cX8_people 126 = .ok (.iload 7, 2) := dk_21 7 (dk_at dksX8_people_5 9 rfl rfl)
theorem dX8_people_128 : decode cX8_people 128 = .ok (.iaload, 1) := dk_46 (dk_at dksX8_people_5 11 rfl rfl)
theorem dX8_people_129 : decode cX8_people 129 = .ok (.aload_n 0, 1) := dk_42 (dk_at dksX8_people_5 12 rfl rfl)
theorem dX8_people_130 : decode cX8_people 130 = .ok (.getfield 66, 3) := dk_180 0 66 (dk_at dksX8_people_5 13 rfl rfl)
theorem dX8_people_133 : decode cX8_people 133 = .ok (.iload 7, 2) := dk_21 7 (dk_at dksX8_people_5 16 rfl rfl)
theorem dX8_people_135 : decode cX8_people 135 = .ok (.iconst 1, 1) := dk_4 (dk_at dksX8_people_5 18 rfl rfl)
theorem dX8_people_136 : decode cX8_people 136 = .ok (.iadd, 1) := dk_96 (dk_at dksX8_people_5 19 rfl rfl)
theorem dX8_people_137 : decode cX8_people 137 = .ok (.iaload, 1) := dk_46 (dk_at dksX8_people_5 20 rfl rfl)
theorem dX8_people_138 : decode cX8_people 138 = .ok (.aload_n 0, 1) := dk_42 (dk_at dksX8_people_5 21 rfl rfl)
theorem dX8_people_139 : decode cX8_people 139 = .ok (.getfield 66, 3) := dk_180 0 66 (dk_at dksX8_people_6 0 rfl rfl)
theorem dX8_people_142 : decode cX8_people 142 = .ok (.iload 7, 2) := dk_21 7 (dk_at dksX8_people_6 3 rfl rfl)
theorem dX8_people_144 : decode cX8_people 144 = .ok (.iconst 2, 1) := dk_5 (dk_at dksX8_people_6 5 rfl rfl)
theorem dX8_people_145 : decode cX8_people 145 = .ok (.iadd, 1) := dk_96 (dk_at dksX8_people_6 6 rfl rfl)
theorem dX8_people_146 : decode cX8_people 146 = .ok (.iaload, 1) := dk_46 (dk_at dksX8_people_6 7 rfl rfl)
theorem dX8_people_147 : decode cX8_people 147 = .ok (.invokevirtual 457, 3) := dk_182 1 201 (dk_at dksX8_people_6 8 rfl rfl)
theorem dX8_people_150 : decode cX8_people 150 = .ok (.ifCond .lt 7, 3) := dk_155 0 7 (dk_at dksX8_people_6 11 rfl rfl)
theorem dX8_people_153 : decode cX8_people 153 = .ok (.iconst 1, 1) := dk_4 (dk_at dksX8_people_6 14 rfl rfl)
theorem dX8_people_154 : decode cX8_people 154 = .ok (.goto 4, 3) := dk_167 0 4 (dk_at dksX8_people_6 15 rfl rfl)
theorem dX8_people_157 : decode cX8_people 157 = .ok (.iconst 0, 1) := dk_3 (dk_at dksX8_people_6 18 rfl rfl)
theorem dX8_people_158 : decode cX8_people 158 = .ok (.iadd, 1) := dk_96 (dk_at dksX8_people_6 19 rfl rfl)
theorem dX8_people_159 : decode cX8_people 159 = .ok (.istore 5, 2) := dk_54 5 (dk_at dksX8_people_6 20 rfl rfl)
theorem dX8_people_161 : decode cX8_people 161 = .ok (.iinc 6 1, 3) := dk_132 6 1 (dk_at dksX8_people_7 0 rfl rfl)
theorem dX8_people_164 : decode cX8_people 164 = .ok (.goto (-89), 3) := dk_167 255 167 (dk_at dksX8_people_7 3 rfl rfl)
theorem dX8_people_167 : decode cX8_people 167 = .ok (.iload 5, 2) := dk_21 5 (dk_at dksX8_people_7 6 rfl rfl)
theorem dX8_people_169 : decode cX8_people 169 = .ok (.ireturn, 1) := dk_172 (dk_at dksX8_people_7 8 rfl rfl)
abbrev cX8_taken : ByteArray := prog_16_method_110_code
def yX8_taken : MethodName := ⟨RX8, "taken", "(II)I"⟩
def dkwX8_taken_2 : List UInt8 := [62, 167, 255, 241, 29, 28, 160, 0, 14, 42, 180, 0, 32, 6, 27, 104, 46, 167, 0, 5, 16, 243, 172]
abbrev dktX8_taken_2 : List UInt8 := dkwX8_taken_2 ++ []
def dkwX8_taken_1 : List UInt8 := [16, 245, 172, 42, 180, 0, 29, 27, 46, 62, 29, 2, 159, 0, 16, 29, 28, 159, 0, 11, 29, 184, 1, 204]
abbrev dktX8_taken_1 : List UInt8 := dkwX8_taken_1 ++ dktX8_taken_2
def dkwX8_taken_0 : List UInt8 := [28, 133, 9, 20, 0, 117, 184, 0, 82, 154, 0, 6, 16, 254, 172, 42, 27, 182, 0, 86, 154, 0, 6]
abbrev dktX8_taken_0 : List UInt8 := dkwX8_taken_0 ++ dktX8_taken_1
theorem dksX8_taken_0 : cX8_taken.data.toList.drop 0 = dktX8_taken_0 := by decide +kernel
theorem dksX8_taken_1 : cX8_taken.data.toList.drop 23 = dktX8_taken_1 := dk_seg dksX8_taken_0 23 rfl rfl
theorem dksX8_taken_2 : cX8_taken.data.toList.drop 47 = dktX8_taken_2 := dk_seg dksX8_taken_1 24 rfl rfl
theorem dX8_taken_0 : decode cX8_taken 0 = .ok (.iload_n 2, 1) := dk_28 (dk_at dksX8_taken_0 0 rfl rfl)
theorem dX8_taken_1 : decode cX8_taken 1 = .ok (.i2l, 1) := dk_133 (dk_at dksX8_taken_0 1 rfl rfl)
theorem dX8_taken_2 : decode cX8_taken 2 = .ok (.lconst 0, 1) := dk_9 (dk_at dksX8_taken_0 2 rfl rfl)
theorem dX8_taken_3 : decode cX8_taken 3 = .ok (.ldc2_w 117, 3) := dk_20 0 117 (dk_at dksX8_taken_0 3 rfl rfl)
theorem dX8_taken_6 : decode cX8_taken 6 = .ok (.invokestatic 82, 3) := dk_184 0 82 (dk_at dksX8_taken_0 6 rfl rfl)
theorem dX8_taken_9 : decode cX8_taken 9 = .ok (.ifCond .ne 6, 3) := dk_154 0 6 (dk_at dksX8_taken_0 9 rfl rfl)
theorem dX8_taken_12 : decode cX8_taken 12 = .ok (.bipush (-2), 2) := dk_16 254 (dk_at dksX8_taken_0 12 rfl rfl)
theorem dX8_taken_14 : decode cX8_taken 14 = .ok (.ireturn, 1) := dk_172 (dk_at dksX8_taken_0 14 rfl rfl)
theorem dX8_taken_15 : decode cX8_taken 15 = .ok (.aload_n 0, 1) := dk_42 (dk_at dksX8_taken_0 15 rfl rfl)
theorem dX8_taken_16 : decode cX8_taken 16 = .ok (.iload_n 1, 1) := dk_27 (dk_at dksX8_taken_0 16 rfl rfl)
theorem dX8_taken_17 : decode cX8_taken 17 = .ok (.invokevirtual 86, 3) := dk_182 0 86 (dk_at dksX8_taken_0 17 rfl rfl)
theorem dX8_taken_20 : decode cX8_taken 20 = .ok (.ifCond .ne 6, 3) := dk_154 0 6 (dk_at dksX8_taken_0 20 rfl rfl)
theorem dX8_taken_23 : decode cX8_taken 23 = .ok (.bipush (-11), 2) := dk_16 245 (dk_at dksX8_taken_1 0 rfl rfl)
theorem dX8_taken_25 : decode cX8_taken 25 = .ok (.ireturn, 1) := dk_172 (dk_at dksX8_taken_1 2 rfl rfl)
theorem dX8_taken_26 : decode cX8_taken 26 = .ok (.aload_n 0, 1) := dk_42 (dk_at dksX8_taken_1 3 rfl rfl)
theorem dX8_taken_27 : decode cX8_taken 27 = .ok (.getfield 29, 3) := dk_180 0 29 (dk_at dksX8_taken_1 4 rfl rfl)
theorem dX8_taken_30 : decode cX8_taken 30 = .ok (.iload_n 1, 1) := dk_27 (dk_at dksX8_taken_1 7 rfl rfl)
theorem dX8_taken_31 : decode cX8_taken 31 = .ok (.iaload, 1) := dk_46 (dk_at dksX8_taken_1 8 rfl rfl)
theorem dX8_taken_32 : decode cX8_taken 32 = .ok (.istore_n 3, 1) := dk_62 (dk_at dksX8_taken_1 9 rfl rfl)
theorem dX8_taken_33 : decode cX8_taken 33 = .ok (.iload_n 3, 1) := dk_29 (dk_at dksX8_taken_1 10 rfl rfl)
theorem dX8_taken_34 : decode cX8_taken 34 = .ok (.iconst (-1), 1) := dk_2 (dk_at dksX8_taken_1 11 rfl rfl)
theorem dX8_taken_35 : decode cX8_taken 35 = .ok (.if_icmp .eq 16, 3) := dk_159 0 16 (dk_at dksX8_taken_1 12 rfl rfl)
theorem dX8_taken_38 : decode cX8_taken 38 = .ok (.iload_n 3, 1) := dk_29 (dk_at dksX8_taken_1 15 rfl rfl)
theorem dX8_taken_39 : decode cX8_taken 39 = .ok (.iload_n 2, 1) := dk_28 (dk_at dksX8_taken_1 16 rfl rfl)
theorem dX8_taken_40 : decode cX8_taken 40 = .ok (.if_icmp .eq 11, 3) := dk_159 0 11 (dk_at dksX8_taken_1 17 rfl rfl)
theorem dX8_taken_43 : decode cX8_taken 43 = .ok (.iload_n 3, 1) := dk_29 (dk_at dksX8_taken_1 20 rfl rfl)
theorem dX8_taken_44 : decode cX8_taken 44 = .ok (.invokestatic 460, 3) := dk_184 1 204 (dk_at dksX8_taken_1 21 rfl rfl)
theorem dX8_taken_47 : decode cX8_taken 47 = .ok (.istore_n 3, 1) := dk_62 (dk_at dksX8_taken_2 0 rfl rfl)
theorem dX8_taken_48 : decode cX8_taken 48 = .ok (.goto (-15), 3) := dk_167 255 241 (dk_at dksX8_taken_2 1 rfl rfl)
theorem dX8_taken_51 : decode cX8_taken 51 = .ok (.iload_n 3, 1) := dk_29 (dk_at dksX8_taken_2 4 rfl rfl)
theorem dX8_taken_52 : decode cX8_taken 52 = .ok (.iload_n 2, 1) := dk_28 (dk_at dksX8_taken_2 5 rfl rfl)
theorem dX8_taken_53 : decode cX8_taken 53 = .ok (.if_icmp .ne 14, 3) := dk_160 0 14 (dk_at dksX8_taken_2 6 rfl rfl)
theorem dX8_taken_56 : decode cX8_taken 56 = .ok (.aload_n 0, 1) := dk_42 (dk_at dksX8_taken_2 9 rfl rfl)
theorem dX8_taken_57 : decode cX8_taken 57 = .ok (.getfield 32, 3) := dk_180 0 32 (dk_at dksX8_taken_2 10 rfl rfl)
theorem dX8_taken_60 : decode cX8_taken 60 = .ok (.iconst 3, 1) := dk_6 (dk_at dksX8_taken_2 13 rfl rfl)
theorem dX8_taken_61 : decode cX8_taken 61 = .ok (.iload_n 1, 1) := dk_27 (dk_at dksX8_taken_2 14 rfl rfl)
theorem dX8_taken_62 : decode cX8_taken 62 = .ok (.imul, 1) := dk_104 (dk_at dksX8_taken_2 15 rfl rfl)
theorem dX8_taken_63 : decode cX8_taken 63 = .ok (.iaload, 1) := dk_46 (dk_at dksX8_taken_2 16 rfl rfl)
theorem dX8_taken_64 : decode cX8_taken 64 = .ok (.goto 5, 3) := dk_167 0 5 (dk_at dksX8_taken_2 17 rfl rfl)
theorem dX8_taken_67 : decode cX8_taken 67 = .ok (.bipush (-13), 2) := dk_16 243 (dk_at dksX8_taken_2 20 rfl rfl)
theorem dX8_taken_69 : decode cX8_taken 69 = .ok (.ireturn, 1) := dk_172 (dk_at dksX8_taken_2 22 rfl rfl)
abbrev cX8_over : ByteArray := prog_16_method_109_code
def yX8_over : MethodName := ⟨RX8, "over", "(I)I"⟩
def dkwX8_over_1 : List UInt8 := [167, 0, 4, 3, 172]
abbrev dktX8_over_1 : List UInt8 := dkwX8_over_1 ++ []
def dkwX8_over_0 : List UInt8 := [26, 154, 0, 7, 2, 167, 0, 22, 26, 6, 160, 0, 7, 4, 167, 0, 13, 26, 7, 160, 0, 7, 5]
abbrev dktX8_over_0 : List UInt8 := dkwX8_over_0 ++ dktX8_over_1
theorem dksX8_over_0 : cX8_over.data.toList.drop 0 = dktX8_over_0 := by decide +kernel
theorem dksX8_over_1 : cX8_over.data.toList.drop 23 = dktX8_over_1 := dk_seg dksX8_over_0 23 rfl rfl
theorem dX8_over_0 : decode cX8_over 0 = .ok (.iload_n 0, 1) := dk_26 (dk_at dksX8_over_0 0 rfl rfl)
theorem dX8_over_1 : decode cX8_over 1 = .ok (.ifCond .ne 7, 3) := dk_154 0 7 (dk_at dksX8_over_0 1 rfl rfl)
theorem dX8_over_4 : decode cX8_over 4 = .ok (.iconst (-1), 1) := dk_2 (dk_at dksX8_over_0 4 rfl rfl)
theorem dX8_over_5 : decode cX8_over 5 = .ok (.goto 22, 3) := dk_167 0 22 (dk_at dksX8_over_0 5 rfl rfl)
theorem dX8_over_8 : decode cX8_over 8 = .ok (.iload_n 0, 1) := dk_26 (dk_at dksX8_over_0 8 rfl rfl)
theorem dX8_over_9 : decode cX8_over 9 = .ok (.iconst 3, 1) := dk_6 (dk_at dksX8_over_0 9 rfl rfl)
theorem dX8_over_10 : decode cX8_over 10 = .ok (.if_icmp .ne 7, 3) := dk_160 0 7 (dk_at dksX8_over_0 10 rfl rfl)
theorem dX8_over_13 : decode cX8_over 13 = .ok (.iconst 1, 1) := dk_4 (dk_at dksX8_over_0 13 rfl rfl)
theorem dX8_over_14 : decode cX8_over 14 = .ok (.goto 13, 3) := dk_167 0 13 (dk_at dksX8_over_0 14 rfl rfl)
theorem dX8_over_17 : decode cX8_over 17 = .ok (.iload_n 0, 1) := dk_26 (dk_at dksX8_over_0 17 rfl rfl)
theorem dX8_over_18 : decode cX8_over 18 = .ok (.iconst 4, 1) := dk_7 (dk_at dksX8_over_0 18 rfl rfl)
theorem dX8_over_19 : decode cX8_over 19 = .ok (.if_icmp .ne 7, 3) := dk_160 0 7 (dk_at dksX8_over_0 19 rfl rfl)
theorem dX8_over_22 : decode cX8_over 22 = .ok (.iconst 2, 1) := dk_5 (dk_at dksX8_over_0 22 rfl rfl)
theorem dX8_over_23 : decode cX8_over 23 = .ok (.goto 4, 3) := dk_167 0 4 (dk_at dksX8_over_1 0 rfl rfl)
theorem dX8_over_26 : decode cX8_over 26 = .ok (.iconst 0, 1) := dk_3 (dk_at dksX8_over_1 3 rfl rfl)
theorem dX8_over_27 : decode cX8_over 27 = .ok (.ireturn, 1) := dk_172 (dk_at dksX8_over_1 4 rfl rfl)
theorem q148 : (Jvm.Cond.initialized "TandemKeepsAPlaceModel") ∈ lw_all := lw_g (lw_at lw_m1 18 rfl) rfl
theorem q1282 : (Jvm.Cond.instantiable "TandemKeepsAPlaceModel" (45 : Nat)) ∈ lw_all := lw_g (lw_at lw_m5 192 rfl) rfl
theorem q1284 : (Jvm.Cond.instanceMethod ({ cls := "TandemKeepsAPlaceModel", name := "<init>", desc := "()V" } : Jvm.MethodName)) ∈ lw_all := lw_g (lw_at lw_m5 194 rfl) rfl
theorem q1285 : (Jvm.Cond.code ({ cls := "TandemKeepsAPlaceModel", name := "<init>", desc := "()V" } : Jvm.MethodName) prog_16_method_4_code (1 : Nat) (Option.none : Option Jvm.ClassFile.FieldType)) ∈ lw_all := lw_g (lw_at lw_m5 195 rfl) rfl
theorem q1286 : (Jvm.Cond.methodLink "TandemKeepsAPlaceModel" (7 : Nat) ({ cls := "java/lang/Object", name := "<init>", desc := "()V" } : Jvm.MethodName)) ∈ lw_all := lw_g (lw_at lw_m5 196 rfl) rfl
theorem q1287 : (Jvm.Cond.methodLink "TandemKeepsAPlaceModel" (69 : Nat) ({ cls := "TandemKeepsAPlaceModel", name := "spreads", desc := "()V" } : Jvm.MethodName)) ∈ lw_all := lw_g (lw_at lw_m5 197 rfl) rfl
theorem q1288 : (Jvm.Cond.privateMethod ({ cls := "TandemKeepsAPlaceModel", name := "spreads", desc := "()V" } : Jvm.MethodName)) ∈ lw_tbl := lw_at lw_m5 198 rfl
theorem q1289 : (Jvm.Cond.instanceMethod ({ cls := "TandemKeepsAPlaceModel", name := "spreads", desc := "()V" } : Jvm.MethodName)) ∈ lw_all := lw_g (lw_at lw_m5 199 rfl) rfl
theorem q1290 : (Jvm.Cond.code ({ cls := "TandemKeepsAPlaceModel", name := "spreads", desc := "()V" } : Jvm.MethodName) prog_16_method_12_code (4 : Nat) (Option.none : Option Jvm.ClassFile.FieldType)) ∈ lw_all := lw_g (lw_at lw_m5 200 rfl) rfl
theorem q1291 : (Jvm.Cond.methodLink "TandemKeepsAPlaceModel" (72 : Nat) ({ cls := "TandemKeepsAPlaceModel", name := "spell", desc := "(IIIIIIIII)V" } : Jvm.MethodName)) ∈ lw_all := lw_g (lw_at lw_m5 201 rfl) rfl
theorem q1292 : (Jvm.Cond.privateMethod ({ cls := "TandemKeepsAPlaceModel", name := "spell", desc := "(IIIIIIIII)V" } : Jvm.MethodName)) ∈ lw_tbl := lw_at lw_m5 202 rfl
theorem q1293 : (Jvm.Cond.instanceMethod ({ cls := "TandemKeepsAPlaceModel", name := "spell", desc := "(IIIIIIIII)V" } : Jvm.MethodName)) ∈ lw_all := lw_g (lw_at lw_m5 203 rfl) rfl
theorem q1294 : (Jvm.Cond.code ({ cls := "TandemKeepsAPlaceModel", name := "spell", desc := "(IIIIIIIII)V" } : Jvm.MethodName) prog_16_method_5_code (10 : Nat) (Option.none : Option Jvm.ClassFile.FieldType)) ∈ lw_all := lw_g (lw_at lw_m5 204 rfl) rfl
theorem q1295 : (Jvm.Cond.fieldLink "TandemKeepsAPlaceModel" (13 : Nat) "TandemKeepsAPlaceModel" "texts" "[I") ∈ lw_all := lw_g (lw_at lw_m5 205 rfl) rfl
theorem q1296 : (Jvm.Cond.fieldLink "TandemKeepsAPlaceModel" (17 : Nat) "TandemKeepsAPlaceModel" "textSize" "[I") ∈ lw_all := lw_g (lw_at lw_m5 206 rfl) rfl
theorem q1297 : (Jvm.Cond.fieldLink "TandemKeepsAPlaceModel" (76 : Nat) "TandemKeepsAPlaceModel" "textCount" "I") ∈ lw_all := lw_g (lw_at lw_m5 207 rfl) rfl
theorem q1298 : (Jvm.Cond.fieldLink "TandemKeepsAPlaceModel" (106 : Nat) "TandemKeepsAPlaceModel" "rule" "I") ∈ lw_all := lw_g (lw_at lw_m5 208 rfl) rfl
theorem q1299 : (Jvm.Cond.fieldLink "TandemKeepsAPlaceModel" (20 : Nat) "TandemKeepsAPlaceModel" "tape" "[I") ∈ lw_all := lw_g (lw_at lw_m5 209 rfl) rfl
theorem q1300 : (Jvm.Cond.fieldLink "TandemKeepsAPlaceModel" (126 : Nat) "TandemKeepsAPlaceModel" "taped" "I") ∈ lw_all := lw_g (lw_at lw_m5 210 rfl) rfl
theorem q1301 : (Jvm.Cond.fieldLink "TandemKeepsAPlaceModel" (23 : Nat) "TandemKeepsAPlaceModel" "hourNow" "I") ∈ lw_all := lw_g (lw_at lw_m5 211 rfl) rfl
theorem q1302 : (Jvm.Cond.fieldLink "TandemKeepsAPlaceModel" (26 : Nat) "TandemKeepsAPlaceModel" "roads" "[I") ∈ lw_all := lw_g (lw_at lw_m5 212 rfl) rfl
theorem q1303 : (Jvm.Cond.fieldLink "TandemKeepsAPlaceModel" (29 : Nat) "TandemKeepsAPlaceModel" "kinds" "[I") ∈ lw_all := lw_g (lw_at lw_m5 213 rfl) rfl
theorem q1304 : (Jvm.Cond.fieldLink "TandemKeepsAPlaceModel" (32 : Nat) "TandemKeepsAPlaceModel" "rows" "[I") ∈ lw_all := lw_g (lw_at lw_m5 214 rfl) rfl
theorem q1305 : (Jvm.Cond.fieldLink "TandemKeepsAPlaceModel" (79 : Nat) "TandemKeepsAPlaceModel" "many" "I") ∈ lw_all := lw_g (lw_at lw_m5 215 rfl) rfl
theorem q1306 : (Jvm.Cond.fieldLink "TandemKeepsAPlaceModel" (35 : Nat) "TandemKeepsAPlaceModel" "least1" "[I") ∈ lw_all := lw_g (lw_at lw_m5 216 rfl) rfl
theorem q1307 : (Jvm.Cond.fieldLink "TandemKeepsAPlaceModel" (185 : Nat) "TandemKeepsAPlaceModel" "ofMiles" "I") ∈ lw_all := lw_g (lw_at lw_m5 217 rfl) rfl
theorem q1308 : (Jvm.Cond.fieldLink "TandemKeepsAPlaceModel" (188 : Nat) "TandemKeepsAPlaceModel" "ofNumber" "I") ∈ lw_all := lw_g (lw_at lw_m5 218 rfl) rfl
theorem q1309 : (Jvm.Cond.fieldLink "TandemKeepsAPlaceModel" (191 : Nat) "TandemKeepsAPlaceModel" "ofSteps" "I") ∈ lw_all := lw_g (lw_at lw_m5 219 rfl) rfl
theorem q1310 : (Jvm.Cond.fieldLink "TandemKeepsAPlaceModel" (194 : Nat) "TandemKeepsAPlaceModel" "ofHour" "I") ∈ lw_all := lw_g (lw_at lw_m5 220 rfl) rfl
theorem q1311 : (Jvm.Cond.fieldLink "TandemKeepsAPlaceModel" (197 : Nat) "TandemKeepsAPlaceModel" "ofBehind" "I") ∈ lw_all := lw_g (lw_at lw_m5 221 rfl) rfl
theorem q1312 : (Jvm.Cond.fieldLink "TandemKeepsAPlaceModel" (200 : Nat) "TandemKeepsAPlaceModel" "ofTheirs" "I") ∈ lw_all := lw_g (lw_at lw_m5 222 rfl) rfl
theorem q1313 : (Jvm.Cond.fieldLink "TandemKeepsAPlaceModel" (132 : Nat) "TandemKeepsAPlaceModel" "textFrom" "I") ∈ lw_all := lw_g (lw_at lw_m5 223 rfl) rfl
theorem q1314 : (Jvm.Cond.fieldLink "TandemKeepsAPlaceModel" (129 : Nat) "TandemKeepsAPlaceModel" "size" "I") ∈ lw_all := lw_g (lw_at lw_m5 224 rfl) rfl
theorem q1315 : (Jvm.Cond.fieldLink "TandemKeepsAPlaceModel" (135 : Nat) "TandemKeepsAPlaceModel" "here" "I") ∈ lw_all := lw_g (lw_at lw_m5 225 rfl) rfl
theorem q1316 : (Jvm.Cond.fieldLink "TandemKeepsAPlaceModel" (144 : Nat) "TandemKeepsAPlaceModel" "token" "I") ∈ lw_all := lw_g (lw_at lw_m5 226 rfl) rfl
theorem q1317 : (Jvm.Cond.fieldLink "TandemKeepsAPlaceModel" (141 : Nat) "TandemKeepsAPlaceModel" "tokenAt" "I") ∈ lw_all := lw_g (lw_at lw_m5 227 rfl) rfl
theorem q1318 : (Jvm.Cond.fieldLink "TandemKeepsAPlaceModel" (155 : Nat) "TandemKeepsAPlaceModel" "tokenWorth" "J") ∈ lw_all := lw_g (lw_at lw_m5 228 rfl) rfl
theorem q1319 : (Jvm.Cond.fieldLink "TandemKeepsAPlaceModel" (172 : Nat) "TandemKeepsAPlaceModel" "open" "I") ∈ lw_all := lw_g (lw_at lw_m5 229 rfl) rfl
theorem q1320 : (Jvm.Cond.fieldLink "TandemKeepsAPlaceModel" (161 : Nat) "TandemKeepsAPlaceModel" "bad" "Z") ∈ lw_all := lw_g (lw_at lw_m5 230 rfl) rfl
theorem q1321 : (Jvm.Cond.fieldLink "TandemKeepsAPlaceModel" (165 : Nat) "TandemKeepsAPlaceModel" "fault" "I") ∈ lw_all := lw_g (lw_at lw_m5 231 rfl) rfl
theorem q1322 : (Jvm.Cond.fieldLink "TandemKeepsAPlaceModel" (38 : Nat) "TandemKeepsAPlaceModel" "where" "[I") ∈ lw_all := lw_g (lw_at lw_m5 232 rfl) rfl
theorem q1323 : (Jvm.Cond.fieldLink "TandemKeepsAPlaceModel" (367 : Nat) "TandemKeepsAPlaceModel" "stepMany" "I") ∈ lw_all := lw_g (lw_at lw_m5 233 rfl) rfl
theorem q1324 : (Jvm.Cond.fieldLink "TandemKeepsAPlaceModel" (370 : Nat) "TandemKeepsAPlaceModel" "longAll" "I") ∈ lw_all := lw_g (lw_at lw_m5 234 rfl) rfl
theorem q1325 : (Jvm.Cond.fieldLink "TandemKeepsAPlaceModel" (373 : Nat) "TandemKeepsAPlaceModel" "byFront" "I") ∈ lw_all := lw_g (lw_at lw_m5 235 rfl) rfl
theorem q1326 : (Jvm.Cond.fieldLink "TandemKeepsAPlaceModel" (41 : Nat) "TandemKeepsAPlaceModel" "pairs" "[I") ∈ lw_all := lw_g (lw_at lw_m5 236 rfl) rfl
theorem q1327 : (Jvm.Cond.fieldLink "TandemKeepsAPlaceModel" (400 : Nat) "TandemKeepsAPlaceModel" "bestDigits" "I") ∈ lw_all := lw_g (lw_at lw_m5 237 rfl) rfl
theorem q1328 : (Jvm.Cond.fieldLink "TandemKeepsAPlaceModel" (403 : Nat) "TandemKeepsAPlaceModel" "bestLong" "I") ∈ lw_all := lw_g (lw_at lw_m5 238 rfl) rfl
theorem q1329 : (Jvm.Cond.fieldLink "TandemKeepsAPlaceModel" (44 : Nat) "TandemKeepsAPlaceModel" "goalsWas" "[I") ∈ lw_all := lw_g (lw_at lw_m5 239 rfl) rfl
theorem q1330 : (Jvm.Cond.fieldLink "TandemKeepsAPlaceModel" (47 : Nat) "TandemKeepsAPlaceModel" "roadsKept" "[I") ∈ lw_all := lw_g (lw_at lw_m6 0 rfl) rfl
theorem q1331 : (Jvm.Cond.fieldLink "TandemKeepsAPlaceModel" (50 : Nat) "TandemKeepsAPlaceModel" "rowsKept" "[I") ∈ lw_all := lw_g (lw_at lw_m6 1 rfl) rfl
theorem q1332 : (Jvm.Cond.fieldLink "TandemKeepsAPlaceModel" (53 : Nat) "TandemKeepsAPlaceModel" "manyKept" "I") ∈ lw_all := lw_g (lw_at lw_m6 2 rfl) rfl
theorem q1333 : (Jvm.Cond.fieldLink "TandemKeepsAPlaceModel" (447 : Nat) "TandemKeepsAPlaceModel" "hourKept" "I") ∈ lw_all := lw_g (lw_at lw_m6 3 rfl) rfl
theorem q1334 : (Jvm.Cond.fieldLink "TandemKeepsAPlaceModel" (450 : Nat) "TandemKeepsAPlaceModel" "ruleKept" "I") ∈ lw_all := lw_g (lw_at lw_m6 4 rfl) rfl
theorem q1335 : (Jvm.Cond.fieldLink "TandemKeepsAPlaceModel" (56 : Nat) "TandemKeepsAPlaceModel" "isThere" "[Z") ∈ lw_all := lw_g (lw_at lw_m6 5 rfl) rfl
theorem q1336 : (Jvm.Cond.fieldLink "TandemKeepsAPlaceModel" (60 : Nat) "TandemKeepsAPlaceModel" "sorts" "[I") ∈ lw_all := lw_g (lw_at lw_m6 6 rfl) rfl
theorem q1337 : (Jvm.Cond.fieldLink "TandemKeepsAPlaceModel" (63 : Nat) "TandemKeepsAPlaceModel" "sheetSize" "[I") ∈ lw_all := lw_g (lw_at lw_m6 7 rfl) rfl
theorem q1338 : (Jvm.Cond.fieldLink "TandemKeepsAPlaceModel" (66 : Nat) "TandemKeepsAPlaceModel" "items" "[I") ∈ lw_all := lw_g (lw_at lw_m6 8 rfl) rfl
theorem q1339 : (Jvm.Cond.lays "TandemKeepsAPlaceModel" "TandemKeepsAPlaceModel" "thrown" "I") ∈ lw_all := lw_g (lw_at lw_m6 9 rfl) rfl
theorem q1340 : (Jvm.Cond.soleField "TandemKeepsAPlaceModel" "thrown") ∈ lw_all := lw_g (lw_at lw_m6 10 rfl) rfl
theorem q1341 : (Jvm.Cond.laysFinal "TandemKeepsAPlaceModel" "TandemKeepsAPlaceModel" "texts" "[I") ∈ lw_all := lw_g (lw_at lw_m6 11 rfl) rfl
theorem q1342 : (Jvm.Cond.soleField "TandemKeepsAPlaceModel" "texts") ∈ lw_all := lw_g (lw_at lw_m6 12 rfl) rfl
theorem q1343 : (Jvm.Cond.laysFinal "TandemKeepsAPlaceModel" "TandemKeepsAPlaceModel" "textSize" "[I") ∈ lw_all := lw_g (lw_at lw_m6 13 rfl) rfl
theorem q1344 : (Jvm.Cond.soleField "TandemKeepsAPlaceModel" "textSize") ∈ lw_all := lw_g (lw_at lw_m6 14 rfl) rfl
theorem q1345 : (Jvm.Cond.lays "TandemKeepsAPlaceModel" "TandemKeepsAPlaceModel" "textCount" "I") ∈ lw_all := lw_g (lw_at lw_m6 15 rfl) rfl
theorem q1346 : (Jvm.Cond.soleField "TandemKeepsAPlaceModel" "textCount") ∈ lw_all := lw_g (lw_at lw_m6 16 rfl) rfl
theorem q1347 : (Jvm.Cond.lays "TandemKeepsAPlaceModel" "TandemKeepsAPlaceModel" "rule" "I") ∈ lw_all := lw_g (lw_at lw_m6 17 rfl) rfl
theorem q1348 : (Jvm.Cond.soleField "TandemKeepsAPlaceModel" "rule") ∈ lw_all := lw_g (lw_at lw_m6 18 rfl) rfl
theorem q1349 : (Jvm.Cond.laysFinal "TandemKeepsAPlaceModel" "TandemKeepsAPlaceModel" "tape" "[I") ∈ lw_all := lw_g (lw_at lw_m6 19 rfl) rfl
theorem q1350 : (Jvm.Cond.soleField "TandemKeepsAPlaceModel" "tape") ∈ lw_all := lw_g (lw_at lw_m6 20 rfl) rfl
theorem q1351 : (Jvm.Cond.lays "TandemKeepsAPlaceModel" "TandemKeepsAPlaceModel" "taped" "I") ∈ lw_all := lw_g (lw_at lw_m6 21 rfl) rfl
theorem q1352 : (Jvm.Cond.soleField "TandemKeepsAPlaceModel" "taped") ∈ lw_all := lw_g (lw_at lw_m6 22 rfl) rfl
theorem q1353 : (Jvm.Cond.lays "TandemKeepsAPlaceModel" "TandemKeepsAPlaceModel" "hourNow" "I") ∈ lw_all := lw_g (lw_at lw_m6 23 rfl) rfl
theorem q1354 : (Jvm.Cond.soleField "TandemKeepsAPlaceModel" "hourNow") ∈ lw_all := lw_g (lw_at lw_m6 24 rfl) rfl
theorem q1355 : (Jvm.Cond.laysFinal "TandemKeepsAPlaceModel" "TandemKeepsAPlaceModel" "roads" "[I") ∈ lw_all := lw_g (lw_at lw_m6 25 rfl) rfl
theorem q1356 : (Jvm.Cond.soleField "TandemKeepsAPlaceModel" "roads") ∈ lw_all := lw_g (lw_at lw_m6 26 rfl) rfl
theorem q1357 : (Jvm.Cond.laysFinal "TandemKeepsAPlaceModel" "TandemKeepsAPlaceModel" "kinds" "[I") ∈ lw_all := lw_g (lw_at lw_m6 27 rfl) rfl
theorem q1358 : (Jvm.Cond.soleField "TandemKeepsAPlaceModel" "kinds") ∈ lw_all := lw_g (lw_at lw_m6 28 rfl) rfl
theorem q1359 : (Jvm.Cond.laysFinal "TandemKeepsAPlaceModel" "TandemKeepsAPlaceModel" "rows" "[I") ∈ lw_all := lw_g (lw_at lw_m6 29 rfl) rfl
theorem q1360 : (Jvm.Cond.soleField "TandemKeepsAPlaceModel" "rows") ∈ lw_all := lw_g (lw_at lw_m6 30 rfl) rfl
theorem q1361 : (Jvm.Cond.lays "TandemKeepsAPlaceModel" "TandemKeepsAPlaceModel" "many" "I") ∈ lw_all := lw_g (lw_at lw_m6 31 rfl) rfl
theorem q1362 : (Jvm.Cond.soleField "TandemKeepsAPlaceModel" "many") ∈ lw_all := lw_g (lw_at lw_m6 32 rfl) rfl
theorem q1363 : (Jvm.Cond.laysFinal "TandemKeepsAPlaceModel" "TandemKeepsAPlaceModel" "least1" "[I") ∈ lw_all := lw_g (lw_at lw_m6 33 rfl) rfl
theorem q1364 : (Jvm.Cond.soleField "TandemKeepsAPlaceModel" "least1") ∈ lw_all := lw_g (lw_at lw_m6 34 rfl) rfl
theorem q1365 : (Jvm.Cond.lays "TandemKeepsAPlaceModel" "TandemKeepsAPlaceModel" "ofMiles" "I") ∈ lw_all := lw_g (lw_at lw_m6 35 rfl) rfl
theorem q1366 : (Jvm.Cond.soleField "TandemKeepsAPlaceModel" "ofMiles") ∈ lw_all := lw_g (lw_at lw_m6 36 rfl) rfl
theorem q1367 : (Jvm.Cond.lays "TandemKeepsAPlaceModel" "TandemKeepsAPlaceModel" "ofNumber" "I") ∈ lw_all := lw_g (lw_at lw_m6 37 rfl) rfl
theorem q1368 : (Jvm.Cond.soleField "TandemKeepsAPlaceModel" "ofNumber") ∈ lw_all := lw_g (lw_at lw_m6 38 rfl) rfl
theorem q1369 : (Jvm.Cond.lays "TandemKeepsAPlaceModel" "TandemKeepsAPlaceModel" "ofSteps" "I") ∈ lw_all := lw_g (lw_at lw_m6 39 rfl) rfl
theorem q1370 : (Jvm.Cond.soleField "TandemKeepsAPlaceModel" "ofSteps") ∈ lw_all := lw_g (lw_at lw_m6 40 rfl) rfl
theorem q1371 : (Jvm.Cond.lays "TandemKeepsAPlaceModel" "TandemKeepsAPlaceModel" "ofHour" "I") ∈ lw_all := lw_g (lw_at lw_m6 41 rfl) rfl
theorem q1372 : (Jvm.Cond.soleField "TandemKeepsAPlaceModel" "ofHour") ∈ lw_all := lw_g (lw_at lw_m6 42 rfl) rfl
theorem q1373 : (Jvm.Cond.lays "TandemKeepsAPlaceModel" "TandemKeepsAPlaceModel" "ofBehind" "I") ∈ lw_all := lw_g (lw_at lw_m6 43 rfl) rfl
theorem q1374 : (Jvm.Cond.soleField "TandemKeepsAPlaceModel" "ofBehind") ∈ lw_all := lw_g (lw_at lw_m6 44 rfl) rfl
theorem q1375 : (Jvm.Cond.lays "TandemKeepsAPlaceModel" "TandemKeepsAPlaceModel" "ofTheirs" "I") ∈ lw_all := lw_g (lw_at lw_m6 45 rfl) rfl
theorem q1376 : (Jvm.Cond.soleField "TandemKeepsAPlaceModel" "ofTheirs") ∈ lw_all := lw_g (lw_at lw_m6 46 rfl) rfl
theorem q1377 : (Jvm.Cond.lays "TandemKeepsAPlaceModel" "TandemKeepsAPlaceModel" "textFrom" "I") ∈ lw_all := lw_g (lw_at lw_m6 47 rfl) rfl
theorem q1378 : (Jvm.Cond.soleField "TandemKeepsAPlaceModel" "textFrom") ∈ lw_all := lw_g (lw_at lw_m6 48 rfl) rfl
theorem q1379 : (Jvm.Cond.lays "TandemKeepsAPlaceModel" "TandemKeepsAPlaceModel" "size" "I") ∈ lw_all := lw_g (lw_at lw_m6 49 rfl) rfl
theorem q1380 : (Jvm.Cond.soleField "TandemKeepsAPlaceModel" "size") ∈ lw_all := lw_g (lw_at lw_m6 50 rfl) rfl
theorem q1381 : (Jvm.Cond.lays "TandemKeepsAPlaceModel" "TandemKeepsAPlaceModel" "here" "I") ∈ lw_all := lw_g (lw_at lw_m6 51 rfl) rfl
theorem q1382 : (Jvm.Cond.soleField "TandemKeepsAPlaceModel" "here") ∈ lw_all := lw_g (lw_at lw_m6 52 rfl) rfl
theorem q1383 : (Jvm.Cond.lays "TandemKeepsAPlaceModel" "TandemKeepsAPlaceModel" "token" "I") ∈ lw_all := lw_g (lw_at lw_m6 53 rfl) rfl
theorem q1384 : (Jvm.Cond.soleField "TandemKeepsAPlaceModel" "token") ∈ lw_all := lw_g (lw_at lw_m6 54 rfl) rfl
theorem q1385 : (Jvm.Cond.lays "TandemKeepsAPlaceModel" "TandemKeepsAPlaceModel" "tokenAt" "I") ∈ lw_all := lw_g (lw_at lw_m6 55 rfl) rfl
theorem q1386 : (Jvm.Cond.soleField "TandemKeepsAPlaceModel" "tokenAt") ∈ lw_all := lw_g (lw_at lw_m6 56 rfl) rfl
theorem q1387 : (Jvm.Cond.lays "TandemKeepsAPlaceModel" "TandemKeepsAPlaceModel" "tokenWorth" "J") ∈ lw_all := lw_g (lw_at lw_m6 57 rfl) rfl
theorem q1388 : (Jvm.Cond.soleField "TandemKeepsAPlaceModel" "tokenWorth") ∈ lw_all := lw_g (lw_at lw_m6 58 rfl) rfl
theorem q1389 : (Jvm.Cond.lays "TandemKeepsAPlaceModel" "TandemKeepsAPlaceModel" "open" "I") ∈ lw_all := lw_g (lw_at lw_m6 59 rfl) rfl
theorem q1390 : (Jvm.Cond.soleField "TandemKeepsAPlaceModel" "open") ∈ lw_all := lw_g (lw_at lw_m6 60 rfl) rfl
theorem q1391 : (Jvm.Cond.lays "TandemKeepsAPlaceModel" "TandemKeepsAPlaceModel" "bad" "Z") ∈ lw_all := lw_g (lw_at lw_m6 61 rfl) rfl
theorem q1392 : (Jvm.Cond.soleField "TandemKeepsAPlaceModel" "bad") ∈ lw_all := lw_g (lw_at lw_m6 62 rfl) rfl
theorem q1393 : (Jvm.Cond.lays "TandemKeepsAPlaceModel" "TandemKeepsAPlaceModel" "fault" "I") ∈ lw_all := lw_g (lw_at lw_m6 63 rfl) rfl
theorem q1394 : (Jvm.Cond.soleField "TandemKeepsAPlaceModel" "fault") ∈ lw_all := lw_g (lw_at lw_m6 64 rfl) rfl
theorem q1395 : (Jvm.Cond.laysFinal "TandemKeepsAPlaceModel" "TandemKeepsAPlaceModel" "where" "[I") ∈ lw_all := lw_g (lw_at lw_m6 65 rfl) rfl
theorem q1396 : (Jvm.Cond.soleField "TandemKeepsAPlaceModel" "where") ∈ lw_all := lw_g (lw_at lw_m6 66 rfl) rfl
theorem q1397 : (Jvm.Cond.lays "TandemKeepsAPlaceModel" "TandemKeepsAPlaceModel" "stepMany" "I") ∈ lw_all := lw_g (lw_at lw_m6 67 rfl) rfl
theorem q1398 : (Jvm.Cond.soleField "TandemKeepsAPlaceModel" "stepMany") ∈ lw_all := lw_g (lw_at lw_m6 68 rfl) rfl
theorem q1399 : (Jvm.Cond.lays "TandemKeepsAPlaceModel" "TandemKeepsAPlaceModel" "longAll" "I") ∈ lw_all := lw_g (lw_at lw_m6 69 rfl) rfl
theorem q1400 : (Jvm.Cond.soleField "TandemKeepsAPlaceModel" "longAll") ∈ lw_all := lw_g (lw_at lw_m6 70 rfl) rfl
theorem q1401 : (Jvm.Cond.lays "TandemKeepsAPlaceModel" "TandemKeepsAPlaceModel" "byFront" "I") ∈ lw_all := lw_g (lw_at lw_m6 71 rfl) rfl
theorem q1402 : (Jvm.Cond.soleField "TandemKeepsAPlaceModel" "byFront") ∈ lw_all := lw_g (lw_at lw_m6 72 rfl) rfl
theorem q1403 : (Jvm.Cond.laysFinal "TandemKeepsAPlaceModel" "TandemKeepsAPlaceModel" "pairs" "[I") ∈ lw_all := lw_g (lw_at lw_m6 73 rfl) rfl
theorem q1404 : (Jvm.Cond.soleField "TandemKeepsAPlaceModel" "pairs") ∈ lw_all := lw_g (lw_at lw_m6 74 rfl) rfl
theorem q1405 : (Jvm.Cond.lays "TandemKeepsAPlaceModel" "TandemKeepsAPlaceModel" "bestDigits" "I") ∈ lw_all := lw_g (lw_at lw_m6 75 rfl) rfl
theorem q1406 : (Jvm.Cond.soleField "TandemKeepsAPlaceModel" "bestDigits") ∈ lw_all := lw_g (lw_at lw_m6 76 rfl) rfl
theorem q1407 : (Jvm.Cond.lays "TandemKeepsAPlaceModel" "TandemKeepsAPlaceModel" "bestLong" "I") ∈ lw_all := lw_g (lw_at lw_m6 77 rfl) rfl
theorem q1408 : (Jvm.Cond.soleField "TandemKeepsAPlaceModel" "bestLong") ∈ lw_all := lw_g (lw_at lw_m6 78 rfl) rfl
theorem q1409 : (Jvm.Cond.laysFinal "TandemKeepsAPlaceModel" "TandemKeepsAPlaceModel" "goalsWas" "[I") ∈ lw_all := lw_g (lw_at lw_m6 79 rfl) rfl
theorem q1410 : (Jvm.Cond.soleField "TandemKeepsAPlaceModel" "goalsWas") ∈ lw_all := lw_g (lw_at lw_m6 80 rfl) rfl
theorem q1411 : (Jvm.Cond.laysFinal "TandemKeepsAPlaceModel" "TandemKeepsAPlaceModel" "roadsKept" "[I") ∈ lw_all := lw_g (lw_at lw_m6 81 rfl) rfl
theorem q1412 : (Jvm.Cond.soleField "TandemKeepsAPlaceModel" "roadsKept") ∈ lw_all := lw_g (lw_at lw_m6 82 rfl) rfl
theorem q1413 : (Jvm.Cond.laysFinal "TandemKeepsAPlaceModel" "TandemKeepsAPlaceModel" "rowsKept" "[I") ∈ lw_all := lw_g (lw_at lw_m6 83 rfl) rfl
theorem q1414 : (Jvm.Cond.soleField "TandemKeepsAPlaceModel" "rowsKept") ∈ lw_all := lw_g (lw_at lw_m6 84 rfl) rfl
theorem q1415 : (Jvm.Cond.lays "TandemKeepsAPlaceModel" "TandemKeepsAPlaceModel" "manyKept" "I") ∈ lw_all := lw_g (lw_at lw_m6 85 rfl) rfl
theorem q1416 : (Jvm.Cond.soleField "TandemKeepsAPlaceModel" "manyKept") ∈ lw_all := lw_g (lw_at lw_m6 86 rfl) rfl
theorem q1417 : (Jvm.Cond.lays "TandemKeepsAPlaceModel" "TandemKeepsAPlaceModel" "hourKept" "I") ∈ lw_all := lw_g (lw_at lw_m6 87 rfl) rfl
theorem q1418 : (Jvm.Cond.soleField "TandemKeepsAPlaceModel" "hourKept") ∈ lw_all := lw_g (lw_at lw_m6 88 rfl) rfl
theorem q1419 : (Jvm.Cond.lays "TandemKeepsAPlaceModel" "TandemKeepsAPlaceModel" "ruleKept" "I") ∈ lw_all := lw_g (lw_at lw_m6 89 rfl) rfl
theorem q1420 : (Jvm.Cond.soleField "TandemKeepsAPlaceModel" "ruleKept") ∈ lw_all := lw_g (lw_at lw_m6 90 rfl) rfl
theorem q1421 : (Jvm.Cond.laysFinal "TandemKeepsAPlaceModel" "TandemKeepsAPlaceModel" "isThere" "[Z") ∈ lw_all := lw_g (lw_at lw_m6 91 rfl) rfl
theorem q1422 : (Jvm.Cond.soleField "TandemKeepsAPlaceModel" "isThere") ∈ lw_all := lw_g (lw_at lw_m6 92 rfl) rfl
theorem q1423 : (Jvm.Cond.laysFinal "TandemKeepsAPlaceModel" "TandemKeepsAPlaceModel" "sorts" "[I") ∈ lw_all := lw_g (lw_at lw_m6 93 rfl) rfl
theorem q1424 : (Jvm.Cond.soleField "TandemKeepsAPlaceModel" "sorts") ∈ lw_all := lw_g (lw_at lw_m6 94 rfl) rfl
theorem q1425 : (Jvm.Cond.laysFinal "TandemKeepsAPlaceModel" "TandemKeepsAPlaceModel" "sheetSize" "[I") ∈ lw_all := lw_g (lw_at lw_m6 95 rfl) rfl
theorem q1426 : (Jvm.Cond.soleField "TandemKeepsAPlaceModel" "sheetSize") ∈ lw_all := lw_g (lw_at lw_m6 96 rfl) rfl
theorem q1427 : (Jvm.Cond.laysFinal "TandemKeepsAPlaceModel" "TandemKeepsAPlaceModel" "items" "[I") ∈ lw_all := lw_g (lw_at lw_m6 97 rfl) rfl
theorem q1428 : (Jvm.Cond.soleField "TandemKeepsAPlaceModel" "items") ∈ lw_all := lw_g (lw_at lw_m6 98 rfl) rfl
theorem q1429 : (Jvm.Cond.superclass "TandemKeepsAPlaceModel" "java/lang/Object") ∈ lw_all := lw_g (lw_at lw_m6 99 rfl) rfl
theorem q1432 : (Jvm.Cond.instanceMethod ({ cls := "TandemKeepsAPlaceModel", name := "set", desc := "(III)I" } : Jvm.MethodName)) ∈ lw_all := lw_g (lw_at lw_m6 102 rfl) rfl
theorem q1433 : (Jvm.Cond.selects "TandemKeepsAPlaceModel" ({ cls := "TandemKeepsAPlaceModel", name := "set", desc := "(III)I" } : Jvm.MethodName) ({ cls := "TandemKeepsAPlaceModel", name := "set", desc := "(III)I" } : Jvm.MethodName)) ∈ lw_all := lw_g (lw_at lw_m6 103 rfl) rfl
theorem q1434 : (Jvm.Cond.code ({ cls := "TandemKeepsAPlaceModel", name := "set", desc := "(III)I" } : Jvm.MethodName) prog_16_method_10_code (5 : Nat) (Option.some Jvm.ClassFile.FieldType.int)) ∈ lw_all := lw_g (lw_at lw_m6 104 rfl) rfl
theorem q1435 : (Jvm.Cond.constantLong "TandemKeepsAPlaceModel" (92 : Nat) (2 : Int64)) ∈ lw_all := lw_g (lw_at lw_m6 105 rfl) rfl
theorem q1436 : (Jvm.Cond.methodLink "TandemKeepsAPlaceModel" (82 : Nat) ({ cls := "TandemKeepsAPlaceModel", name := "in", desc := "(JJJ)Z" } : Jvm.MethodName)) ∈ lw_all := lw_g (lw_at lw_m6 106 rfl) rfl
theorem q1437 : (Jvm.Cond.static ({ cls := "TandemKeepsAPlaceModel", name := "in", desc := "(JJJ)Z" } : Jvm.MethodName)) ∈ lw_all := lw_g (lw_at lw_m6 107 rfl) rfl
theorem q1438 : (Jvm.Cond.code ({ cls := "TandemKeepsAPlaceModel", name := "in", desc := "(JJJ)Z" } : Jvm.MethodName) prog_16_method_2_code (6 : Nat) (Option.some Jvm.ClassFile.FieldType.boolean)) ∈ lw_all := lw_g (lw_at lw_m6 108 rfl) rfl
theorem q1439 : (Jvm.Cond.methodLink "TandemKeepsAPlaceModel" (86 : Nat) ({ cls := "TandemKeepsAPlaceModel", name := "isOne", desc := "(I)Z" } : Jvm.MethodName)) ∈ lw_all := lw_g (lw_at lw_m6 109 rfl) rfl
theorem q1440 : (Jvm.Cond.privateMethod ({ cls := "TandemKeepsAPlaceModel", name := "isOne", desc := "(I)Z" } : Jvm.MethodName)) ∈ lw_tbl := lw_at lw_m6 110 rfl
theorem q1441 : (Jvm.Cond.instanceMethod ({ cls := "TandemKeepsAPlaceModel", name := "isOne", desc := "(I)Z" } : Jvm.MethodName)) ∈ lw_all := lw_g (lw_at lw_m6 111 rfl) rfl
theorem q1442 : (Jvm.Cond.code ({ cls := "TandemKeepsAPlaceModel", name := "isOne", desc := "(I)Z" } : Jvm.MethodName) prog_16_method_6_code (2 : Nat) (Option.some Jvm.ClassFile.FieldType.boolean)) ∈ lw_all := lw_g (lw_at lw_m6 112 rfl) rfl
theorem q1443 : (Jvm.Cond.methodLink "TandemKeepsAPlaceModel" (94 : Nat) ({ cls := "TandemKeepsAPlaceModel", name := "mostOf", desc := "(I)I" } : Jvm.MethodName)) ∈ lw_all := lw_g (lw_at lw_m6 113 rfl) rfl
theorem q1444 : (Jvm.Cond.static ({ cls := "TandemKeepsAPlaceModel", name := "mostOf", desc := "(I)I" } : Jvm.MethodName)) ∈ lw_all := lw_g (lw_at lw_m6 114 rfl) rfl
theorem q1445 : (Jvm.Cond.code ({ cls := "TandemKeepsAPlaceModel", name := "mostOf", desc := "(I)I" } : Jvm.MethodName) prog_16_method_9_code (1 : Nat) (Option.some Jvm.ClassFile.FieldType.int)) ∈ lw_all := lw_g (lw_at lw_m6 115 rfl) rfl
theorem q1446 : (Jvm.Cond.methodLink "TandemKeepsAPlaceModel" (98 : Nat) ({ cls := "TandemKeepsAPlaceModel", name := "told", desc := "(II)I" } : Jvm.MethodName)) ∈ lw_all := lw_g (lw_at lw_m6 116 rfl) rfl
theorem q1447 : (Jvm.Cond.instanceMethod ({ cls := "TandemKeepsAPlaceModel", name := "told", desc := "(II)I" } : Jvm.MethodName)) ∈ lw_all := lw_g (lw_at lw_m6 117 rfl) rfl
theorem q1448 : (Jvm.Cond.selects "TandemKeepsAPlaceModel" ({ cls := "TandemKeepsAPlaceModel", name := "told", desc := "(II)I" } : Jvm.MethodName) ({ cls := "TandemKeepsAPlaceModel", name := "told", desc := "(II)I" } : Jvm.MethodName)) ∈ lw_all := lw_g (lw_at lw_m6 118 rfl) rfl
theorem q1449 : (Jvm.Cond.code ({ cls := "TandemKeepsAPlaceModel", name := "told", desc := "(II)I" } : Jvm.MethodName) prog_16_method_16_code (3 : Nat) (Option.some Jvm.ClassFile.FieldType.int)) ∈ lw_all := lw_g (lw_at lw_m6 119 rfl) rfl
theorem q1450 : (Jvm.Cond.constantLong "TandemKeepsAPlaceModel" (117 : Nat) (5 : Int64)) ∈ lw_all := lw_g (lw_at lw_m6 120 rfl) rfl
theorem q1451 : (Jvm.Cond.methodLink "TandemKeepsAPlaceModel" (121 : Nat) ({ cls := "TandemKeepsAPlaceModel", name := "rulesOf", desc := "(I)I" } : Jvm.MethodName)) ∈ lw_all := lw_g (lw_at lw_m6 121 rfl) rfl
theorem q1452 : (Jvm.Cond.privateMethod ({ cls := "TandemKeepsAPlaceModel", name := "rulesOf", desc := "(I)I" } : Jvm.MethodName)) ∈ lw_tbl := lw_at lw_m6 122 rfl
theorem q1453 : (Jvm.Cond.instanceMethod ({ cls := "TandemKeepsAPlaceModel", name := "rulesOf", desc := "(I)I" } : Jvm.MethodName)) ∈ lw_all := lw_g (lw_at lw_m6 123 rfl) rfl
theorem q1454 : (Jvm.Cond.code ({ cls := "TandemKeepsAPlaceModel", name := "rulesOf", desc := "(I)I" } : Jvm.MethodName) prog_16_method_90_code (6 : Nat) (Option.some Jvm.ClassFile.FieldType.int)) ∈ lw_all := lw_g (lw_at lw_m6 124 rfl) rfl
theorem q1455 : (Jvm.Cond.methodLink "TandemKeepsAPlaceModel" (364 : Nat) ({ cls := "TandemKeepsAPlaceModel", name := "steersOf", desc := "(IIII)I" } : Jvm.MethodName)) ∈ lw_all := lw_g (lw_at lw_m6 125 rfl) rfl
theorem q1456 : (Jvm.Cond.privateMethod ({ cls := "TandemKeepsAPlaceModel", name := "steersOf", desc := "(IIII)I" } : Jvm.MethodName)) ∈ lw_tbl := lw_at lw_m6 126 rfl
theorem q1457 : (Jvm.Cond.instanceMethod ({ cls := "TandemKeepsAPlaceModel", name := "steersOf", desc := "(IIII)I" } : Jvm.MethodName)) ∈ lw_all := lw_g (lw_at lw_m6 127 rfl) rfl
theorem q1458 : (Jvm.Cond.code ({ cls := "TandemKeepsAPlaceModel", name := "steersOf", desc := "(IIII)I" } : Jvm.MethodName) prog_16_method_71_code (7 : Nat) (Option.some Jvm.ClassFile.FieldType.int)) ∈ lw_all := lw_g (lw_at lw_m6 128 rfl) rfl
theorem q1459 : (Jvm.Cond.methodLink "TandemKeepsAPlaceModel" (344 : Nat) ({ cls := "TandemKeepsAPlaceModel", name := "pullOf", desc := "(IIZII)I" } : Jvm.MethodName)) ∈ lw_all := lw_g (lw_at lw_m6 129 rfl) rfl
theorem q1460 : (Jvm.Cond.privateMethod ({ cls := "TandemKeepsAPlaceModel", name := "pullOf", desc := "(IIZII)I" } : Jvm.MethodName)) ∈ lw_tbl := lw_at lw_m6 130 rfl
theorem q1461 : (Jvm.Cond.instanceMethod ({ cls := "TandemKeepsAPlaceModel", name := "pullOf", desc := "(IIZII)I" } : Jvm.MethodName)) ∈ lw_all := lw_g (lw_at lw_m6 131 rfl) rfl
theorem q1462 : (Jvm.Cond.code ({ cls := "TandemKeepsAPlaceModel", name := "pullOf", desc := "(IIZII)I" } : Jvm.MethodName) prog_16_method_68_code (9 : Nat) (Option.some Jvm.ClassFile.FieldType.int)) ∈ lw_all := lw_g (lw_at lw_m6 132 rfl) rfl
theorem q1463 : (Jvm.Cond.methodLink "TandemKeepsAPlaceModel" (340 : Nat) ({ cls := "TandemKeepsAPlaceModel", name := "says", desc := "(IIIZII)I" } : Jvm.MethodName)) ∈ lw_all := lw_g (lw_at lw_m6 133 rfl) rfl
theorem q1464 : (Jvm.Cond.privateMethod ({ cls := "TandemKeepsAPlaceModel", name := "says", desc := "(IIIZII)I" } : Jvm.MethodName)) ∈ lw_tbl := lw_at lw_m6 134 rfl
theorem q1465 : (Jvm.Cond.instanceMethod ({ cls := "TandemKeepsAPlaceModel", name := "says", desc := "(IIIZII)I" } : Jvm.MethodName)) ∈ lw_all := lw_g (lw_at lw_m6 135 rfl) rfl
theorem q1466 : (Jvm.Cond.code ({ cls := "TandemKeepsAPlaceModel", name := "says", desc := "(IIIZII)I" } : Jvm.MethodName) prog_16_method_67_code (8 : Nat) (Option.some Jvm.ClassFile.FieldType.int)) ∈ lw_all := lw_g (lw_at lw_m6 136 rfl) rfl
theorem q1467 : (Jvm.Cond.methodLink "TandemKeepsAPlaceModel" (333 : Nat) ({ cls := "TandemKeepsAPlaceModel", name := "goalOf", desc := "(I)I" } : Jvm.MethodName)) ∈ lw_all := lw_g (lw_at lw_m6 137 rfl) rfl
theorem q1468 : (Jvm.Cond.privateMethod ({ cls := "TandemKeepsAPlaceModel", name := "goalOf", desc := "(I)I" } : Jvm.MethodName)) ∈ lw_tbl := lw_at lw_m6 138 rfl
theorem q1469 : (Jvm.Cond.instanceMethod ({ cls := "TandemKeepsAPlaceModel", name := "goalOf", desc := "(I)I" } : Jvm.MethodName)) ∈ lw_all := lw_g (lw_at lw_m6 139 rfl) rfl
theorem q1470 : (Jvm.Cond.code ({ cls := "TandemKeepsAPlaceModel", name := "goalOf", desc := "(I)I" } : Jvm.MethodName) prog_16_method_66_code (2 : Nat) (Option.some Jvm.ClassFile.FieldType.int)) ∈ lw_all := lw_g (lw_at lw_m6 140 rfl) rfl
theorem q1471 : (Jvm.Cond.methodLink "TandemKeepsAPlaceModel" (330 : Nat) ({ cls := "TandemKeepsAPlaceModel", name := "read", desc := "(II)I" } : Jvm.MethodName)) ∈ lw_all := lw_g (lw_at lw_m6 141 rfl) rfl
theorem q1472 : (Jvm.Cond.privateMethod ({ cls := "TandemKeepsAPlaceModel", name := "read", desc := "(II)I" } : Jvm.MethodName)) ∈ lw_tbl := lw_at lw_m6 142 rfl
theorem q1473 : (Jvm.Cond.instanceMethod ({ cls := "TandemKeepsAPlaceModel", name := "read", desc := "(II)I" } : Jvm.MethodName)) ∈ lw_all := lw_g (lw_at lw_m6 143 rfl) rfl
theorem q1474 : (Jvm.Cond.code ({ cls := "TandemKeepsAPlaceModel", name := "read", desc := "(II)I" } : Jvm.MethodName) prog_16_method_63_code (6 : Nat) (Option.some Jvm.ClassFile.FieldType.int)) ∈ lw_all := lw_g (lw_at lw_m6 144 rfl) rfl
theorem q1475 : (Jvm.Cond.methodLink "TandemKeepsAPlaceModel" (178 : Nat) ({ cls := "TandemKeepsAPlaceModel", name := "next", desc := "()V" } : Jvm.MethodName)) ∈ lw_all := lw_g (lw_at lw_m6 145 rfl) rfl
theorem q1476 : (Jvm.Cond.privateMethod ({ cls := "TandemKeepsAPlaceModel", name := "next", desc := "()V" } : Jvm.MethodName)) ∈ lw_tbl := lw_at lw_m6 146 rfl
theorem q1477 : (Jvm.Cond.instanceMethod ({ cls := "TandemKeepsAPlaceModel", name := "next", desc := "()V" } : Jvm.MethodName)) ∈ lw_all := lw_g (lw_at lw_m6 147 rfl) rfl
theorem q1478 : (Jvm.Cond.code ({ cls := "TandemKeepsAPlaceModel", name := "next", desc := "()V" } : Jvm.MethodName) prog_16_method_19_code (3 : Nat) (Option.none : Option Jvm.ClassFile.FieldType)) ∈ lw_all := lw_g (lw_at lw_m6 148 rfl) rfl
theorem q1479 : (Jvm.Cond.methodLink "TandemKeepsAPlaceModel" (138 : Nat) ({ cls := "TandemKeepsAPlaceModel", name := "byteAt", desc := "(I)I" } : Jvm.MethodName)) ∈ lw_all := lw_g (lw_at lw_m6 149 rfl) rfl
theorem q1480 : (Jvm.Cond.privateMethod ({ cls := "TandemKeepsAPlaceModel", name := "byteAt", desc := "(I)I" } : Jvm.MethodName)) ∈ lw_tbl := lw_at lw_m6 150 rfl
theorem q1481 : (Jvm.Cond.instanceMethod ({ cls := "TandemKeepsAPlaceModel", name := "byteAt", desc := "(I)I" } : Jvm.MethodName)) ∈ lw_all := lw_g (lw_at lw_m6 151 rfl) rfl
theorem q1482 : (Jvm.Cond.code ({ cls := "TandemKeepsAPlaceModel", name := "byteAt", desc := "(I)I" } : Jvm.MethodName) prog_16_method_18_code (2 : Nat) (Option.some Jvm.ClassFile.FieldType.int)) ∈ lw_all := lw_g (lw_at lw_m6 152 rfl) rfl
theorem q1483 : (Jvm.Cond.constantLong "TandemKeepsAPlaceModel" (147 : Nat) (97 : Int64)) ∈ lw_all := lw_g (lw_at lw_m6 153 rfl) rfl
theorem q1484 : (Jvm.Cond.constantLong "TandemKeepsAPlaceModel" (149 : Nat) (122 : Int64)) ∈ lw_all := lw_g (lw_at lw_m6 154 rfl) rfl
theorem q1485 : (Jvm.Cond.constantLong "TandemKeepsAPlaceModel" (151 : Nat) (48 : Int64)) ∈ lw_all := lw_g (lw_at lw_m6 155 rfl) rfl
theorem q1486 : (Jvm.Cond.constantLong "TandemKeepsAPlaceModel" (153 : Nat) (57 : Int64)) ∈ lw_all := lw_g (lw_at lw_m6 156 rfl) rfl
theorem q1487 : (Jvm.Cond.constantLong "TandemKeepsAPlaceModel" (159 : Nat) (10 : Int64)) ∈ lw_all := lw_g (lw_at lw_m6 157 rfl) rfl
theorem q1488 : (Jvm.Cond.methodLink "TandemKeepsAPlaceModel" (181 : Nat) ({ cls := "TandemKeepsAPlaceModel", name := "isWord", desc := "(IIIIIIII)Z" } : Jvm.MethodName)) ∈ lw_all := lw_g (lw_at lw_m6 158 rfl) rfl
theorem q1489 : (Jvm.Cond.privateMethod ({ cls := "TandemKeepsAPlaceModel", name := "isWord", desc := "(IIIIIIII)Z" } : Jvm.MethodName)) ∈ lw_tbl := lw_at lw_m6 159 rfl
theorem q1490 : (Jvm.Cond.instanceMethod ({ cls := "TandemKeepsAPlaceModel", name := "isWord", desc := "(IIIIIIII)Z" } : Jvm.MethodName)) ∈ lw_all := lw_g (lw_at lw_m6 160 rfl) rfl
theorem q1491 : (Jvm.Cond.code ({ cls := "TandemKeepsAPlaceModel", name := "isWord", desc := "(IIIIIIII)Z" } : Jvm.MethodName) prog_16_method_22_code (9 : Nat) (Option.some Jvm.ClassFile.FieldType.boolean)) ∈ lw_all := lw_g (lw_at lw_m6 161 rfl) rfl
theorem q1492 : (Jvm.Cond.methodLink "TandemKeepsAPlaceModel" (168 : Nat) ({ cls := "TandemKeepsAPlaceModel", name := "isLetter", desc := "(II)Z" } : Jvm.MethodName)) ∈ lw_all := lw_g (lw_at lw_m6 162 rfl) rfl
theorem q1493 : (Jvm.Cond.privateMethod ({ cls := "TandemKeepsAPlaceModel", name := "isLetter", desc := "(II)Z" } : Jvm.MethodName)) ∈ lw_tbl := lw_at lw_m6 163 rfl
theorem q1494 : (Jvm.Cond.instanceMethod ({ cls := "TandemKeepsAPlaceModel", name := "isLetter", desc := "(II)Z" } : Jvm.MethodName)) ∈ lw_all := lw_g (lw_at lw_m6 164 rfl) rfl
theorem q1495 : (Jvm.Cond.code ({ cls := "TandemKeepsAPlaceModel", name := "isLetter", desc := "(II)Z" } : Jvm.MethodName) prog_16_method_21_code (3 : Nat) (Option.some Jvm.ClassFile.FieldType.boolean)) ∈ lw_all := lw_g (lw_at lw_m6 165 rfl) rfl
theorem q1496 : (Jvm.Cond.methodLink "TandemKeepsAPlaceModel" (326 : Nat) ({ cls := "TandemKeepsAPlaceModel", name := "part", desc := "(Z)I" } : Jvm.MethodName)) ∈ lw_all := lw_g (lw_at lw_m6 166 rfl) rfl
theorem q1497 : (Jvm.Cond.privateMethod ({ cls := "TandemKeepsAPlaceModel", name := "part", desc := "(Z)I" } : Jvm.MethodName)) ∈ lw_tbl := lw_at lw_m6 167 rfl
theorem q1498 : (Jvm.Cond.instanceMethod ({ cls := "TandemKeepsAPlaceModel", name := "part", desc := "(Z)I" } : Jvm.MethodName)) ∈ lw_all := lw_g (lw_at lw_m6 168 rfl) rfl
theorem q1499 : (Jvm.Cond.code ({ cls := "TandemKeepsAPlaceModel", name := "part", desc := "(Z)I" } : Jvm.MethodName) prog_16_method_62_code (3 : Nat) (Option.some Jvm.ClassFile.FieldType.int)) ∈ lw_all := lw_g (lw_at lw_m6 169 rfl) rfl
theorem q1500 : (Jvm.Cond.methodLink "TandemKeepsAPlaceModel" (175 : Nat) ({ cls := "TandemKeepsAPlaceModel", name := "fail", desc := "()V" } : Jvm.MethodName)) ∈ lw_all := lw_g (lw_at lw_m6 170 rfl) rfl
theorem q1501 : (Jvm.Cond.privateMethod ({ cls := "TandemKeepsAPlaceModel", name := "fail", desc := "()V" } : Jvm.MethodName)) ∈ lw_tbl := lw_at lw_m6 171 rfl
theorem q1502 : (Jvm.Cond.instanceMethod ({ cls := "TandemKeepsAPlaceModel", name := "fail", desc := "()V" } : Jvm.MethodName)) ∈ lw_all := lw_g (lw_at lw_m6 172 rfl) rfl
theorem q1503 : (Jvm.Cond.code ({ cls := "TandemKeepsAPlaceModel", name := "fail", desc := "()V" } : Jvm.MethodName) prog_16_method_20_code (1 : Nat) (Option.none : Option Jvm.ClassFile.FieldType)) ∈ lw_all := lw_g (lw_at lw_m6 173 rfl) rfl
theorem q1504 : (Jvm.Cond.methodLink "TandemKeepsAPlaceModel" (323 : Nat) ({ cls := "TandemKeepsAPlaceModel", name := "either0", desc := "()I" } : Jvm.MethodName)) ∈ lw_all := lw_g (lw_at lw_m6 174 rfl) rfl
theorem q1505 : (Jvm.Cond.privateMethod ({ cls := "TandemKeepsAPlaceModel", name := "either0", desc := "()I" } : Jvm.MethodName)) ∈ lw_tbl := lw_at lw_m6 175 rfl
theorem q1506 : (Jvm.Cond.instanceMethod ({ cls := "TandemKeepsAPlaceModel", name := "either0", desc := "()I" } : Jvm.MethodName)) ∈ lw_all := lw_g (lw_at lw_m6 176 rfl) rfl
theorem q1507 : (Jvm.Cond.code ({ cls := "TandemKeepsAPlaceModel", name := "either0", desc := "()I" } : Jvm.MethodName) prog_16_method_61_code (3 : Nat) (Option.some Jvm.ClassFile.FieldType.int)) ∈ lw_all := lw_g (lw_at lw_m6 177 rfl) rfl
theorem q1508 : (Jvm.Cond.methodLink "TandemKeepsAPlaceModel" (320 : Nat) ({ cls := "TandemKeepsAPlaceModel", name := "both0", desc := "()I" } : Jvm.MethodName)) ∈ lw_all := lw_g (lw_at lw_m6 178 rfl) rfl
theorem q1509 : (Jvm.Cond.privateMethod ({ cls := "TandemKeepsAPlaceModel", name := "both0", desc := "()I" } : Jvm.MethodName)) ∈ lw_tbl := lw_at lw_m6 179 rfl
theorem q1510 : (Jvm.Cond.instanceMethod ({ cls := "TandemKeepsAPlaceModel", name := "both0", desc := "()I" } : Jvm.MethodName)) ∈ lw_all := lw_g (lw_at lw_m6 180 rfl) rfl
theorem q1511 : (Jvm.Cond.code ({ cls := "TandemKeepsAPlaceModel", name := "both0", desc := "()I" } : Jvm.MethodName) prog_16_method_60_code (3 : Nat) (Option.some Jvm.ClassFile.FieldType.int)) ∈ lw_all := lw_g (lw_at lw_m6 181 rfl) rfl
theorem q1512 : (Jvm.Cond.methodLink "TandemKeepsAPlaceModel" (317 : Nat) ({ cls := "TandemKeepsAPlaceModel", name := "not0", desc := "()I" } : Jvm.MethodName)) ∈ lw_all := lw_g (lw_at lw_m6 182 rfl) rfl
theorem q1513 : (Jvm.Cond.privateMethod ({ cls := "TandemKeepsAPlaceModel", name := "not0", desc := "()I" } : Jvm.MethodName)) ∈ lw_tbl := lw_at lw_m6 183 rfl
theorem q1514 : (Jvm.Cond.instanceMethod ({ cls := "TandemKeepsAPlaceModel", name := "not0", desc := "()I" } : Jvm.MethodName)) ∈ lw_all := lw_g (lw_at lw_m6 184 rfl) rfl
theorem q1515 : (Jvm.Cond.code ({ cls := "TandemKeepsAPlaceModel", name := "not0", desc := "()I" } : Jvm.MethodName) prog_16_method_59_code (4 : Nat) (Option.some Jvm.ClassFile.FieldType.int)) ∈ lw_all := lw_g (lw_at lw_m6 185 rfl) rfl
theorem q1516 : (Jvm.Cond.methodLink "TandemKeepsAPlaceModel" (206 : Nat) ({ cls := "TandemKeepsAPlaceModel", name := "opens", desc := "()Z" } : Jvm.MethodName)) ∈ lw_all := lw_g (lw_at lw_m6 186 rfl) rfl
theorem q1517 : (Jvm.Cond.privateMethod ({ cls := "TandemKeepsAPlaceModel", name := "opens", desc := "()Z" } : Jvm.MethodName)) ∈ lw_tbl := lw_at lw_m6 187 rfl
theorem q1518 : (Jvm.Cond.instanceMethod ({ cls := "TandemKeepsAPlaceModel", name := "opens", desc := "()Z" } : Jvm.MethodName)) ∈ lw_all := lw_g (lw_at lw_m6 188 rfl) rfl
theorem q1519 : (Jvm.Cond.code ({ cls := "TandemKeepsAPlaceModel", name := "opens", desc := "()Z" } : Jvm.MethodName) prog_16_method_24_code (1 : Nat) (Option.some Jvm.ClassFile.FieldType.boolean)) ∈ lw_all := lw_g (lw_at lw_m6 189 rfl) rfl
theorem q1520 : (Jvm.Cond.methodLink "TandemKeepsAPlaceModel" (299 : Nat) ({ cls := "TandemKeepsAPlaceModel", name := "not1", desc := "()I" } : Jvm.MethodName)) ∈ lw_all := lw_g (lw_at lw_m6 190 rfl) rfl
theorem q1521 : (Jvm.Cond.privateMethod ({ cls := "TandemKeepsAPlaceModel", name := "not1", desc := "()I" } : Jvm.MethodName)) ∈ lw_tbl := lw_at lw_m6 191 rfl
theorem q1522 : (Jvm.Cond.instanceMethod ({ cls := "TandemKeepsAPlaceModel", name := "not1", desc := "()I" } : Jvm.MethodName)) ∈ lw_all := lw_g (lw_at lw_m6 192 rfl) rfl
theorem q1523 : (Jvm.Cond.code ({ cls := "TandemKeepsAPlaceModel", name := "not1", desc := "()I" } : Jvm.MethodName) prog_16_method_53_code (4 : Nat) (Option.some Jvm.ClassFile.FieldType.int)) ∈ lw_all := lw_g (lw_at lw_m6 193 rfl) rfl
theorem q1524 : (Jvm.Cond.methodLink "TandemKeepsAPlaceModel" (281 : Nat) ({ cls := "TandemKeepsAPlaceModel", name := "not2", desc := "()I" } : Jvm.MethodName)) ∈ lw_all := lw_g (lw_at lw_m6 194 rfl) rfl
theorem q1525 : (Jvm.Cond.privateMethod ({ cls := "TandemKeepsAPlaceModel", name := "not2", desc := "()I" } : Jvm.MethodName)) ∈ lw_tbl := lw_at lw_m6 195 rfl
theorem q1526 : (Jvm.Cond.instanceMethod ({ cls := "TandemKeepsAPlaceModel", name := "not2", desc := "()I" } : Jvm.MethodName)) ∈ lw_all := lw_g (lw_at lw_m6 196 rfl) rfl
theorem q1527 : (Jvm.Cond.code ({ cls := "TandemKeepsAPlaceModel", name := "not2", desc := "()I" } : Jvm.MethodName) prog_16_method_47_code (4 : Nat) (Option.some Jvm.ClassFile.FieldType.int)) ∈ lw_all := lw_g (lw_at lw_m6 197 rfl) rfl
theorem q1528 : (Jvm.Cond.methodLink "TandemKeepsAPlaceModel" (263 : Nat) ({ cls := "TandemKeepsAPlaceModel", name := "not3", desc := "()I" } : Jvm.MethodName)) ∈ lw_all := lw_g (lw_at lw_m6 198 rfl) rfl
theorem q1529 : (Jvm.Cond.privateMethod ({ cls := "TandemKeepsAPlaceModel", name := "not3", desc := "()I" } : Jvm.MethodName)) ∈ lw_tbl := lw_at lw_m6 199 rfl
theorem q1530 : (Jvm.Cond.instanceMethod ({ cls := "TandemKeepsAPlaceModel", name := "not3", desc := "()I" } : Jvm.MethodName)) ∈ lw_all := lw_g (lw_at lw_m6 200 rfl) rfl
theorem q1531 : (Jvm.Cond.code ({ cls := "TandemKeepsAPlaceModel", name := "not3", desc := "()I" } : Jvm.MethodName) prog_16_method_41_code (4 : Nat) (Option.some Jvm.ClassFile.FieldType.int)) ∈ lw_all := lw_g (lw_at lw_m6 201 rfl) rfl
theorem q1532 : (Jvm.Cond.methodLink "TandemKeepsAPlaceModel" (245 : Nat) ({ cls := "TandemKeepsAPlaceModel", name := "not4", desc := "()I" } : Jvm.MethodName)) ∈ lw_all := lw_g (lw_at lw_m6 202 rfl) rfl
theorem q1533 : (Jvm.Cond.privateMethod ({ cls := "TandemKeepsAPlaceModel", name := "not4", desc := "()I" } : Jvm.MethodName)) ∈ lw_tbl := lw_at lw_m6 203 rfl
theorem q1534 : (Jvm.Cond.instanceMethod ({ cls := "TandemKeepsAPlaceModel", name := "not4", desc := "()I" } : Jvm.MethodName)) ∈ lw_all := lw_g (lw_at lw_m6 204 rfl) rfl
theorem q1535 : (Jvm.Cond.code ({ cls := "TandemKeepsAPlaceModel", name := "not4", desc := "()I" } : Jvm.MethodName) prog_16_method_35_code (4 : Nat) (Option.some Jvm.ClassFile.FieldType.int)) ∈ lw_all := lw_g (lw_at lw_m6 205 rfl) rfl
theorem q1536 : (Jvm.Cond.methodLink "TandemKeepsAPlaceModel" (227 : Nat) ({ cls := "TandemKeepsAPlaceModel", name := "not5", desc := "()I" } : Jvm.MethodName)) ∈ lw_all := lw_g (lw_at lw_m6 206 rfl) rfl
theorem q1537 : (Jvm.Cond.privateMethod ({ cls := "TandemKeepsAPlaceModel", name := "not5", desc := "()I" } : Jvm.MethodName)) ∈ lw_tbl := lw_at lw_m6 207 rfl
theorem q1538 : (Jvm.Cond.instanceMethod ({ cls := "TandemKeepsAPlaceModel", name := "not5", desc := "()I" } : Jvm.MethodName)) ∈ lw_all := lw_g (lw_at lw_m6 208 rfl) rfl
theorem q1539 : (Jvm.Cond.code ({ cls := "TandemKeepsAPlaceModel", name := "not5", desc := "()I" } : Jvm.MethodName) prog_16_method_29_code (4 : Nat) (Option.some Jvm.ClassFile.FieldType.int)) ∈ lw_all := lw_g (lw_at lw_m6 209 rfl) rfl
theorem q1540 : (Jvm.Cond.methodLink "TandemKeepsAPlaceModel" (222 : Nat) ({ cls := "TandemKeepsAPlaceModel", name := "added5", desc := "()I" } : Jvm.MethodName)) ∈ lw_all := lw_g (lw_at lw_m6 210 rfl) rfl
theorem q1541 : (Jvm.Cond.privateMethod ({ cls := "TandemKeepsAPlaceModel", name := "added5", desc := "()I" } : Jvm.MethodName)) ∈ lw_tbl := lw_at lw_m6 211 rfl
theorem q1542 : (Jvm.Cond.instanceMethod ({ cls := "TandemKeepsAPlaceModel", name := "added5", desc := "()I" } : Jvm.MethodName)) ∈ lw_all := lw_g (lw_at lw_m6 212 rfl) rfl
theorem q1543 : (Jvm.Cond.code ({ cls := "TandemKeepsAPlaceModel", name := "added5", desc := "()I" } : Jvm.MethodName) prog_16_method_28_code (4 : Nat) (Option.some Jvm.ClassFile.FieldType.int)) ∈ lw_all := lw_g (lw_at lw_m6 213 rfl) rfl
theorem q1544 : (Jvm.Cond.methodLink "TandemKeepsAPlaceModel" (217 : Nat) ({ cls := "TandemKeepsAPlaceModel", name := "term5", desc := "()I" } : Jvm.MethodName)) ∈ lw_all := lw_g (lw_at lw_m6 214 rfl) rfl
theorem q1545 : (Jvm.Cond.privateMethod ({ cls := "TandemKeepsAPlaceModel", name := "term5", desc := "()I" } : Jvm.MethodName)) ∈ lw_tbl := lw_at lw_m6 215 rfl
theorem q1546 : (Jvm.Cond.instanceMethod ({ cls := "TandemKeepsAPlaceModel", name := "term5", desc := "()I" } : Jvm.MethodName)) ∈ lw_all := lw_g (lw_at lw_m6 216 rfl) rfl
theorem q1547 : (Jvm.Cond.code ({ cls := "TandemKeepsAPlaceModel", name := "term5", desc := "()I" } : Jvm.MethodName) prog_16_method_27_code (2 : Nat) (Option.some Jvm.ClassFile.FieldType.int)) ∈ lw_all := lw_g (lw_at lw_m6 217 rfl) rfl
theorem q1548 : (Jvm.Cond.methodLink "TandemKeepsAPlaceModel" (214 : Nat) ({ cls := "TandemKeepsAPlaceModel", name := "atom5", desc := "()I" } : Jvm.MethodName)) ∈ lw_all := lw_g (lw_at lw_m6 218 rfl) rfl
theorem q1549 : (Jvm.Cond.privateMethod ({ cls := "TandemKeepsAPlaceModel", name := "atom5", desc := "()I" } : Jvm.MethodName)) ∈ lw_tbl := lw_at lw_m6 219 rfl
theorem q1550 : (Jvm.Cond.instanceMethod ({ cls := "TandemKeepsAPlaceModel", name := "atom5", desc := "()I" } : Jvm.MethodName)) ∈ lw_all := lw_g (lw_at lw_m6 220 rfl) rfl
theorem q1551 : (Jvm.Cond.code ({ cls := "TandemKeepsAPlaceModel", name := "atom5", desc := "()I" } : Jvm.MethodName) prog_16_method_26_code (2 : Nat) (Option.some Jvm.ClassFile.FieldType.int)) ∈ lw_all := lw_g (lw_at lw_m6 221 rfl) rfl
theorem q1552 : (Jvm.Cond.methodLink "TandemKeepsAPlaceModel" (203 : Nat) ({ cls := "TandemKeepsAPlaceModel", name := "isSign", desc := "(I)Z" } : Jvm.MethodName)) ∈ lw_all := lw_g (lw_at lw_m6 222 rfl) rfl
theorem q1553 : (Jvm.Cond.privateMethod ({ cls := "TandemKeepsAPlaceModel", name := "isSign", desc := "(I)Z" } : Jvm.MethodName)) ∈ lw_tbl := lw_at lw_m6 223 rfl
theorem q1554 : (Jvm.Cond.instanceMethod ({ cls := "TandemKeepsAPlaceModel", name := "isSign", desc := "(I)Z" } : Jvm.MethodName)) ∈ lw_all := lw_g (lw_at lw_m6 224 rfl) rfl
theorem q1555 : (Jvm.Cond.code ({ cls := "TandemKeepsAPlaceModel", name := "isSign", desc := "(I)Z" } : Jvm.MethodName) prog_16_method_23_code (2 : Nat) (Option.some Jvm.ClassFile.FieldType.boolean)) ∈ lw_all := lw_g (lw_at lw_m6 225 rfl) rfl
theorem q1556 : (Jvm.Cond.methodLink "TandemKeepsAPlaceModel" (210 : Nat) ({ cls := "TandemKeepsAPlaceModel", name := "name", desc := "()I" } : Jvm.MethodName)) ∈ lw_all := lw_g (lw_at lw_m6 226 rfl) rfl
theorem q1557 : (Jvm.Cond.privateMethod ({ cls := "TandemKeepsAPlaceModel", name := "name", desc := "()I" } : Jvm.MethodName)) ∈ lw_tbl := lw_at lw_m6 227 rfl
theorem q1558 : (Jvm.Cond.instanceMethod ({ cls := "TandemKeepsAPlaceModel", name := "name", desc := "()I" } : Jvm.MethodName)) ∈ lw_all := lw_g (lw_at lw_m6 228 rfl) rfl
theorem q1559 : (Jvm.Cond.code ({ cls := "TandemKeepsAPlaceModel", name := "name", desc := "()I" } : Jvm.MethodName) prog_16_method_25_code (1 : Nat) (Option.some Jvm.ClassFile.FieldType.int)) ∈ lw_all := lw_g (lw_at lw_m6 229 rfl) rfl
theorem q1560 : (Jvm.Cond.constantLong "TandemKeepsAPlaceModel" (220 : Nat) (43 : Int64)) ∈ lw_all := lw_g (lw_at lw_m6 230 rfl) rfl
theorem q1561 : (Jvm.Cond.constantLong "TandemKeepsAPlaceModel" (225 : Nat) (60 : Int64)) ∈ lw_all := lw_g (lw_at lw_m6 231 rfl) rfl
theorem q1562 : (Jvm.Cond.methodLink "TandemKeepsAPlaceModel" (242 : Nat) ({ cls := "TandemKeepsAPlaceModel", name := "added4", desc := "()I" } : Jvm.MethodName)) ∈ lw_all := lw_g (lw_at lw_m6 232 rfl) rfl
theorem q1563 : (Jvm.Cond.privateMethod ({ cls := "TandemKeepsAPlaceModel", name := "added4", desc := "()I" } : Jvm.MethodName)) ∈ lw_tbl := lw_at lw_m6 233 rfl
theorem q1564 : (Jvm.Cond.instanceMethod ({ cls := "TandemKeepsAPlaceModel", name := "added4", desc := "()I" } : Jvm.MethodName)) ∈ lw_all := lw_g (lw_at lw_m6 234 rfl) rfl
theorem q1565 : (Jvm.Cond.code ({ cls := "TandemKeepsAPlaceModel", name := "added4", desc := "()I" } : Jvm.MethodName) prog_16_method_34_code (4 : Nat) (Option.some Jvm.ClassFile.FieldType.int)) ∈ lw_all := lw_g (lw_at lw_m6 235 rfl) rfl
theorem q1566 : (Jvm.Cond.methodLink "TandemKeepsAPlaceModel" (239 : Nat) ({ cls := "TandemKeepsAPlaceModel", name := "term4", desc := "()I" } : Jvm.MethodName)) ∈ lw_all := lw_g (lw_at lw_m6 236 rfl) rfl
theorem q1567 : (Jvm.Cond.privateMethod ({ cls := "TandemKeepsAPlaceModel", name := "term4", desc := "()I" } : Jvm.MethodName)) ∈ lw_tbl := lw_at lw_m6 237 rfl
theorem q1568 : (Jvm.Cond.instanceMethod ({ cls := "TandemKeepsAPlaceModel", name := "term4", desc := "()I" } : Jvm.MethodName)) ∈ lw_all := lw_g (lw_at lw_m6 238 rfl) rfl
theorem q1569 : (Jvm.Cond.code ({ cls := "TandemKeepsAPlaceModel", name := "term4", desc := "()I" } : Jvm.MethodName) prog_16_method_33_code (2 : Nat) (Option.some Jvm.ClassFile.FieldType.int)) ∈ lw_all := lw_g (lw_at lw_m6 239 rfl) rfl
theorem q1570 : (Jvm.Cond.methodLink "TandemKeepsAPlaceModel" (236 : Nat) ({ cls := "TandemKeepsAPlaceModel", name := "atom4", desc := "()I" } : Jvm.MethodName)) ∈ lw_all := lw_g (lw_at lw_m7 0 rfl) rfl
theorem q1571 : (Jvm.Cond.privateMethod ({ cls := "TandemKeepsAPlaceModel", name := "atom4", desc := "()I" } : Jvm.MethodName)) ∈ lw_tbl := lw_at lw_m7 1 rfl
theorem q1572 : (Jvm.Cond.instanceMethod ({ cls := "TandemKeepsAPlaceModel", name := "atom4", desc := "()I" } : Jvm.MethodName)) ∈ lw_all := lw_g (lw_at lw_m7 2 rfl) rfl
theorem q1573 : (Jvm.Cond.code ({ cls := "TandemKeepsAPlaceModel", name := "atom4", desc := "()I" } : Jvm.MethodName) prog_16_method_32_code (2 : Nat) (Option.some Jvm.ClassFile.FieldType.int)) ∈ lw_all := lw_g (lw_at lw_m7 3 rfl) rfl
theorem q1574 : (Jvm.Cond.methodLink "TandemKeepsAPlaceModel" (233 : Nat) ({ cls := "TandemKeepsAPlaceModel", name := "either5", desc := "()I" } : Jvm.MethodName)) ∈ lw_all := lw_g (lw_at lw_m7 4 rfl) rfl
theorem q1575 : (Jvm.Cond.privateMethod ({ cls := "TandemKeepsAPlaceModel", name := "either5", desc := "()I" } : Jvm.MethodName)) ∈ lw_tbl := lw_at lw_m7 5 rfl
theorem q1576 : (Jvm.Cond.instanceMethod ({ cls := "TandemKeepsAPlaceModel", name := "either5", desc := "()I" } : Jvm.MethodName)) ∈ lw_all := lw_g (lw_at lw_m7 6 rfl) rfl
theorem q1577 : (Jvm.Cond.code ({ cls := "TandemKeepsAPlaceModel", name := "either5", desc := "()I" } : Jvm.MethodName) prog_16_method_31_code (3 : Nat) (Option.some Jvm.ClassFile.FieldType.int)) ∈ lw_all := lw_g (lw_at lw_m7 7 rfl) rfl
theorem q1578 : (Jvm.Cond.methodLink "TandemKeepsAPlaceModel" (230 : Nat) ({ cls := "TandemKeepsAPlaceModel", name := "both5", desc := "()I" } : Jvm.MethodName)) ∈ lw_all := lw_g (lw_at lw_m7 8 rfl) rfl
theorem q1579 : (Jvm.Cond.privateMethod ({ cls := "TandemKeepsAPlaceModel", name := "both5", desc := "()I" } : Jvm.MethodName)) ∈ lw_tbl := lw_at lw_m7 9 rfl
theorem q1580 : (Jvm.Cond.instanceMethod ({ cls := "TandemKeepsAPlaceModel", name := "both5", desc := "()I" } : Jvm.MethodName)) ∈ lw_all := lw_g (lw_at lw_m7 10 rfl) rfl
theorem q1581 : (Jvm.Cond.code ({ cls := "TandemKeepsAPlaceModel", name := "both5", desc := "()I" } : Jvm.MethodName) prog_16_method_30_code (3 : Nat) (Option.some Jvm.ClassFile.FieldType.int)) ∈ lw_all := lw_g (lw_at lw_m7 11 rfl) rfl
theorem q1582 : (Jvm.Cond.methodLink "TandemKeepsAPlaceModel" (260 : Nat) ({ cls := "TandemKeepsAPlaceModel", name := "added3", desc := "()I" } : Jvm.MethodName)) ∈ lw_all := lw_g (lw_at lw_m7 12 rfl) rfl
theorem q1583 : (Jvm.Cond.privateMethod ({ cls := "TandemKeepsAPlaceModel", name := "added3", desc := "()I" } : Jvm.MethodName)) ∈ lw_tbl := lw_at lw_m7 13 rfl
theorem q1584 : (Jvm.Cond.instanceMethod ({ cls := "TandemKeepsAPlaceModel", name := "added3", desc := "()I" } : Jvm.MethodName)) ∈ lw_all := lw_g (lw_at lw_m7 14 rfl) rfl
theorem q1585 : (Jvm.Cond.code ({ cls := "TandemKeepsAPlaceModel", name := "added3", desc := "()I" } : Jvm.MethodName) prog_16_method_40_code (4 : Nat) (Option.some Jvm.ClassFile.FieldType.int)) ∈ lw_all := lw_g (lw_at lw_m7 15 rfl) rfl
theorem q1586 : (Jvm.Cond.methodLink "TandemKeepsAPlaceModel" (257 : Nat) ({ cls := "TandemKeepsAPlaceModel", name := "term3", desc := "()I" } : Jvm.MethodName)) ∈ lw_all := lw_g (lw_at lw_m7 16 rfl) rfl
theorem q1587 : (Jvm.Cond.privateMethod ({ cls := "TandemKeepsAPlaceModel", name := "term3", desc := "()I" } : Jvm.MethodName)) ∈ lw_tbl := lw_at lw_m7 17 rfl
theorem q1588 : (Jvm.Cond.instanceMethod ({ cls := "TandemKeepsAPlaceModel", name := "term3", desc := "()I" } : Jvm.MethodName)) ∈ lw_all := lw_g (lw_at lw_m7 18 rfl) rfl
theorem q1589 : (Jvm.Cond.code ({ cls := "TandemKeepsAPlaceModel", name := "term3", desc := "()I" } : Jvm.MethodName) prog_16_method_39_code (2 : Nat) (Option.some Jvm.ClassFile.FieldType.int)) ∈ lw_all := lw_g (lw_at lw_m7 19 rfl) rfl
theorem q1590 : (Jvm.Cond.methodLink "TandemKeepsAPlaceModel" (254 : Nat) ({ cls := "TandemKeepsAPlaceModel", name := "atom3", desc := "()I" } : Jvm.MethodName)) ∈ lw_all := lw_g (lw_at lw_m7 20 rfl) rfl
theorem q1591 : (Jvm.Cond.privateMethod ({ cls := "TandemKeepsAPlaceModel", name := "atom3", desc := "()I" } : Jvm.MethodName)) ∈ lw_tbl := lw_at lw_m7 21 rfl
theorem q1592 : (Jvm.Cond.instanceMethod ({ cls := "TandemKeepsAPlaceModel", name := "atom3", desc := "()I" } : Jvm.MethodName)) ∈ lw_all := lw_g (lw_at lw_m7 22 rfl) rfl
theorem q1593 : (Jvm.Cond.code ({ cls := "TandemKeepsAPlaceModel", name := "atom3", desc := "()I" } : Jvm.MethodName) prog_16_method_38_code (2 : Nat) (Option.some Jvm.ClassFile.FieldType.int)) ∈ lw_all := lw_g (lw_at lw_m7 23 rfl) rfl
theorem q1594 : (Jvm.Cond.methodLink "TandemKeepsAPlaceModel" (251 : Nat) ({ cls := "TandemKeepsAPlaceModel", name := "either4", desc := "()I" } : Jvm.MethodName)) ∈ lw_all := lw_g (lw_at lw_m7 24 rfl) rfl
theorem q1595 : (Jvm.Cond.privateMethod ({ cls := "TandemKeepsAPlaceModel", name := "either4", desc := "()I" } : Jvm.MethodName)) ∈ lw_tbl := lw_at lw_m7 25 rfl
theorem q1596 : (Jvm.Cond.instanceMethod ({ cls := "TandemKeepsAPlaceModel", name := "either4", desc := "()I" } : Jvm.MethodName)) ∈ lw_all := lw_g (lw_at lw_m7 26 rfl) rfl
theorem q1597 : (Jvm.Cond.code ({ cls := "TandemKeepsAPlaceModel", name := "either4", desc := "()I" } : Jvm.MethodName) prog_16_method_37_code (3 : Nat) (Option.some Jvm.ClassFile.FieldType.int)) ∈ lw_all := lw_g (lw_at lw_m7 27 rfl) rfl
theorem q1598 : (Jvm.Cond.methodLink "TandemKeepsAPlaceModel" (248 : Nat) ({ cls := "TandemKeepsAPlaceModel", name := "both4", desc := "()I" } : Jvm.MethodName)) ∈ lw_all := lw_g (lw_at lw_m7 28 rfl) rfl
theorem q1599 : (Jvm.Cond.privateMethod ({ cls := "TandemKeepsAPlaceModel", name := "both4", desc := "()I" } : Jvm.MethodName)) ∈ lw_tbl := lw_at lw_m7 29 rfl
theorem q1600 : (Jvm.Cond.instanceMethod ({ cls := "TandemKeepsAPlaceModel", name := "both4", desc := "()I" } : Jvm.MethodName)) ∈ lw_all := lw_g (lw_at lw_m7 30 rfl) rfl
theorem q1601 : (Jvm.Cond.code ({ cls := "TandemKeepsAPlaceModel", name := "both4", desc := "()I" } : Jvm.MethodName) prog_16_method_36_code (3 : Nat) (Option.some Jvm.ClassFile.FieldType.int)) ∈ lw_all := lw_g (lw_at lw_m7 31 rfl) rfl
theorem q1602 : (Jvm.Cond.methodLink "TandemKeepsAPlaceModel" (278 : Nat) ({ cls := "TandemKeepsAPlaceModel", name := "added2", desc := "()I" } : Jvm.MethodName)) ∈ lw_all := lw_g (lw_at lw_m7 32 rfl) rfl
theorem q1603 : (Jvm.Cond.privateMethod ({ cls := "TandemKeepsAPlaceModel", name := "added2", desc := "()I" } : Jvm.MethodName)) ∈ lw_tbl := lw_at lw_m7 33 rfl
theorem q1604 : (Jvm.Cond.instanceMethod ({ cls := "TandemKeepsAPlaceModel", name := "added2", desc := "()I" } : Jvm.MethodName)) ∈ lw_all := lw_g (lw_at lw_m7 34 rfl) rfl
theorem q1605 : (Jvm.Cond.code ({ cls := "TandemKeepsAPlaceModel", name := "added2", desc := "()I" } : Jvm.MethodName) prog_16_method_46_code (4 : Nat) (Option.some Jvm.ClassFile.FieldType.int)) ∈ lw_all := lw_g (lw_at lw_m7 35 rfl) rfl
theorem q1606 : (Jvm.Cond.methodLink "TandemKeepsAPlaceModel" (275 : Nat) ({ cls := "TandemKeepsAPlaceModel", name := "term2", desc := "()I" } : Jvm.MethodName)) ∈ lw_all := lw_g (lw_at lw_m7 36 rfl) rfl
theorem q1607 : (Jvm.Cond.privateMethod ({ cls := "TandemKeepsAPlaceModel", name := "term2", desc := "()I" } : Jvm.MethodName)) ∈ lw_tbl := lw_at lw_m7 37 rfl
theorem q1608 : (Jvm.Cond.instanceMethod ({ cls := "TandemKeepsAPlaceModel", name := "term2", desc := "()I" } : Jvm.MethodName)) ∈ lw_all := lw_g (lw_at lw_m7 38 rfl) rfl
theorem q1609 : (Jvm.Cond.code ({ cls := "TandemKeepsAPlaceModel", name := "term2", desc := "()I" } : Jvm.MethodName) prog_16_method_45_code (2 : Nat) (Option.some Jvm.ClassFile.FieldType.int)) ∈ lw_all := lw_g (lw_at lw_m7 39 rfl) rfl
theorem q1610 : (Jvm.Cond.methodLink "TandemKeepsAPlaceModel" (272 : Nat) ({ cls := "TandemKeepsAPlaceModel", name := "atom2", desc := "()I" } : Jvm.MethodName)) ∈ lw_all := lw_g (lw_at lw_m7 40 rfl) rfl
theorem q1611 : (Jvm.Cond.privateMethod ({ cls := "TandemKeepsAPlaceModel", name := "atom2", desc := "()I" } : Jvm.MethodName)) ∈ lw_tbl := lw_at lw_m7 41 rfl
theorem q1612 : (Jvm.Cond.instanceMethod ({ cls := "TandemKeepsAPlaceModel", name := "atom2", desc := "()I" } : Jvm.MethodName)) ∈ lw_all := lw_g (lw_at lw_m7 42 rfl) rfl
theorem q1613 : (Jvm.Cond.code ({ cls := "TandemKeepsAPlaceModel", name := "atom2", desc := "()I" } : Jvm.MethodName) prog_16_method_44_code (2 : Nat) (Option.some Jvm.ClassFile.FieldType.int)) ∈ lw_all := lw_g (lw_at lw_m7 43 rfl) rfl
theorem q1614 : (Jvm.Cond.methodLink "TandemKeepsAPlaceModel" (269 : Nat) ({ cls := "TandemKeepsAPlaceModel", name := "either3", desc := "()I" } : Jvm.MethodName)) ∈ lw_all := lw_g (lw_at lw_m7 44 rfl) rfl
theorem q1615 : (Jvm.Cond.privateMethod ({ cls := "TandemKeepsAPlaceModel", name := "either3", desc := "()I" } : Jvm.MethodName)) ∈ lw_tbl := lw_at lw_m7 45 rfl
theorem q1616 : (Jvm.Cond.instanceMethod ({ cls := "TandemKeepsAPlaceModel", name := "either3", desc := "()I" } : Jvm.MethodName)) ∈ lw_all := lw_g (lw_at lw_m7 46 rfl) rfl
theorem q1617 : (Jvm.Cond.code ({ cls := "TandemKeepsAPlaceModel", name := "either3", desc := "()I" } : Jvm.MethodName) prog_16_method_43_code (3 : Nat) (Option.some Jvm.ClassFile.FieldType.int)) ∈ lw_all := lw_g (lw_at lw_m7 47 rfl) rfl
theorem q1618 : (Jvm.Cond.methodLink "TandemKeepsAPlaceModel" (266 : Nat) ({ cls := "TandemKeepsAPlaceModel", name := "both3", desc := "()I" } : Jvm.MethodName)) ∈ lw_all := lw_g (lw_at lw_m7 48 rfl) rfl
theorem q1619 : (Jvm.Cond.privateMethod ({ cls := "TandemKeepsAPlaceModel", name := "both3", desc := "()I" } : Jvm.MethodName)) ∈ lw_tbl := lw_at lw_m7 49 rfl
theorem q1620 : (Jvm.Cond.instanceMethod ({ cls := "TandemKeepsAPlaceModel", name := "both3", desc := "()I" } : Jvm.MethodName)) ∈ lw_all := lw_g (lw_at lw_m7 50 rfl) rfl
theorem q1621 : (Jvm.Cond.code ({ cls := "TandemKeepsAPlaceModel", name := "both3", desc := "()I" } : Jvm.MethodName) prog_16_method_42_code (3 : Nat) (Option.some Jvm.ClassFile.FieldType.int)) ∈ lw_all := lw_g (lw_at lw_m7 51 rfl) rfl
theorem q1622 : (Jvm.Cond.methodLink "TandemKeepsAPlaceModel" (296 : Nat) ({ cls := "TandemKeepsAPlaceModel", name := "added1", desc := "()I" } : Jvm.MethodName)) ∈ lw_all := lw_g (lw_at lw_m7 52 rfl) rfl
theorem q1623 : (Jvm.Cond.privateMethod ({ cls := "TandemKeepsAPlaceModel", name := "added1", desc := "()I" } : Jvm.MethodName)) ∈ lw_tbl := lw_at lw_m7 53 rfl
theorem q1624 : (Jvm.Cond.instanceMethod ({ cls := "TandemKeepsAPlaceModel", name := "added1", desc := "()I" } : Jvm.MethodName)) ∈ lw_all := lw_g (lw_at lw_m7 54 rfl) rfl
theorem q1625 : (Jvm.Cond.code ({ cls := "TandemKeepsAPlaceModel", name := "added1", desc := "()I" } : Jvm.MethodName) prog_16_method_52_code (4 : Nat) (Option.some Jvm.ClassFile.FieldType.int)) ∈ lw_all := lw_g (lw_at lw_m7 55 rfl) rfl
theorem q1626 : (Jvm.Cond.methodLink "TandemKeepsAPlaceModel" (293 : Nat) ({ cls := "TandemKeepsAPlaceModel", name := "term1", desc := "()I" } : Jvm.MethodName)) ∈ lw_all := lw_g (lw_at lw_m7 56 rfl) rfl
theorem q1627 : (Jvm.Cond.privateMethod ({ cls := "TandemKeepsAPlaceModel", name := "term1", desc := "()I" } : Jvm.MethodName)) ∈ lw_tbl := lw_at lw_m7 57 rfl
theorem q1628 : (Jvm.Cond.instanceMethod ({ cls := "TandemKeepsAPlaceModel", name := "term1", desc := "()I" } : Jvm.MethodName)) ∈ lw_all := lw_g (lw_at lw_m7 58 rfl) rfl
theorem q1629 : (Jvm.Cond.code ({ cls := "TandemKeepsAPlaceModel", name := "term1", desc := "()I" } : Jvm.MethodName) prog_16_method_51_code (2 : Nat) (Option.some Jvm.ClassFile.FieldType.int)) ∈ lw_all := lw_g (lw_at lw_m7 59 rfl) rfl
theorem q1630 : (Jvm.Cond.methodLink "TandemKeepsAPlaceModel" (290 : Nat) ({ cls := "TandemKeepsAPlaceModel", name := "atom1", desc := "()I" } : Jvm.MethodName)) ∈ lw_all := lw_g (lw_at lw_m7 60 rfl) rfl
theorem q1631 : (Jvm.Cond.privateMethod ({ cls := "TandemKeepsAPlaceModel", name := "atom1", desc := "()I" } : Jvm.MethodName)) ∈ lw_tbl := lw_at lw_m7 61 rfl
theorem q1632 : (Jvm.Cond.instanceMethod ({ cls := "TandemKeepsAPlaceModel", name := "atom1", desc := "()I" } : Jvm.MethodName)) ∈ lw_all := lw_g (lw_at lw_m7 62 rfl) rfl
theorem q1633 : (Jvm.Cond.code ({ cls := "TandemKeepsAPlaceModel", name := "atom1", desc := "()I" } : Jvm.MethodName) prog_16_method_50_code (2 : Nat) (Option.some Jvm.ClassFile.FieldType.int)) ∈ lw_all := lw_g (lw_at lw_m7 63 rfl) rfl
theorem q1634 : (Jvm.Cond.methodLink "TandemKeepsAPlaceModel" (287 : Nat) ({ cls := "TandemKeepsAPlaceModel", name := "either2", desc := "()I" } : Jvm.MethodName)) ∈ lw_all := lw_g (lw_at lw_m7 64 rfl) rfl
theorem q1635 : (Jvm.Cond.privateMethod ({ cls := "TandemKeepsAPlaceModel", name := "either2", desc := "()I" } : Jvm.MethodName)) ∈ lw_tbl := lw_at lw_m7 65 rfl
theorem q1636 : (Jvm.Cond.instanceMethod ({ cls := "TandemKeepsAPlaceModel", name := "either2", desc := "()I" } : Jvm.MethodName)) ∈ lw_all := lw_g (lw_at lw_m7 66 rfl) rfl
theorem q1637 : (Jvm.Cond.code ({ cls := "TandemKeepsAPlaceModel", name := "either2", desc := "()I" } : Jvm.MethodName) prog_16_method_49_code (3 : Nat) (Option.some Jvm.ClassFile.FieldType.int)) ∈ lw_all := lw_g (lw_at lw_m7 67 rfl) rfl
theorem q1638 : (Jvm.Cond.methodLink "TandemKeepsAPlaceModel" (284 : Nat) ({ cls := "TandemKeepsAPlaceModel", name := "both2", desc := "()I" } : Jvm.MethodName)) ∈ lw_all := lw_g (lw_at lw_m7 68 rfl) rfl
theorem q1639 : (Jvm.Cond.privateMethod ({ cls := "TandemKeepsAPlaceModel", name := "both2", desc := "()I" } : Jvm.MethodName)) ∈ lw_tbl := lw_at lw_m7 69 rfl
theorem q1640 : (Jvm.Cond.instanceMethod ({ cls := "TandemKeepsAPlaceModel", name := "both2", desc := "()I" } : Jvm.MethodName)) ∈ lw_all := lw_g (lw_at lw_m7 70 rfl) rfl
theorem q1641 : (Jvm.Cond.code ({ cls := "TandemKeepsAPlaceModel", name := "both2", desc := "()I" } : Jvm.MethodName) prog_16_method_48_code (3 : Nat) (Option.some Jvm.ClassFile.FieldType.int)) ∈ lw_all := lw_g (lw_at lw_m7 71 rfl) rfl
theorem q1642 : (Jvm.Cond.methodLink "TandemKeepsAPlaceModel" (314 : Nat) ({ cls := "TandemKeepsAPlaceModel", name := "added0", desc := "()I" } : Jvm.MethodName)) ∈ lw_all := lw_g (lw_at lw_m7 72 rfl) rfl
theorem q1643 : (Jvm.Cond.privateMethod ({ cls := "TandemKeepsAPlaceModel", name := "added0", desc := "()I" } : Jvm.MethodName)) ∈ lw_tbl := lw_at lw_m7 73 rfl
theorem q1644 : (Jvm.Cond.instanceMethod ({ cls := "TandemKeepsAPlaceModel", name := "added0", desc := "()I" } : Jvm.MethodName)) ∈ lw_all := lw_g (lw_at lw_m7 74 rfl) rfl
theorem q1645 : (Jvm.Cond.code ({ cls := "TandemKeepsAPlaceModel", name := "added0", desc := "()I" } : Jvm.MethodName) prog_16_method_58_code (4 : Nat) (Option.some Jvm.ClassFile.FieldType.int)) ∈ lw_all := lw_g (lw_at lw_m7 75 rfl) rfl
theorem q1646 : (Jvm.Cond.methodLink "TandemKeepsAPlaceModel" (311 : Nat) ({ cls := "TandemKeepsAPlaceModel", name := "term0", desc := "()I" } : Jvm.MethodName)) ∈ lw_all := lw_g (lw_at lw_m7 76 rfl) rfl
theorem q1647 : (Jvm.Cond.privateMethod ({ cls := "TandemKeepsAPlaceModel", name := "term0", desc := "()I" } : Jvm.MethodName)) ∈ lw_tbl := lw_at lw_m7 77 rfl
theorem q1648 : (Jvm.Cond.instanceMethod ({ cls := "TandemKeepsAPlaceModel", name := "term0", desc := "()I" } : Jvm.MethodName)) ∈ lw_all := lw_g (lw_at lw_m7 78 rfl) rfl
theorem q1649 : (Jvm.Cond.code ({ cls := "TandemKeepsAPlaceModel", name := "term0", desc := "()I" } : Jvm.MethodName) prog_16_method_57_code (2 : Nat) (Option.some Jvm.ClassFile.FieldType.int)) ∈ lw_all := lw_g (lw_at lw_m7 79 rfl) rfl
theorem q1650 : (Jvm.Cond.methodLink "TandemKeepsAPlaceModel" (308 : Nat) ({ cls := "TandemKeepsAPlaceModel", name := "atom0", desc := "()I" } : Jvm.MethodName)) ∈ lw_all := lw_g (lw_at lw_m7 80 rfl) rfl
theorem q1651 : (Jvm.Cond.privateMethod ({ cls := "TandemKeepsAPlaceModel", name := "atom0", desc := "()I" } : Jvm.MethodName)) ∈ lw_tbl := lw_at lw_m7 81 rfl
theorem q1652 : (Jvm.Cond.instanceMethod ({ cls := "TandemKeepsAPlaceModel", name := "atom0", desc := "()I" } : Jvm.MethodName)) ∈ lw_all := lw_g (lw_at lw_m7 82 rfl) rfl
theorem q1653 : (Jvm.Cond.code ({ cls := "TandemKeepsAPlaceModel", name := "atom0", desc := "()I" } : Jvm.MethodName) prog_16_method_56_code (2 : Nat) (Option.some Jvm.ClassFile.FieldType.int)) ∈ lw_all := lw_g (lw_at lw_m7 83 rfl) rfl
theorem q1654 : (Jvm.Cond.methodLink "TandemKeepsAPlaceModel" (305 : Nat) ({ cls := "TandemKeepsAPlaceModel", name := "either1", desc := "()I" } : Jvm.MethodName)) ∈ lw_all := lw_g (lw_at lw_m7 84 rfl) rfl
theorem q1655 : (Jvm.Cond.privateMethod ({ cls := "TandemKeepsAPlaceModel", name := "either1", desc := "()I" } : Jvm.MethodName)) ∈ lw_tbl := lw_at lw_m7 85 rfl
theorem q1656 : (Jvm.Cond.instanceMethod ({ cls := "TandemKeepsAPlaceModel", name := "either1", desc := "()I" } : Jvm.MethodName)) ∈ lw_all := lw_g (lw_at lw_m7 86 rfl) rfl
theorem q1657 : (Jvm.Cond.code ({ cls := "TandemKeepsAPlaceModel", name := "either1", desc := "()I" } : Jvm.MethodName) prog_16_method_55_code (3 : Nat) (Option.some Jvm.ClassFile.FieldType.int)) ∈ lw_all := lw_g (lw_at lw_m7 87 rfl) rfl
theorem q1658 : (Jvm.Cond.methodLink "TandemKeepsAPlaceModel" (302 : Nat) ({ cls := "TandemKeepsAPlaceModel", name := "both1", desc := "()I" } : Jvm.MethodName)) ∈ lw_all := lw_g (lw_at lw_m7 88 rfl) rfl
theorem q1659 : (Jvm.Cond.privateMethod ({ cls := "TandemKeepsAPlaceModel", name := "both1", desc := "()I" } : Jvm.MethodName)) ∈ lw_tbl := lw_at lw_m7 89 rfl
theorem q1660 : (Jvm.Cond.instanceMethod ({ cls := "TandemKeepsAPlaceModel", name := "both1", desc := "()I" } : Jvm.MethodName)) ∈ lw_all := lw_g (lw_at lw_m7 90 rfl) rfl
theorem q1661 : (Jvm.Cond.code ({ cls := "TandemKeepsAPlaceModel", name := "both1", desc := "()I" } : Jvm.MethodName) prog_16_method_54_code (3 : Nat) (Option.some Jvm.ClassFile.FieldType.int)) ∈ lw_all := lw_g (lw_at lw_m7 91 rfl) rfl
theorem q1662 : (Jvm.Cond.methodLink "TandemKeepsAPlaceModel" (336 : Nat) ({ cls := "TandemKeepsAPlaceModel", name := "within", desc := "(III)I" } : Jvm.MethodName)) ∈ lw_all := lw_g (lw_at lw_m7 92 rfl) rfl
theorem q1663 : (Jvm.Cond.static ({ cls := "TandemKeepsAPlaceModel", name := "within", desc := "(III)I" } : Jvm.MethodName)) ∈ lw_all := lw_g (lw_at lw_m7 93 rfl) rfl
theorem q1664 : (Jvm.Cond.code ({ cls := "TandemKeepsAPlaceModel", name := "within", desc := "(III)I" } : Jvm.MethodName) prog_16_method_3_code (3 : Nat) (Option.some Jvm.ClassFile.FieldType.int)) ∈ lw_all := lw_g (lw_at lw_m7 94 rfl) rfl
theorem q1665 : (Jvm.Cond.methodLink "TandemKeepsAPlaceModel" (348 : Nat) ({ cls := "TandemKeepsAPlaceModel", name := "moodOf", desc := "(IIZII)I" } : Jvm.MethodName)) ∈ lw_all := lw_g (lw_at lw_m7 95 rfl) rfl
theorem q1666 : (Jvm.Cond.privateMethod ({ cls := "TandemKeepsAPlaceModel", name := "moodOf", desc := "(IIZII)I" } : Jvm.MethodName)) ∈ lw_tbl := lw_at lw_m7 96 rfl
theorem q1667 : (Jvm.Cond.instanceMethod ({ cls := "TandemKeepsAPlaceModel", name := "moodOf", desc := "(IIZII)I" } : Jvm.MethodName)) ∈ lw_all := lw_g (lw_at lw_m7 97 rfl) rfl
theorem q1668 : (Jvm.Cond.code ({ cls := "TandemKeepsAPlaceModel", name := "moodOf", desc := "(IIZII)I" } : Jvm.MethodName) prog_16_method_69_code (8 : Nat) (Option.some Jvm.ClassFile.FieldType.int)) ∈ lw_all := lw_g (lw_at lw_m7 98 rfl) rfl
theorem q1669 : (Jvm.Cond.methodLink "TandemKeepsAPlaceModel" (102 : Nat) ({ cls := "TandemKeepsAPlaceModel", name := "lays", desc := "(III)V" } : Jvm.MethodName)) ∈ lw_all := lw_g (lw_at lw_m7 99 rfl) rfl
theorem q1670 : (Jvm.Cond.privateMethod ({ cls := "TandemKeepsAPlaceModel", name := "lays", desc := "(III)V" } : Jvm.MethodName)) ∈ lw_tbl := lw_at lw_m7 100 rfl
theorem q1671 : (Jvm.Cond.instanceMethod ({ cls := "TandemKeepsAPlaceModel", name := "lays", desc := "(III)V" } : Jvm.MethodName)) ∈ lw_all := lw_g (lw_at lw_m7 101 rfl) rfl
theorem q1672 : (Jvm.Cond.code ({ cls := "TandemKeepsAPlaceModel", name := "lays", desc := "(III)V" } : Jvm.MethodName) prog_16_method_11_code (4 : Nat) (Option.none : Option Jvm.ClassFile.FieldType)) ∈ lw_all := lw_g (lw_at lw_m7 102 rfl) rfl
theorem q1674 : (Jvm.Cond.instanceMethod ({ cls := "TandemKeepsAPlaceModel", name := "road", desc := "(III)I" } : Jvm.MethodName)) ∈ lw_all := lw_g (lw_at lw_m7 104 rfl) rfl
theorem q1675 : (Jvm.Cond.selects "TandemKeepsAPlaceModel" ({ cls := "TandemKeepsAPlaceModel", name := "road", desc := "(III)I" } : Jvm.MethodName) ({ cls := "TandemKeepsAPlaceModel", name := "road", desc := "(III)I" } : Jvm.MethodName)) ∈ lw_all := lw_g (lw_at lw_m7 105 rfl) rfl
theorem q1676 : (Jvm.Cond.code ({ cls := "TandemKeepsAPlaceModel", name := "road", desc := "(III)I" } : Jvm.MethodName) prog_16_method_14_code (5 : Nat) (Option.some Jvm.ClassFile.FieldType.int)) ∈ lw_all := lw_g (lw_at lw_m7 106 rfl) rfl
theorem q1677 : (Jvm.Cond.methodLink "TandemKeepsAPlaceModel" (109 : Nat) ({ cls := "TandemKeepsAPlaceModel", name := "isPlace", desc := "(I)Z" } : Jvm.MethodName)) ∈ lw_all := lw_g (lw_at lw_m7 107 rfl) rfl
theorem q1678 : (Jvm.Cond.static ({ cls := "TandemKeepsAPlaceModel", name := "isPlace", desc := "(I)Z" } : Jvm.MethodName)) ∈ lw_all := lw_g (lw_at lw_m7 108 rfl) rfl
theorem q1679 : (Jvm.Cond.code ({ cls := "TandemKeepsAPlaceModel", name := "isPlace", desc := "(I)Z" } : Jvm.MethodName) prog_16_method_8_code (1 : Nat) (Option.some Jvm.ClassFile.FieldType.boolean)) ∈ lw_all := lw_g (lw_at lw_m7 109 rfl) rfl
theorem q1680 : (Jvm.Cond.constantLong "TandemKeepsAPlaceModel" (90 : Nat) (7 : Int64)) ∈ lw_all := lw_g (lw_at lw_m7 110 rfl) rfl
theorem q1681 : (Jvm.Cond.constantLong "TandemKeepsAPlaceModel" (112 : Nat) (99 : Int64)) ∈ lw_all := lw_g (lw_at lw_m7 111 rfl) rfl
theorem q1682 : (Jvm.Cond.methodLink "TandemKeepsAPlaceModel" (114 : Nat) ({ cls := "TandemKeepsAPlaceModel", name := "lays1", desc := "(III)V" } : Jvm.MethodName)) ∈ lw_all := lw_g (lw_at lw_m7 112 rfl) rfl
theorem q1683 : (Jvm.Cond.privateMethod ({ cls := "TandemKeepsAPlaceModel", name := "lays1", desc := "(III)V" } : Jvm.MethodName)) ∈ lw_tbl := lw_at lw_m7 113 rfl
theorem q1684 : (Jvm.Cond.instanceMethod ({ cls := "TandemKeepsAPlaceModel", name := "lays1", desc := "(III)V" } : Jvm.MethodName)) ∈ lw_all := lw_g (lw_at lw_m7 114 rfl) rfl
theorem q1685 : (Jvm.Cond.code ({ cls := "TandemKeepsAPlaceModel", name := "lays1", desc := "(III)V" } : Jvm.MethodName) prog_16_method_13_code (4 : Nat) (Option.none : Option Jvm.ClassFile.FieldType)) ∈ lw_all := lw_g (lw_at lw_m7 115 rfl) rfl
theorem q1687 : (Jvm.Cond.instanceMethod ({ cls := "TandemKeepsAPlaceModel", name := "person", desc := "(III)I" } : Jvm.MethodName)) ∈ lw_all := lw_g (lw_at lw_m7 117 rfl) rfl
theorem q1688 : (Jvm.Cond.selects "TandemKeepsAPlaceModel" ({ cls := "TandemKeepsAPlaceModel", name := "person", desc := "(III)I" } : Jvm.MethodName) ({ cls := "TandemKeepsAPlaceModel", name := "person", desc := "(III)I" } : Jvm.MethodName)) ∈ lw_all := lw_g (lw_at lw_m7 118 rfl) rfl
theorem q1689 : (Jvm.Cond.code ({ cls := "TandemKeepsAPlaceModel", name := "person", desc := "(III)I" } : Jvm.MethodName) prog_16_method_15_code (4 : Nat) (Option.some Jvm.ClassFile.FieldType.int)) ∈ lw_all := lw_g (lw_at lw_m7 119 rfl) rfl
theorem q1690 : (Jvm.Cond.constantLong "TandemKeepsAPlaceModel" (119 : Nat) (9 : Int64)) ∈ lw_all := lw_g (lw_at lw_m7 120 rfl) rfl
theorem q1693 : (Jvm.Cond.instanceMethod ({ cls := "TandemKeepsAPlaceModel", name := "feed", desc := "(I)I" } : Jvm.MethodName)) ∈ lw_all := lw_g (lw_at lw_m7 123 rfl) rfl
theorem q1694 : (Jvm.Cond.selects "TandemKeepsAPlaceModel" ({ cls := "TandemKeepsAPlaceModel", name := "feed", desc := "(I)I" } : Jvm.MethodName) ({ cls := "TandemKeepsAPlaceModel", name := "feed", desc := "(I)I" } : Jvm.MethodName)) ∈ lw_all := lw_g (lw_at lw_m7 124 rfl) rfl
theorem q1695 : (Jvm.Cond.code ({ cls := "TandemKeepsAPlaceModel", name := "feed", desc := "(I)I" } : Jvm.MethodName) prog_16_method_17_code (2 : Nat) (Option.some Jvm.ClassFile.FieldType.int)) ∈ lw_all := lw_g (lw_at lw_m7 125 rfl) rfl
theorem q1696 : (Jvm.Cond.constantLong "TandemKeepsAPlaceModel" (124 : Nat) (255 : Int64)) ∈ lw_all := lw_g (lw_at lw_m7 126 rfl) rfl
theorem q1698 : (Jvm.Cond.instanceMethod ({ cls := "TandemKeepsAPlaceModel", name := "text", desc := "()I" } : Jvm.MethodName)) ∈ lw_all := lw_g (lw_at lw_m7 128 rfl) rfl
theorem q1699 : (Jvm.Cond.selects "TandemKeepsAPlaceModel" ({ cls := "TandemKeepsAPlaceModel", name := "text", desc := "()I" } : Jvm.MethodName) ({ cls := "TandemKeepsAPlaceModel", name := "text", desc := "()I" } : Jvm.MethodName)) ∈ lw_all := lw_g (lw_at lw_m7 129 rfl) rfl
theorem q1700 : (Jvm.Cond.code ({ cls := "TandemKeepsAPlaceModel", name := "text", desc := "()I" } : Jvm.MethodName) prog_16_method_64_code (2 : Nat) (Option.some Jvm.ClassFile.FieldType.int)) ∈ lw_all := lw_g (lw_at lw_m7 130 rfl) rfl
theorem q1702 : (Jvm.Cond.instanceMethod ({ cls := "TandemKeepsAPlaceModel", name := "force", desc := "(I)I" } : Jvm.MethodName)) ∈ lw_all := lw_g (lw_at lw_m7 132 rfl) rfl
theorem q1703 : (Jvm.Cond.selects "TandemKeepsAPlaceModel" ({ cls := "TandemKeepsAPlaceModel", name := "force", desc := "(I)I" } : Jvm.MethodName) ({ cls := "TandemKeepsAPlaceModel", name := "force", desc := "(I)I" } : Jvm.MethodName)) ∈ lw_all := lw_g (lw_at lw_m7 133 rfl) rfl
theorem q1704 : (Jvm.Cond.code ({ cls := "TandemKeepsAPlaceModel", name := "force", desc := "(I)I" } : Jvm.MethodName) prog_16_method_65_code (3 : Nat) (Option.some Jvm.ClassFile.FieldType.int)) ∈ lw_all := lw_g (lw_at lw_m7 134 rfl) rfl
theorem q1706 : (Jvm.Cond.instanceMethod ({ cls := "TandemKeepsAPlaceModel", name := "asks", desc := "(IIIII)I" } : Jvm.MethodName)) ∈ lw_all := lw_g (lw_at lw_m7 136 rfl) rfl
theorem q1707 : (Jvm.Cond.selects "TandemKeepsAPlaceModel" ({ cls := "TandemKeepsAPlaceModel", name := "asks", desc := "(IIIII)I" } : Jvm.MethodName) ({ cls := "TandemKeepsAPlaceModel", name := "asks", desc := "(IIIII)I" } : Jvm.MethodName)) ∈ lw_all := lw_g (lw_at lw_m7 137 rfl) rfl
theorem q1708 : (Jvm.Cond.code ({ cls := "TandemKeepsAPlaceModel", name := "asks", desc := "(IIIII)I" } : Jvm.MethodName) prog_16_method_73_code (6 : Nat) (Option.some Jvm.ClassFile.FieldType.int)) ∈ lw_all := lw_g (lw_at lw_m7 138 rfl) rfl
theorem q1709 : (Jvm.Cond.methodLink "TandemKeepsAPlaceModel" (355 : Nat) ({ cls := "TandemKeepsAPlaceModel", name := "areTwo", desc := "(II)Z" } : Jvm.MethodName)) ∈ lw_all := lw_g (lw_at lw_m7 139 rfl) rfl
theorem q1710 : (Jvm.Cond.privateMethod ({ cls := "TandemKeepsAPlaceModel", name := "areTwo", desc := "(II)Z" } : Jvm.MethodName)) ∈ lw_tbl := lw_at lw_m7 140 rfl
theorem q1711 : (Jvm.Cond.instanceMethod ({ cls := "TandemKeepsAPlaceModel", name := "areTwo", desc := "(II)Z" } : Jvm.MethodName)) ∈ lw_all := lw_g (lw_at lw_m7 141 rfl) rfl
theorem q1712 : (Jvm.Cond.code ({ cls := "TandemKeepsAPlaceModel", name := "areTwo", desc := "(II)Z" } : Jvm.MethodName) prog_16_method_7_code (3 : Nat) (Option.some Jvm.ClassFile.FieldType.boolean)) ∈ lw_all := lw_g (lw_at lw_m7 142 rfl) rfl
theorem q1713 : (Jvm.Cond.constantLong "TandemKeepsAPlaceModel" (358 : Nat) (40 : Int64)) ∈ lw_all := lw_g (lw_at lw_m7 143 rfl) rfl
theorem q1714 : (Jvm.Cond.methodLink "TandemKeepsAPlaceModel" (360 : Nat) ({ cls := "TandemKeepsAPlaceModel", name := "enoughSet", desc := "(IIII)I" } : Jvm.MethodName)) ∈ lw_all := lw_g (lw_at lw_m7 144 rfl) rfl
theorem q1715 : (Jvm.Cond.privateMethod ({ cls := "TandemKeepsAPlaceModel", name := "enoughSet", desc := "(IIII)I" } : Jvm.MethodName)) ∈ lw_tbl := lw_at lw_m7 145 rfl
theorem q1716 : (Jvm.Cond.instanceMethod ({ cls := "TandemKeepsAPlaceModel", name := "enoughSet", desc := "(IIII)I" } : Jvm.MethodName)) ∈ lw_all := lw_g (lw_at lw_m7 146 rfl) rfl
theorem q1717 : (Jvm.Cond.code ({ cls := "TandemKeepsAPlaceModel", name := "enoughSet", desc := "(IIII)I" } : Jvm.MethodName) prog_16_method_72_code (5 : Nat) (Option.some Jvm.ClassFile.FieldType.int)) ∈ lw_all := lw_g (lw_at lw_m7 147 rfl) rfl
theorem q1718 : (Jvm.Cond.methodLink "TandemKeepsAPlaceModel" (351 : Nat) ({ cls := "TandemKeepsAPlaceModel", name := "hasEnough", desc := "(IIZII)Z" } : Jvm.MethodName)) ∈ lw_all := lw_g (lw_at lw_m7 148 rfl) rfl
theorem q1719 : (Jvm.Cond.privateMethod ({ cls := "TandemKeepsAPlaceModel", name := "hasEnough", desc := "(IIZII)Z" } : Jvm.MethodName)) ∈ lw_tbl := lw_at lw_m7 149 rfl
theorem q1720 : (Jvm.Cond.instanceMethod ({ cls := "TandemKeepsAPlaceModel", name := "hasEnough", desc := "(IIZII)Z" } : Jvm.MethodName)) ∈ lw_all := lw_g (lw_at lw_m7 150 rfl) rfl
theorem q1721 : (Jvm.Cond.code ({ cls := "TandemKeepsAPlaceModel", name := "hasEnough", desc := "(IIZII)Z" } : Jvm.MethodName) prog_16_method_70_code (8 : Nat) (Option.some Jvm.ClassFile.FieldType.boolean)) ∈ lw_all := lw_g (lw_at lw_m7 151 rfl) rfl
theorem q1723 : (Jvm.Cond.instanceMethod ({ cls := "TandemKeepsAPlaceModel", name := "ride", desc := "(IIII)I" } : Jvm.MethodName)) ∈ lw_all := lw_g (lw_at lw_m7 153 rfl) rfl
theorem q1724 : (Jvm.Cond.selects "TandemKeepsAPlaceModel" ({ cls := "TandemKeepsAPlaceModel", name := "ride", desc := "(IIII)I" } : Jvm.MethodName) ({ cls := "TandemKeepsAPlaceModel", name := "ride", desc := "(IIII)I" } : Jvm.MethodName)) ∈ lw_all := lw_g (lw_at lw_m7 154 rfl) rfl
theorem q1725 : (Jvm.Cond.code ({ cls := "TandemKeepsAPlaceModel", name := "ride", desc := "(IIII)I" } : Jvm.MethodName) prog_16_method_81_code (5 : Nat) (Option.some Jvm.ClassFile.FieldType.int)) ∈ lw_all := lw_g (lw_at lw_m7 155 rfl) rfl
theorem q1726 : (Jvm.Cond.constantLong "TandemKeepsAPlaceModel" (382 : Nat) (50 : Int64)) ∈ lw_all := lw_g (lw_at lw_m7 156 rfl) rfl
theorem q1727 : (Jvm.Cond.methodLink "TandemKeepsAPlaceModel" (379 : Nat) ({ cls := "TandemKeepsAPlaceModel", name := "rides", desc := "(III)V" } : Jvm.MethodName)) ∈ lw_all := lw_g (lw_at lw_m7 157 rfl) rfl
theorem q1728 : (Jvm.Cond.privateMethod ({ cls := "TandemKeepsAPlaceModel", name := "rides", desc := "(III)V" } : Jvm.MethodName)) ∈ lw_tbl := lw_at lw_m7 158 rfl
theorem q1729 : (Jvm.Cond.instanceMethod ({ cls := "TandemKeepsAPlaceModel", name := "rides", desc := "(III)V" } : Jvm.MethodName)) ∈ lw_all := lw_g (lw_at lw_m7 159 rfl) rfl
theorem q1730 : (Jvm.Cond.code ({ cls := "TandemKeepsAPlaceModel", name := "rides", desc := "(III)V" } : Jvm.MethodName) prog_16_method_75_code (9 : Nat) (Option.none : Option Jvm.ClassFile.FieldType)) ∈ lw_all := lw_g (lw_at lw_m7 160 rfl) rfl
theorem q1731 : (Jvm.Cond.methodLink "TandemKeepsAPlaceModel" (376 : Nat) ({ cls := "TandemKeepsAPlaceModel", name := "nextFrom", desc := "(II)I" } : Jvm.MethodName)) ∈ lw_all := lw_g (lw_at lw_m7 161 rfl) rfl
theorem q1732 : (Jvm.Cond.privateMethod ({ cls := "TandemKeepsAPlaceModel", name := "nextFrom", desc := "(II)I" } : Jvm.MethodName)) ∈ lw_tbl := lw_at lw_m7 162 rfl
theorem q1733 : (Jvm.Cond.instanceMethod ({ cls := "TandemKeepsAPlaceModel", name := "nextFrom", desc := "(II)I" } : Jvm.MethodName)) ∈ lw_all := lw_g (lw_at lw_m7 163 rfl) rfl
theorem q1734 : (Jvm.Cond.code ({ cls := "TandemKeepsAPlaceModel", name := "nextFrom", desc := "(II)I" } : Jvm.MethodName) prog_16_method_74_code (8 : Nat) (Option.some Jvm.ClassFile.FieldType.int)) ∈ lw_all := lw_g (lw_at lw_m7 164 rfl) rfl
theorem q1735 : (Jvm.Cond.methodLink "TandemKeepsAPlaceModel" (384 : Nat) ({ cls := "TandemKeepsAPlaceModel", name := "behindSteps", desc := "(I)I" } : Jvm.MethodName)) ∈ lw_all := lw_g (lw_at lw_m7 165 rfl) rfl
theorem q1736 : (Jvm.Cond.privateMethod ({ cls := "TandemKeepsAPlaceModel", name := "behindSteps", desc := "(I)I" } : Jvm.MethodName)) ∈ lw_tbl := lw_at lw_m7 166 rfl
theorem q1737 : (Jvm.Cond.instanceMethod ({ cls := "TandemKeepsAPlaceModel", name := "behindSteps", desc := "(I)I" } : Jvm.MethodName)) ∈ lw_all := lw_g (lw_at lw_m7 167 rfl) rfl
theorem q1738 : (Jvm.Cond.code ({ cls := "TandemKeepsAPlaceModel", name := "behindSteps", desc := "(I)I" } : Jvm.MethodName) prog_16_method_76_code (2 : Nat) (Option.some Jvm.ClassFile.FieldType.int)) ∈ lw_all := lw_g (lw_at lw_m7 168 rfl) rfl
theorem q1739 : (Jvm.Cond.methodLink "TandemKeepsAPlaceModel" (387 : Nat) ({ cls := "TandemKeepsAPlaceModel", name := "cameTo", desc := "()I" } : Jvm.MethodName)) ∈ lw_all := lw_g (lw_at lw_m7 169 rfl) rfl
theorem q1740 : (Jvm.Cond.privateMethod ({ cls := "TandemKeepsAPlaceModel", name := "cameTo", desc := "()I" } : Jvm.MethodName)) ∈ lw_tbl := lw_at lw_m7 170 rfl
theorem q1741 : (Jvm.Cond.instanceMethod ({ cls := "TandemKeepsAPlaceModel", name := "cameTo", desc := "()I" } : Jvm.MethodName)) ∈ lw_all := lw_g (lw_at lw_m7 171 rfl) rfl
theorem q1742 : (Jvm.Cond.code ({ cls := "TandemKeepsAPlaceModel", name := "cameTo", desc := "()I" } : Jvm.MethodName) prog_16_method_79_code (3 : Nat) (Option.some Jvm.ClassFile.FieldType.int)) ∈ lw_all := lw_g (lw_at lw_m7 172 rfl) rfl
theorem q1743 : (Jvm.Cond.methodLink "TandemKeepsAPlaceModel" (390 : Nat) ({ cls := "TandemKeepsAPlaceModel", name := "bitsOf", desc := "(I)I" } : Jvm.MethodName)) ∈ lw_all := lw_g (lw_at lw_m7 173 rfl) rfl
theorem q1744 : (Jvm.Cond.static ({ cls := "TandemKeepsAPlaceModel", name := "bitsOf", desc := "(I)I" } : Jvm.MethodName)) ∈ lw_all := lw_g (lw_at lw_m7 174 rfl) rfl
theorem q1745 : (Jvm.Cond.code ({ cls := "TandemKeepsAPlaceModel", name := "bitsOf", desc := "(I)I" } : Jvm.MethodName) prog_16_method_80_code (3 : Nat) (Option.some Jvm.ClassFile.FieldType.int)) ∈ lw_all := lw_g (lw_at lw_m7 175 rfl) rfl
theorem q1747 : (Jvm.Cond.instanceMethod ({ cls := "TandemKeepsAPlaceModel", name := "goes", desc := "(III)I" } : Jvm.MethodName)) ∈ lw_all := lw_g (lw_at lw_m7 177 rfl) rfl
theorem q1748 : (Jvm.Cond.selects "TandemKeepsAPlaceModel" ({ cls := "TandemKeepsAPlaceModel", name := "goes", desc := "(III)I" } : Jvm.MethodName) ({ cls := "TandemKeepsAPlaceModel", name := "goes", desc := "(III)I" } : Jvm.MethodName)) ∈ lw_all := lw_g (lw_at lw_m7 178 rfl) rfl
theorem q1749 : (Jvm.Cond.code ({ cls := "TandemKeepsAPlaceModel", name := "goes", desc := "(III)I" } : Jvm.MethodName) prog_16_method_82_code (5 : Nat) (Option.some Jvm.ClassFile.FieldType.int)) ∈ lw_all := lw_g (lw_at lw_m7 179 rfl) rfl
theorem q1750 : (Jvm.Cond.methodLink "TandemKeepsAPlaceModel" (393 : Nat) ({ cls := "TandemKeepsAPlaceModel", name := "longOf", desc := "(III)I" } : Jvm.MethodName)) ∈ lw_all := lw_g (lw_at lw_m7 180 rfl) rfl
theorem q1751 : (Jvm.Cond.privateMethod ({ cls := "TandemKeepsAPlaceModel", name := "longOf", desc := "(III)I" } : Jvm.MethodName)) ∈ lw_tbl := lw_at lw_m7 181 rfl
theorem q1752 : (Jvm.Cond.instanceMethod ({ cls := "TandemKeepsAPlaceModel", name := "longOf", desc := "(III)I" } : Jvm.MethodName)) ∈ lw_all := lw_g (lw_at lw_m7 182 rfl) rfl
theorem q1753 : (Jvm.Cond.code ({ cls := "TandemKeepsAPlaceModel", name := "longOf", desc := "(III)I" } : Jvm.MethodName) prog_16_method_78_code (4 : Nat) (Option.some Jvm.ClassFile.FieldType.int)) ∈ lw_all := lw_g (lw_at lw_m7 183 rfl) rfl
theorem q1754 : (Jvm.Cond.constant "TandemKeepsAPlaceModel" (396 : Nat) (99999 : Int32)) ∈ lw_all := lw_g (lw_at lw_m7 184 rfl) rfl
theorem q1756 : (Jvm.Cond.instanceMethod ({ cls := "TandemKeepsAPlaceModel", name := "far", desc := "(II)I" } : Jvm.MethodName)) ∈ lw_all := lw_g (lw_at lw_m7 186 rfl) rfl
theorem q1757 : (Jvm.Cond.selects "TandemKeepsAPlaceModel" ({ cls := "TandemKeepsAPlaceModel", name := "far", desc := "(II)I" } : Jvm.MethodName) ({ cls := "TandemKeepsAPlaceModel", name := "far", desc := "(II)I" } : Jvm.MethodName)) ∈ lw_all := lw_g (lw_at lw_m7 187 rfl) rfl
theorem q1758 : (Jvm.Cond.code ({ cls := "TandemKeepsAPlaceModel", name := "far", desc := "(II)I" } : Jvm.MethodName) prog_16_method_83_code (4 : Nat) (Option.some Jvm.ClassFile.FieldType.int)) ∈ lw_all := lw_g (lw_at lw_m7 188 rfl) rfl
theorem q1760 : (Jvm.Cond.instanceMethod ({ cls := "TandemKeepsAPlaceModel", name := "best", desc := "(III)I" } : Jvm.MethodName)) ∈ lw_all := lw_g (lw_at lw_m7 190 rfl) rfl
theorem q1761 : (Jvm.Cond.selects "TandemKeepsAPlaceModel" ({ cls := "TandemKeepsAPlaceModel", name := "best", desc := "(III)I" } : Jvm.MethodName) ({ cls := "TandemKeepsAPlaceModel", name := "best", desc := "(III)I" } : Jvm.MethodName)) ∈ lw_all := lw_g (lw_at lw_m7 191 rfl) rfl
theorem q1762 : (Jvm.Cond.code ({ cls := "TandemKeepsAPlaceModel", name := "best", desc := "(III)I" } : Jvm.MethodName) prog_16_method_84_code (7 : Nat) (Option.some Jvm.ClassFile.FieldType.int)) ∈ lw_all := lw_g (lw_at lw_m7 192 rfl) rfl
theorem q1763 : (Jvm.Cond.methodLink "TandemKeepsAPlaceModel" (397 : Nat) ({ cls := "TandemKeepsAPlaceModel", name := "endOf", desc := "(III)I" } : Jvm.MethodName)) ∈ lw_all := lw_g (lw_at lw_m7 193 rfl) rfl
theorem q1764 : (Jvm.Cond.privateMethod ({ cls := "TandemKeepsAPlaceModel", name := "endOf", desc := "(III)I" } : Jvm.MethodName)) ∈ lw_tbl := lw_at lw_m7 194 rfl
theorem q1765 : (Jvm.Cond.instanceMethod ({ cls := "TandemKeepsAPlaceModel", name := "endOf", desc := "(III)I" } : Jvm.MethodName)) ∈ lw_all := lw_g (lw_at lw_m7 195 rfl) rfl
theorem q1766 : (Jvm.Cond.code ({ cls := "TandemKeepsAPlaceModel", name := "endOf", desc := "(III)I" } : Jvm.MethodName) prog_16_method_77_code (4 : Nat) (Option.some Jvm.ClassFile.FieldType.int)) ∈ lw_all := lw_g (lw_at lw_m7 196 rfl) rfl
theorem q1768 : (Jvm.Cond.instanceMethod ({ cls := "TandemKeepsAPlaceModel", name := "from", desc := "(II)I" } : Jvm.MethodName)) ∈ lw_all := lw_g (lw_at lw_m7 198 rfl) rfl
theorem q1769 : (Jvm.Cond.selects "TandemKeepsAPlaceModel" ({ cls := "TandemKeepsAPlaceModel", name := "from", desc := "(II)I" } : Jvm.MethodName) ({ cls := "TandemKeepsAPlaceModel", name := "from", desc := "(II)I" } : Jvm.MethodName)) ∈ lw_all := lw_g (lw_at lw_m7 199 rfl) rfl
theorem q1770 : (Jvm.Cond.code ({ cls := "TandemKeepsAPlaceModel", name := "from", desc := "(II)I" } : Jvm.MethodName) prog_16_method_85_code (5 : Nat) (Option.some Jvm.ClassFile.FieldType.int)) ∈ lw_all := lw_g (lw_at lw_m7 200 rfl) rfl
theorem q1772 : (Jvm.Cond.instanceMethod ({ cls := "TandemKeepsAPlaceModel", name := "together", desc := "(II)I" } : Jvm.MethodName)) ∈ lw_all := lw_g (lw_at lw_m7 202 rfl) rfl
theorem q1773 : (Jvm.Cond.selects "TandemKeepsAPlaceModel" ({ cls := "TandemKeepsAPlaceModel", name := "together", desc := "(II)I" } : Jvm.MethodName) ({ cls := "TandemKeepsAPlaceModel", name := "together", desc := "(II)I" } : Jvm.MethodName)) ∈ lw_all := lw_g (lw_at lw_m7 203 rfl) rfl
theorem q1774 : (Jvm.Cond.code ({ cls := "TandemKeepsAPlaceModel", name := "together", desc := "(II)I" } : Jvm.MethodName) prog_16_method_89_code (5 : Nat) (Option.some Jvm.ClassFile.FieldType.int)) ∈ lw_all := lw_g (lw_at lw_m7 204 rfl) rfl
theorem q1775 : (Jvm.Cond.methodLink "TandemKeepsAPlaceModel" (413 : Nat) ({ cls := "TandemKeepsAPlaceModel", name := "matches", desc := "(III)V" } : Jvm.MethodName)) ∈ lw_all := lw_g (lw_at lw_m7 205 rfl) rfl
theorem q1776 : (Jvm.Cond.privateMethod ({ cls := "TandemKeepsAPlaceModel", name := "matches", desc := "(III)V" } : Jvm.MethodName)) ∈ lw_tbl := lw_at lw_m7 206 rfl
theorem q1777 : (Jvm.Cond.instanceMethod ({ cls := "TandemKeepsAPlaceModel", name := "matches", desc := "(III)V" } : Jvm.MethodName)) ∈ lw_all := lw_g (lw_at lw_m7 207 rfl) rfl
theorem q1778 : (Jvm.Cond.code ({ cls := "TandemKeepsAPlaceModel", name := "matches", desc := "(III)V" } : Jvm.MethodName) prog_16_method_88_code (7 : Nat) (Option.none : Option Jvm.ClassFile.FieldType)) ∈ lw_all := lw_g (lw_at lw_m7 208 rfl) rfl
theorem q1779 : (Jvm.Cond.methodLink "TandemKeepsAPlaceModel" (406 : Nat) ({ cls := "TandemKeepsAPlaceModel", name := "looks", desc := "(II)V" } : Jvm.MethodName)) ∈ lw_all := lw_g (lw_at lw_m7 209 rfl) rfl
theorem q1780 : (Jvm.Cond.privateMethod ({ cls := "TandemKeepsAPlaceModel", name := "looks", desc := "(II)V" } : Jvm.MethodName)) ∈ lw_tbl := lw_at lw_m7 210 rfl
theorem q1781 : (Jvm.Cond.instanceMethod ({ cls := "TandemKeepsAPlaceModel", name := "looks", desc := "(II)V" } : Jvm.MethodName)) ∈ lw_all := lw_g (lw_at lw_m7 211 rfl) rfl
theorem q1782 : (Jvm.Cond.code ({ cls := "TandemKeepsAPlaceModel", name := "looks", desc := "(II)V" } : Jvm.MethodName) prog_16_method_87_code (3 : Nat) (Option.none : Option Jvm.ClassFile.FieldType)) ∈ lw_all := lw_g (lw_at lw_m7 212 rfl) rfl
theorem q1783 : (Jvm.Cond.methodLink "TandemKeepsAPlaceModel" (410 : Nat) ({ cls := "TandemKeepsAPlaceModel", name := "leastIn", desc := "(I)I" } : Jvm.MethodName)) ∈ lw_all := lw_g (lw_at lw_m7 213 rfl) rfl
theorem q1784 : (Jvm.Cond.privateMethod ({ cls := "TandemKeepsAPlaceModel", name := "leastIn", desc := "(I)I" } : Jvm.MethodName)) ∈ lw_tbl := lw_at lw_m7 214 rfl
theorem q1785 : (Jvm.Cond.instanceMethod ({ cls := "TandemKeepsAPlaceModel", name := "leastIn", desc := "(I)I" } : Jvm.MethodName)) ∈ lw_all := lw_g (lw_at lw_m7 215 rfl) rfl
theorem q1786 : (Jvm.Cond.code ({ cls := "TandemKeepsAPlaceModel", name := "leastIn", desc := "(I)I" } : Jvm.MethodName) prog_16_method_86_code (3 : Nat) (Option.some Jvm.ClassFile.FieldType.int)) ∈ lw_all := lw_g (lw_at lw_m7 216 rfl) rfl
theorem q1788 : (Jvm.Cond.instanceMethod ({ cls := "TandemKeepsAPlaceModel", name := "shut", desc := "(IIII)I" } : Jvm.MethodName)) ∈ lw_all := lw_g (lw_at lw_m7 218 rfl) rfl
theorem q1789 : (Jvm.Cond.selects "TandemKeepsAPlaceModel" ({ cls := "TandemKeepsAPlaceModel", name := "shut", desc := "(IIII)I" } : Jvm.MethodName) ({ cls := "TandemKeepsAPlaceModel", name := "shut", desc := "(IIII)I" } : Jvm.MethodName)) ∈ lw_all := lw_g (lw_at lw_m7 219 rfl) rfl
theorem q1790 : (Jvm.Cond.code ({ cls := "TandemKeepsAPlaceModel", name := "shut", desc := "(IIII)I" } : Jvm.MethodName) prog_16_method_91_code (10 : Nat) (Option.some Jvm.ClassFile.FieldType.int)) ∈ lw_all := lw_g (lw_at lw_m7 220 rfl) rfl
theorem q1792 : (Jvm.Cond.instanceMethod ({ cls := "TandemKeepsAPlaceModel", name := "tells", desc := "(IIII)I" } : Jvm.MethodName)) ∈ lw_all := lw_g (lw_at lw_m7 222 rfl) rfl
theorem q1793 : (Jvm.Cond.selects "TandemKeepsAPlaceModel" ({ cls := "TandemKeepsAPlaceModel", name := "tells", desc := "(IIII)I" } : Jvm.MethodName) ({ cls := "TandemKeepsAPlaceModel", name := "tells", desc := "(IIII)I" } : Jvm.MethodName)) ∈ lw_all := lw_g (lw_at lw_m7 223 rfl) rfl
theorem q1794 : (Jvm.Cond.code ({ cls := "TandemKeepsAPlaceModel", name := "tells", desc := "(IIII)I" } : Jvm.MethodName) prog_16_method_95_code (12 : Nat) (Option.some Jvm.ClassFile.FieldType.int)) ∈ lw_all := lw_g (lw_at lw_m7 224 rfl) rfl
theorem q1795 : (Jvm.Cond.methodLink "TandemKeepsAPlaceModel" (421 : Nat) ({ cls := "TandemKeepsAPlaceModel", name := "isSheet", desc := "(I)Z" } : Jvm.MethodName)) ∈ lw_all := lw_g (lw_at lw_m7 225 rfl) rfl
theorem q1796 : (Jvm.Cond.static ({ cls := "TandemKeepsAPlaceModel", name := "isSheet", desc := "(I)Z" } : Jvm.MethodName)) ∈ lw_all := lw_g (lw_at lw_m7 226 rfl) rfl
theorem q1797 : (Jvm.Cond.code ({ cls := "TandemKeepsAPlaceModel", name := "isSheet", desc := "(I)Z" } : Jvm.MethodName) prog_16_method_104_code (1 : Nat) (Option.some Jvm.ClassFile.FieldType.boolean)) ∈ lw_all := lw_g (lw_at lw_m7 227 rfl) rfl
theorem q1798 : (Jvm.Cond.constantLong "TandemKeepsAPlaceModel" (453 : Nat) (3 : Int64)) ∈ lw_all := lw_g (lw_at lw_m7 228 rfl) rfl
theorem q1799 : (Jvm.Cond.methodLink "TandemKeepsAPlaceModel" (424 : Nat) ({ cls := "TandemKeepsAPlaceModel", name := "areTold", desc := "(I)Z" } : Jvm.MethodName)) ∈ lw_all := lw_g (lw_at lw_m7 229 rfl) rfl
theorem q1800 : (Jvm.Cond.privateMethod ({ cls := "TandemKeepsAPlaceModel", name := "areTold", desc := "(I)Z" } : Jvm.MethodName)) ∈ lw_tbl := lw_at lw_m7 230 rfl
theorem q1801 : (Jvm.Cond.instanceMethod ({ cls := "TandemKeepsAPlaceModel", name := "areTold", desc := "(I)Z" } : Jvm.MethodName)) ∈ lw_all := lw_g (lw_at lw_m7 231 rfl) rfl
theorem q1802 : (Jvm.Cond.code ({ cls := "TandemKeepsAPlaceModel", name := "areTold", desc := "(I)Z" } : Jvm.MethodName) prog_16_method_94_code (2 : Nat) (Option.some Jvm.ClassFile.FieldType.boolean)) ∈ lw_all := lw_g (lw_at lw_m7 232 rfl) rfl
theorem q1803 : (Jvm.Cond.constantLong "TandemKeepsAPlaceModel" (419 : Nat) (55 : Int64)) ∈ lw_all := lw_g (lw_at lw_m7 233 rfl) rfl
theorem q1804 : (Jvm.Cond.constantLong "TandemKeepsAPlaceModel" (427 : Nat) (6 : Int64)) ∈ lw_all := lw_g (lw_at lw_m7 234 rfl) rfl
theorem q1805 : (Jvm.Cond.methodLink "TandemKeepsAPlaceModel" (416 : Nat) ({ cls := "TandemKeepsAPlaceModel", name := "firstOther", desc := "(IIII)I" } : Jvm.MethodName)) ∈ lw_all := lw_g (lw_at lw_m7 235 rfl) rfl
theorem q1806 : (Jvm.Cond.privateMethod ({ cls := "TandemKeepsAPlaceModel", name := "firstOther", desc := "(IIII)I" } : Jvm.MethodName)) ∈ lw_tbl := lw_at lw_m7 236 rfl
theorem q1807 : (Jvm.Cond.instanceMethod ({ cls := "TandemKeepsAPlaceModel", name := "firstOther", desc := "(IIII)I" } : Jvm.MethodName)) ∈ lw_all := lw_g (lw_at lw_m7 237 rfl) rfl
theorem q1808 : (Jvm.Cond.code ({ cls := "TandemKeepsAPlaceModel", name := "firstOther", desc := "(IIII)I" } : Jvm.MethodName) prog_16_method_92_code (6 : Nat) (Option.some Jvm.ClassFile.FieldType.int)) ∈ lw_all := lw_g (lw_at lw_m7 238 rfl) rfl
theorem q1809 : (Jvm.Cond.methodLink "TandemKeepsAPlaceModel" (429 : Nat) ({ cls := "TandemKeepsAPlaceModel", name := "behindSet", desc := "(III)I" } : Jvm.MethodName)) ∈ lw_all := lw_g (lw_at lw_m7 239 rfl) rfl
theorem q1810 : (Jvm.Cond.privateMethod ({ cls := "TandemKeepsAPlaceModel", name := "behindSet", desc := "(III)I" } : Jvm.MethodName)) ∈ lw_tbl := lw_at lw_m8 0 rfl
theorem q1811 : (Jvm.Cond.instanceMethod ({ cls := "TandemKeepsAPlaceModel", name := "behindSet", desc := "(III)I" } : Jvm.MethodName)) ∈ lw_all := lw_g (lw_at lw_m8 1 rfl) rfl
theorem q1812 : (Jvm.Cond.code ({ cls := "TandemKeepsAPlaceModel", name := "behindSet", desc := "(III)I" } : Jvm.MethodName) prog_16_method_93_code (6 : Nat) (Option.some Jvm.ClassFile.FieldType.int)) ∈ lw_all := lw_g (lw_at lw_m8 2 rfl) rfl
theorem q1814 : (Jvm.Cond.instanceMethod ({ cls := "TandemKeepsAPlaceModel", name := "film", desc := "(IIII)I" } : Jvm.MethodName)) ∈ lw_all := lw_g (lw_at lw_m8 4 rfl) rfl
theorem q1815 : (Jvm.Cond.selects "TandemKeepsAPlaceModel" ({ cls := "TandemKeepsAPlaceModel", name := "film", desc := "(IIII)I" } : Jvm.MethodName) ({ cls := "TandemKeepsAPlaceModel", name := "film", desc := "(IIII)I" } : Jvm.MethodName)) ∈ lw_all := lw_g (lw_at lw_m8 5 rfl) rfl
theorem q1816 : (Jvm.Cond.code ({ cls := "TandemKeepsAPlaceModel", name := "film", desc := "(IIII)I" } : Jvm.MethodName) prog_16_method_96_code (6 : Nat) (Option.some Jvm.ClassFile.FieldType.int)) ∈ lw_all := lw_g (lw_at lw_m8 6 rfl) rfl
theorem q1817 : (Jvm.Cond.constantLong "TandemKeepsAPlaceModel" (432 : Nat) (20 : Int64)) ∈ lw_all := lw_g (lw_at lw_m8 7 rfl) rfl
theorem q1818 : (Jvm.Cond.methodLink "TandemKeepsAPlaceModel" (434 : Nat) ({ cls := "TandemKeepsAPlaceModel", name := "sheet", desc := "(III)I" } : Jvm.MethodName)) ∈ lw_all := lw_g (lw_at lw_m8 8 rfl) rfl
theorem q1819 : (Jvm.Cond.instanceMethod ({ cls := "TandemKeepsAPlaceModel", name := "sheet", desc := "(III)I" } : Jvm.MethodName)) ∈ lw_all := lw_g (lw_at lw_m8 9 rfl) rfl
theorem q1820 : (Jvm.Cond.selects "TandemKeepsAPlaceModel" ({ cls := "TandemKeepsAPlaceModel", name := "sheet", desc := "(III)I" } : Jvm.MethodName) ({ cls := "TandemKeepsAPlaceModel", name := "sheet", desc := "(III)I" } : Jvm.MethodName)) ∈ lw_all := lw_g (lw_at lw_m8 10 rfl) rfl
theorem q1821 : (Jvm.Cond.code ({ cls := "TandemKeepsAPlaceModel", name := "sheet", desc := "(III)I" } : Jvm.MethodName) prog_16_method_105_code (5 : Nat) (Option.some Jvm.ClassFile.FieldType.int)) ∈ lw_all := lw_g (lw_at lw_m8 11 rfl) rfl
theorem q1822 : (Jvm.Cond.constantLong "TandemKeepsAPlaceModel" (455 : Nat) (-1 : Int64)) ∈ lw_all := lw_g (lw_at lw_m8 12 rfl) rfl
theorem q1824 : (Jvm.Cond.instanceMethod ({ cls := "TandemKeepsAPlaceModel", name := "drawn", desc := "(III)I" } : Jvm.MethodName)) ∈ lw_all := lw_g (lw_at lw_m8 14 rfl) rfl
theorem q1825 : (Jvm.Cond.selects "TandemKeepsAPlaceModel" ({ cls := "TandemKeepsAPlaceModel", name := "drawn", desc := "(III)I" } : Jvm.MethodName) ({ cls := "TandemKeepsAPlaceModel", name := "drawn", desc := "(III)I" } : Jvm.MethodName)) ∈ lw_all := lw_g (lw_at lw_m8 15 rfl) rfl
theorem q1826 : (Jvm.Cond.code ({ cls := "TandemKeepsAPlaceModel", name := "drawn", desc := "(III)I" } : Jvm.MethodName) prog_16_method_99_code (5 : Nat) (Option.some Jvm.ClassFile.FieldType.int)) ∈ lw_all := lw_g (lw_at lw_m8 16 rfl) rfl
theorem q1827 : (Jvm.Cond.methodLink "TandemKeepsAPlaceModel" (438 : Nat) ({ cls := "TandemKeepsAPlaceModel", name := "draws", desc := "(I)V" } : Jvm.MethodName)) ∈ lw_all := lw_g (lw_at lw_m8 17 rfl) rfl
theorem q1828 : (Jvm.Cond.privateMethod ({ cls := "TandemKeepsAPlaceModel", name := "draws", desc := "(I)V" } : Jvm.MethodName)) ∈ lw_tbl := lw_at lw_m8 18 rfl
theorem q1829 : (Jvm.Cond.instanceMethod ({ cls := "TandemKeepsAPlaceModel", name := "draws", desc := "(I)V" } : Jvm.MethodName)) ∈ lw_all := lw_g (lw_at lw_m8 19 rfl) rfl
theorem q1830 : (Jvm.Cond.code ({ cls := "TandemKeepsAPlaceModel", name := "draws", desc := "(I)V" } : Jvm.MethodName) prog_16_method_97_code (4 : Nat) (Option.none : Option Jvm.ClassFile.FieldType)) ∈ lw_all := lw_g (lw_at lw_m8 20 rfl) rfl
theorem q1831 : (Jvm.Cond.constant "TandemKeepsAPlaceModel" (437 : Nat) (1103515245 : Int32)) ∈ lw_all := lw_g (lw_at lw_m8 21 rfl) rfl
theorem q1832 : (Jvm.Cond.methodLink "TandemKeepsAPlaceModel" (442 : Nat) ({ cls := "TandemKeepsAPlaceModel", name := "laysBack", desc := "()V" } : Jvm.MethodName)) ∈ lw_all := lw_g (lw_at lw_m8 22 rfl) rfl
theorem q1833 : (Jvm.Cond.privateMethod ({ cls := "TandemKeepsAPlaceModel", name := "laysBack", desc := "()V" } : Jvm.MethodName)) ∈ lw_tbl := lw_at lw_m8 23 rfl
theorem q1834 : (Jvm.Cond.instanceMethod ({ cls := "TandemKeepsAPlaceModel", name := "laysBack", desc := "()V" } : Jvm.MethodName)) ∈ lw_all := lw_g (lw_at lw_m8 24 rfl) rfl
theorem q1835 : (Jvm.Cond.code ({ cls := "TandemKeepsAPlaceModel", name := "laysBack", desc := "()V" } : Jvm.MethodName) prog_16_method_98_code (2 : Nat) (Option.none : Option Jvm.ClassFile.FieldType)) ∈ lw_all := lw_g (lw_at lw_m8 25 rfl) rfl
theorem q1837 : (Jvm.Cond.instanceMethod ({ cls := "TandemKeepsAPlaceModel", name := "chance", desc := "(IIII)J" } : Jvm.MethodName)) ∈ lw_all := lw_g (lw_at lw_m8 27 rfl) rfl
theorem q1838 : (Jvm.Cond.selects "TandemKeepsAPlaceModel" ({ cls := "TandemKeepsAPlaceModel", name := "chance", desc := "(IIII)J" } : Jvm.MethodName) ({ cls := "TandemKeepsAPlaceModel", name := "chance", desc := "(IIII)J" } : Jvm.MethodName)) ∈ lw_all := lw_g (lw_at lw_m8 28 rfl) rfl
theorem q1839 : (Jvm.Cond.code ({ cls := "TandemKeepsAPlaceModel", name := "chance", desc := "(IIII)J" } : Jvm.MethodName) prog_16_method_100_code (13 : Nat) (Option.some Jvm.ClassFile.FieldType.long)) ∈ lw_all := lw_g (lw_at lw_m8 29 rfl) rfl
theorem q1840 : (Jvm.Cond.constantLong "TandemKeepsAPlaceModel" (445 : Nat) (-4611686018427387904 : Int64)) ∈ lw_all := lw_g (lw_at lw_m8 30 rfl) rfl
theorem q1842 : (Jvm.Cond.instanceMethod ({ cls := "TandemKeepsAPlaceModel", name := "image", desc := "()I" } : Jvm.MethodName)) ∈ lw_all := lw_g (lw_at lw_m8 32 rfl) rfl
theorem q1843 : (Jvm.Cond.selects "TandemKeepsAPlaceModel" ({ cls := "TandemKeepsAPlaceModel", name := "image", desc := "()I" } : Jvm.MethodName) ({ cls := "TandemKeepsAPlaceModel", name := "image", desc := "()I" } : Jvm.MethodName)) ∈ lw_all := lw_g (lw_at lw_m8 33 rfl) rfl
theorem q1844 : (Jvm.Cond.code ({ cls := "TandemKeepsAPlaceModel", name := "image", desc := "()I" } : Jvm.MethodName) prog_16_method_101_code (2 : Nat) (Option.some Jvm.ClassFile.FieldType.int)) ∈ lw_all := lw_g (lw_at lw_m8 34 rfl) rfl
theorem q1846 : (Jvm.Cond.instanceMethod ({ cls := "TandemKeepsAPlaceModel", name := "back", desc := "()I" } : Jvm.MethodName)) ∈ lw_all := lw_g (lw_at lw_m8 36 rfl) rfl
theorem q1847 : (Jvm.Cond.selects "TandemKeepsAPlaceModel" ({ cls := "TandemKeepsAPlaceModel", name := "back", desc := "()I" } : Jvm.MethodName) ({ cls := "TandemKeepsAPlaceModel", name := "back", desc := "()I" } : Jvm.MethodName)) ∈ lw_all := lw_g (lw_at lw_m8 37 rfl) rfl
theorem q1848 : (Jvm.Cond.code ({ cls := "TandemKeepsAPlaceModel", name := "back", desc := "()I" } : Jvm.MethodName) prog_16_method_102_code (2 : Nat) (Option.some Jvm.ClassFile.FieldType.int)) ∈ lw_all := lw_g (lw_at lw_m8 38 rfl) rfl
theorem q1850 : (Jvm.Cond.instanceMethod ({ cls := "TandemKeepsAPlaceModel", name := "count", desc := "(I)I" } : Jvm.MethodName)) ∈ lw_all := lw_g (lw_at lw_m8 40 rfl) rfl
theorem q1851 : (Jvm.Cond.selects "TandemKeepsAPlaceModel" ({ cls := "TandemKeepsAPlaceModel", name := "count", desc := "(I)I" } : Jvm.MethodName) ({ cls := "TandemKeepsAPlaceModel", name := "count", desc := "(I)I" } : Jvm.MethodName)) ∈ lw_all := lw_g (lw_at lw_m8 41 rfl) rfl
theorem q1852 : (Jvm.Cond.code ({ cls := "TandemKeepsAPlaceModel", name := "count", desc := "(I)I" } : Jvm.MethodName) prog_16_method_103_code (4 : Nat) (Option.some Jvm.ClassFile.FieldType.int)) ∈ lw_all := lw_g (lw_at lw_m8 42 rfl) rfl
theorem q1855 : (Jvm.Cond.instanceMethod ({ cls := "TandemKeepsAPlaceModel", name := "cell", desc := "(III)I" } : Jvm.MethodName)) ∈ lw_all := lw_g (lw_at lw_m8 45 rfl) rfl
theorem q1856 : (Jvm.Cond.selects "TandemKeepsAPlaceModel" ({ cls := "TandemKeepsAPlaceModel", name := "cell", desc := "(III)I" } : Jvm.MethodName) ({ cls := "TandemKeepsAPlaceModel", name := "cell", desc := "(III)I" } : Jvm.MethodName)) ∈ lw_all := lw_g (lw_at lw_m8 46 rfl) rfl
theorem q1857 : (Jvm.Cond.code ({ cls := "TandemKeepsAPlaceModel", name := "cell", desc := "(III)I" } : Jvm.MethodName) prog_16_method_106_code (4 : Nat) (Option.some Jvm.ClassFile.FieldType.int)) ∈ lw_all := lw_g (lw_at lw_m8 47 rfl) rfl
theorem q1859 : (Jvm.Cond.instanceMethod ({ cls := "TandemKeepsAPlaceModel", name := "copy", desc := "(IIIII)I" } : Jvm.MethodName)) ∈ lw_all := lw_g (lw_at lw_m8 49 rfl) rfl
theorem q1860 : (Jvm.Cond.selects "TandemKeepsAPlaceModel" ({ cls := "TandemKeepsAPlaceModel", name := "copy", desc := "(IIIII)I" } : Jvm.MethodName) ({ cls := "TandemKeepsAPlaceModel", name := "copy", desc := "(IIIII)I" } : Jvm.MethodName)) ∈ lw_all := lw_g (lw_at lw_m8 50 rfl) rfl
theorem q1861 : (Jvm.Cond.code ({ cls := "TandemKeepsAPlaceModel", name := "copy", desc := "(IIIII)I" } : Jvm.MethodName) prog_16_method_107_code (9 : Nat) (Option.some Jvm.ClassFile.FieldType.int)) ∈ lw_all := lw_g (lw_at lw_m8 51 rfl) rfl
theorem q1863 : (Jvm.Cond.instanceMethod ({ cls := "TandemKeepsAPlaceModel", name := "people", desc := "(IIII)I" } : Jvm.MethodName)) ∈ lw_all := lw_g (lw_at lw_m8 53 rfl) rfl
theorem q1864 : (Jvm.Cond.selects "TandemKeepsAPlaceModel" ({ cls := "TandemKeepsAPlaceModel", name := "people", desc := "(IIII)I" } : Jvm.MethodName) ({ cls := "TandemKeepsAPlaceModel", name := "people", desc := "(IIII)I" } : Jvm.MethodName)) ∈ lw_all := lw_g (lw_at lw_m8 54 rfl) rfl
theorem q1865 : (Jvm.Cond.code ({ cls := "TandemKeepsAPlaceModel", name := "people", desc := "(IIII)I" } : Jvm.MethodName) prog_16_method_108_code (8 : Nat) (Option.some Jvm.ClassFile.FieldType.int)) ∈ lw_all := lw_g (lw_at lw_m8 55 rfl) rfl
theorem q1866 : (Jvm.Cond.methodLink "TandemKeepsAPlaceModel" (457 : Nat) ({ cls := "TandemKeepsAPlaceModel", name := "person", desc := "(III)I" } : Jvm.MethodName)) ∈ lw_all := lw_g (lw_at lw_m8 56 rfl) rfl
theorem q1868 : (Jvm.Cond.instanceMethod ({ cls := "TandemKeepsAPlaceModel", name := "taken", desc := "(II)I" } : Jvm.MethodName)) ∈ lw_all := lw_g (lw_at lw_m8 58 rfl) rfl
theorem q1869 : (Jvm.Cond.selects "TandemKeepsAPlaceModel" ({ cls := "TandemKeepsAPlaceModel", name := "taken", desc := "(II)I" } : Jvm.MethodName) ({ cls := "TandemKeepsAPlaceModel", name := "taken", desc := "(II)I" } : Jvm.MethodName)) ∈ lw_all := lw_g (lw_at lw_m8 59 rfl) rfl
theorem q1870 : (Jvm.Cond.code ({ cls := "TandemKeepsAPlaceModel", name := "taken", desc := "(II)I" } : Jvm.MethodName) prog_16_method_110_code (4 : Nat) (Option.some Jvm.ClassFile.FieldType.int)) ∈ lw_all := lw_g (lw_at lw_m8 60 rfl) rfl
theorem q1871 : (Jvm.Cond.methodLink "TandemKeepsAPlaceModel" (460 : Nat) ({ cls := "TandemKeepsAPlaceModel", name := "over", desc := "(I)I" } : Jvm.MethodName)) ∈ lw_all := lw_g (lw_at lw_m8 61 rfl) rfl
theorem q1872 : (Jvm.Cond.static ({ cls := "TandemKeepsAPlaceModel", name := "over", desc := "(I)I" } : Jvm.MethodName)) ∈ lw_all := lw_g (lw_at lw_m8 62 rfl) rfl
theorem q1873 : (Jvm.Cond.code ({ cls := "TandemKeepsAPlaceModel", name := "over", desc := "(I)I" } : Jvm.MethodName) prog_16_method_109_code (1 : Nat) (Option.some Jvm.ClassFile.FieldType.int)) ∈ lw_all := lw_g (lw_at lw_m8 63 rfl) rfl
theorem in_X8 : ∀ w ∈ wsX80, w ∈ lw_all := lw_in wsX80 [1339, 1341, 1343, 1345, 1347, 1349, 1351, 1353, 1355, 1357, 1359, 1361, 1363, 1365, 1367, 1369, 1371, 1373, 1375, 1377, 1379, 1381, 1383, 1385, 1387, 1389, 1391, 1393, 1395, 1397, 1399, 1401, 1403, 1405, 1407, 1409, 1411, 1413, 1415, 1417, 1419, 1421, 1423, 1425, 1427] (by decide +kernel) (by decide +kernel)
