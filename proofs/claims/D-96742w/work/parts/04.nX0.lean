/-! TandemKeepsAPlace -/
set_option maxRecDepth 100000
def RX0 : String := "TandemKeepsAPlace"
def TX0 : u_T := fun k => match k with
  | 0 => ("TandemKeepsAPlace", "folk", "[LTandemKeepsAPlace$Rider;", true)
  | 1 => ("TandemKeepsAPlace", "many", "I", false)
  | 2 => ("TandemKeepsAPlace", "hour", "I", false)
  | 3 => ("TandemKeepsAPlace", "roads", "[[I", true)
  | 4 => ("TandemKeepsAPlace", "far", "[[I", true)
  | 5 => ("TandemKeepsAPlace", "faulty", "LTandemKeepsAPlace$Faulty;", true)
  | 6 => ("TandemKeepsAPlace", "forOne", "I", false)
  | 7 => ("TandemKeepsAPlace", "forOther", "I", false)
  | 8 => ("TandemKeepsAPlace", "forPlace", "I", false)
  | 9 => ("TandemKeepsAPlace", "forSteps", "I", false)
  | 10 => ("TandemKeepsAPlace", "forBehind", "I", false)
  | 11 => ("TandemKeepsAPlace", "texts", "[[LTandemKeepsAPlace$Node;", true)
  | 12 => ("TandemKeepsAPlace", "textMany", "I", false)
  | 13 => ("TandemKeepsAPlace", "keys", "[Ljava/lang/String;", true)
  | 14 => ("TandemKeepsAPlace", "names", "[Ljava/lang/String;", true)
  | 15 => ("TandemKeepsAPlace", "tape", "[B", true)
  | 16 => ("TandemKeepsAPlace", "taped", "I", false)
  | 17 => ("TandemKeepsAPlace", "length", "I", false)
  | 18 => ("TandemKeepsAPlace", "at", "I", false)
  | 19 => ("TandemKeepsAPlace", "begin", "I", false)
  | 20 => ("TandemKeepsAPlace", "token", "I", false)
  | 21 => ("TandemKeepsAPlace", "value", "I", false)
  | 22 => ("TandemKeepsAPlace", "opens", "I", false)
  | 23 => ("TandemKeepsAPlace", "rule", "I", false)
  | 24 => ("TandemKeepsAPlace", "placeAt", "[I", true)
  | 25 => ("TandemKeepsAPlace", "steps", "I", false)
  | 26 => ("TandemKeepsAPlace", "miles", "I", false)
  | 27 => ("TandemKeepsAPlace", "frontSteps", "I", false)
  | 28 => ("TandemKeepsAPlace", "hasBest", "Z", false)
  | 29 => ("TandemKeepsAPlace", "bestLong", "I", false)
  | 30 => ("TandemKeepsAPlace", "bestDigits", "I", false)
  | 31 => ("TandemKeepsAPlace", "keptGoals", "[I", true)
  | 32 => ("TandemKeepsAPlace", "hasImage", "Z", false)
  | 33 => ("TandemKeepsAPlace", "imageRoads", "[[I", true)
  | 34 => ("TandemKeepsAPlace", "imageFolk", "[[I", true)
  | 35 => ("TandemKeepsAPlace", "imageNumbers", "[I", true)
  | _ => ("TandemKeepsAPlace", "sheets", "[LTandemKeepsAPlace$Sheet;", true)
def tyX0 : Nat → FieldType := fun k => match k with
  | 0 => .array (.object "TandemKeepsAPlace$Rider")
  | 1 => .int
  | 2 => .int
  | 3 => .array (.array .int)
  | 4 => .array (.array .int)
  | 5 => .object "TandemKeepsAPlace$Faulty"
  | 6 => .int
  | 7 => .int
  | 8 => .int
  | 9 => .int
  | 10 => .int
  | 11 => .array (.array (.object "TandemKeepsAPlace$Node"))
  | 12 => .int
  | 13 => .array (.object "java/lang/String")
  | 14 => .array (.object "java/lang/String")
  | 15 => .array .byte
  | 16 => .int
  | 17 => .int
  | 18 => .int
  | 19 => .int
  | 20 => .int
  | 21 => .int
  | 22 => .int
  | 23 => .int
  | 24 => .array .int
  | 25 => .int
  | 26 => .int
  | 27 => .int
  | 28 => .boolean
  | 29 => .int
  | 30 => .int
  | 31 => .array .int
  | 32 => .boolean
  | 33 => .array (.array .int)
  | 34 => .array (.array .int)
  | 35 => .array .int
  | _ => .array (.object "TandemKeepsAPlace$Sheet")
abbrev wsX00 : List Cond := u_ws RX0 TX0 37
set_option maxRecDepth 100000 in
theorem nmX0 : ∀ a, a < 37 → ∀ b, b < 37 → a ≠ b → (TX0 a).2.1 ≠ (TX0 b).2.1 := by decide +kernel
set_option maxRecDepth 100000 in
theorem tyX0_ok : ∀ k, k < 37 → parseFieldDescriptor (TX0 k).2.2.1 = some (tyX0 k) := by decide +kernel
abbrev cX0_person : ByteArray := prog_1_method_9_code
def yX0_person : MethodName := ⟨RX0, "person", "(III)I"⟩
def dkwX0_person_3 : List UInt8 := [42, 180, 0, 18, 4, 100, 172]
abbrev dktX0_person_3 : List UInt8 := dkwX0_person_3 ++ []
def dkwX0_person_2 : List UInt8 := [180, 0, 60, 42, 180, 0, 18, 27, 28, 29, 184, 0, 64, 83, 42, 89, 180, 0, 18, 4, 96, 181, 0, 18]
abbrev dktX0_person_2 : List UInt8 := dkwX0_person_2 ++ dktX0_person_3
def dkwX0_person_1 : List UInt8 := [29, 184, 0, 57, 154, 0, 6, 16, 254, 172, 42, 180, 0, 18, 16, 6, 160, 0, 6, 16, 252, 172, 42]
abbrev dktX0_person_1 : List UInt8 := dkwX0_person_1 ++ dktX0_person_2
def dkwX0_person_0 : List UInt8 := [27, 133, 9, 20, 0, 53, 184, 0, 14, 153, 0, 22, 28, 133, 9, 20, 0, 55, 184, 0, 14, 153, 0, 10]
abbrev dktX0_person_0 : List UInt8 := dkwX0_person_0 ++ dktX0_person_1
theorem dksX0_person_0 : cX0_person.data.toList.drop 0 = dktX0_person_0 := by decide +kernel
theorem dksX0_person_1 : cX0_person.data.toList.drop 24 = dktX0_person_1 := dk_seg dksX0_person_0 24 rfl rfl
theorem dksX0_person_2 : cX0_person.data.toList.drop 47 = dktX0_person_2 := dk_seg dksX0_person_1 23 rfl rfl
theorem dksX0_person_3 : cX0_person.data.toList.drop 71 = dktX0_person_3 := dk_seg dksX0_person_2 24 rfl rfl
theorem dX0_person_0 : decode cX0_person 0 = .ok (.iload_n 1, 1) := dk_27 (dk_at dksX0_person_0 0 rfl rfl)
theorem dX0_person_1 : decode cX0_person 1 = .ok (.i2l, 1) := dk_133 (dk_at dksX0_person_0 1 rfl rfl)
theorem dX0_person_2 : decode cX0_person 2 = .ok (.lconst 0, 1) := dk_9 (dk_at dksX0_person_0 2 rfl rfl)
theorem dX0_person_3 : decode cX0_person 3 = .ok (.ldc2_w 53, 3) := dk_20 0 53 (dk_at dksX0_person_0 3 rfl rfl)
theorem dX0_person_6 : decode cX0_person 6 = .ok (.invokestatic 14, 3) := dk_184 0 14 (dk_at dksX0_person_0 6 rfl rfl)
theorem dX0_person_9 : decode cX0_person 9 = .ok (.ifCond .eq 22, 3) := dk_153 0 22 (dk_at dksX0_person_0 9 rfl rfl)
theorem dX0_person_12 : decode cX0_person 12 = .ok (.iload_n 2, 1) := dk_28 (dk_at dksX0_person_0 12 rfl rfl)
theorem dX0_person_13 : decode cX0_person 13 = .ok (.i2l, 1) := dk_133 (dk_at dksX0_person_0 13 rfl rfl)
theorem dX0_person_14 : decode cX0_person 14 = .ok (.lconst 0, 1) := dk_9 (dk_at dksX0_person_0 14 rfl rfl)
theorem dX0_person_15 : decode cX0_person 15 = .ok (.ldc2_w 55, 3) := dk_20 0 55 (dk_at dksX0_person_0 15 rfl rfl)
theorem dX0_person_18 : decode cX0_person 18 = .ok (.invokestatic 14, 3) := dk_184 0 14 (dk_at dksX0_person_0 18 rfl rfl)
theorem dX0_person_21 : decode cX0_person 21 = .ok (.ifCond .eq 10, 3) := dk_153 0 10 (dk_at dksX0_person_0 21 rfl rfl)
theorem dX0_person_24 : decode cX0_person 24 = .ok (.iload_n 3, 1) := dk_29 (dk_at dksX0_person_1 0 rfl rfl)
theorem dX0_person_25 : decode cX0_person 25 = .ok (.invokestatic 57, 3) := dk_184 0 57 (dk_at dksX0_person_1 1 rfl rfl)
theorem dX0_person_28 : decode cX0_person 28 = .ok (.ifCond .ne 6, 3) := dk_154 0 6 (dk_at dksX0_person_1 4 rfl rfl)
theorem dX0_person_31 : decode cX0_person 31 = .ok (.bipush (-2), 2) := dk_16 254 (dk_at dksX0_person_1 7 rfl rfl)
theorem dX0_person_33 : decode cX0_person 33 = .ok (.ireturn, 1) := dk_172 (dk_at dksX0_person_1 9 rfl rfl)
theorem dX0_person_34 : decode cX0_person 34 = .ok (.aload_n 0, 1) := dk_42 (dk_at dksX0_person_1 10 rfl rfl)
theorem dX0_person_35 : decode cX0_person 35 = .ok (.getfield 18, 3) := dk_180 0 18 (dk_at dksX0_person_1 11 rfl rfl)
theorem dX0_person_38 : decode cX0_person 38 = .ok (.bipush 6, 2) := dk_16 6 (dk_at dksX0_person_1 14 rfl rfl)
theorem dX0_person_40 : decode cX0_person 40 = .ok (.if_icmp .ne 6, 3) := dk_160 0 6 (dk_at dksX0_person_1 16 rfl rfl)
theorem dX0_person_43 : decode cX0_person 43 = .ok (.bipush (-4), 2) := dk_16 252 (dk_at dksX0_person_1 19 rfl rfl)
theorem dX0_person_45 : decode cX0_person 45 = .ok (.ireturn, 1) := dk_172 (dk_at dksX0_person_1 21 rfl rfl)
theorem dX0_person_46 : decode cX0_person 46 = .ok (.aload_n 0, 1) := dk_42 (dk_at dksX0_person_1 22 rfl rfl)
theorem dX0_person_47 : decode cX0_person 47 = .ok (.getfield 60, 3) := dk_180 0 60 (dk_at dksX0_person_2 0 rfl rfl)
theorem dX0_person_50 : decode cX0_person 50 = .ok (.aload_n 0, 1) := dk_42 (dk_at dksX0_person_2 3 rfl rfl)
theorem dX0_person_51 : decode cX0_person 51 = .ok (.getfield 18, 3) := dk_180 0 18 (dk_at dksX0_person_2 4 rfl rfl)
theorem dX0_person_54 : decode cX0_person 54 = .ok (.iload_n 1, 1) := dk_27 (dk_at dksX0_person_2 7 rfl rfl)
theorem dX0_person_55 : decode cX0_person 55 = .ok (.iload_n 2, 1) := dk_28 (dk_at dksX0_person_2 8 rfl rfl)
theorem dX0_person_56 : decode cX0_person 56 = .ok (.iload_n 3, 1) := dk_29 (dk_at dksX0_person_2 9 rfl rfl)
theorem dX0_person_57 : decode cX0_person 57 = .ok (.invokestatic 64, 3) := dk_184 0 64 (dk_at dksX0_person_2 10 rfl rfl)
theorem dX0_person_60 : decode cX0_person 60 = .ok (.aastore, 1) := dk_83 (dk_at dksX0_person_2 13 rfl rfl)
theorem dX0_person_61 : decode cX0_person 61 = .ok (.aload_n 0, 1) := dk_42 (dk_at dksX0_person_2 14 rfl rfl)
theorem dX0_person_62 : decode cX0_person 62 = .ok (.dup, 1) := dk_89 (dk_at dksX0_person_2 15 rfl rfl)
theorem dX0_person_63 : decode cX0_person 63 = .ok (.getfield 18, 3) := dk_180 0 18 (dk_at dksX0_person_2 16 rfl rfl)
theorem dX0_person_66 : decode cX0_person 66 = .ok (.iconst 1, 1) := dk_4 (dk_at dksX0_person_2 19 rfl rfl)
theorem dX0_person_67 : decode cX0_person 67 = .ok (.iadd, 1) := dk_96 (dk_at dksX0_person_2 20 rfl rfl)
theorem dX0_person_68 : decode cX0_person 68 = .ok (.putfield 18, 3) := dk_181 0 18 (dk_at dksX0_person_2 21 rfl rfl)
theorem dX0_person_71 : decode cX0_person 71 = .ok (.aload_n 0, 1) := dk_42 (dk_at dksX0_person_3 0 rfl rfl)
theorem dX0_person_72 : decode cX0_person 72 = .ok (.getfield 18, 3) := dk_180 0 18 (dk_at dksX0_person_3 1 rfl rfl)
theorem dX0_person_75 : decode cX0_person 75 = .ok (.iconst 1, 1) := dk_4 (dk_at dksX0_person_3 4 rfl rfl)
theorem dX0_person_76 : decode cX0_person 76 = .ok (.isub, 1) := dk_100 (dk_at dksX0_person_3 5 rfl rfl)
theorem dX0_person_77 : decode cX0_person 77 = .ok (.ireturn, 1) := dk_172 (dk_at dksX0_person_3 6 rfl rfl)
abbrev cX0_in : ByteArray := prog_1_method_1_code
def yX0_in : MethodName := ⟨RX0, "in", "(JJJ)Z"⟩
def dkwX0_in_0 : List UInt8 := [30, 32, 148, 155, 0, 14, 30, 22, 4, 148, 157, 0, 7, 4, 167, 0, 4, 3, 172]
abbrev dktX0_in_0 : List UInt8 := dkwX0_in_0 ++ []
theorem dksX0_in_0 : cX0_in.data.toList.drop 0 = dktX0_in_0 := by decide +kernel
theorem dX0_in_0 : decode cX0_in 0 = .ok (.lload_n 0, 1) := dk_30 (dk_at dksX0_in_0 0 rfl rfl)
theorem dX0_in_1 : decode cX0_in 1 = .ok (.lload_n 2, 1) := dk_32 (dk_at dksX0_in_0 1 rfl rfl)
theorem dX0_in_2 : decode cX0_in 2 = .ok (.lcmp, 1) := dk_148 (dk_at dksX0_in_0 2 rfl rfl)
theorem dX0_in_3 : decode cX0_in 3 = .ok (.ifCond .lt 14, 3) := dk_155 0 14 (dk_at dksX0_in_0 3 rfl rfl)
theorem dX0_in_6 : decode cX0_in 6 = .ok (.lload_n 0, 1) := dk_30 (dk_at dksX0_in_0 6 rfl rfl)
theorem dX0_in_7 : decode cX0_in 7 = .ok (.lload 4, 2) := dk_22 4 (dk_at dksX0_in_0 7 rfl rfl)
theorem dX0_in_9 : decode cX0_in 9 = .ok (.lcmp, 1) := dk_148 (dk_at dksX0_in_0 9 rfl rfl)
theorem dX0_in_10 : decode cX0_in 10 = .ok (.ifCond .gt 7, 3) := dk_157 0 7 (dk_at dksX0_in_0 10 rfl rfl)
theorem dX0_in_13 : decode cX0_in 13 = .ok (.iconst 1, 1) := dk_4 (dk_at dksX0_in_0 13 rfl rfl)
theorem dX0_in_14 : decode cX0_in 14 = .ok (.goto 4, 3) := dk_167 0 4 (dk_at dksX0_in_0 14 rfl rfl)
theorem dX0_in_17 : decode cX0_in 17 = .ok (.iconst 0, 1) := dk_3 (dk_at dksX0_in_0 17 rfl rfl)
theorem dX0_in_18 : decode cX0_in 18 = .ok (.ireturn, 1) := dk_172 (dk_at dksX0_in_0 18 rfl rfl)
abbrev cX0_isPlace : ByteArray := prog_1_method_4_code
def yX0_isPlace : MethodName := ⟨RX0, "isPlace", "(I)Z"⟩
def dkwX0_isPlace_0 : List UInt8 := [26, 133, 9, 20, 0, 12, 184, 0, 14, 172]
abbrev dktX0_isPlace_0 : List UInt8 := dkwX0_isPlace_0 ++ []
theorem dksX0_isPlace_0 : cX0_isPlace.data.toList.drop 0 = dktX0_isPlace_0 := by decide +kernel
theorem dX0_isPlace_0 : decode cX0_isPlace 0 = .ok (.iload_n 0, 1) := dk_26 (dk_at dksX0_isPlace_0 0 rfl rfl)
theorem dX0_isPlace_1 : decode cX0_isPlace 1 = .ok (.i2l, 1) := dk_133 (dk_at dksX0_isPlace_0 1 rfl rfl)
theorem dX0_isPlace_2 : decode cX0_isPlace 2 = .ok (.lconst 0, 1) := dk_9 (dk_at dksX0_isPlace_0 2 rfl rfl)
theorem dX0_isPlace_3 : decode cX0_isPlace 3 = .ok (.ldc2_w 12, 3) := dk_20 0 12 (dk_at dksX0_isPlace_0 3 rfl rfl)
theorem dX0_isPlace_6 : decode cX0_isPlace 6 = .ok (.invokestatic 14, 3) := dk_184 0 14 (dk_at dksX0_isPlace_0 6 rfl rfl)
theorem dX0_isPlace_9 : decode cX0_isPlace 9 = .ok (.ireturn, 1) := dk_172 (dk_at dksX0_isPlace_0 9 rfl rfl)
abbrev cX0_made : ByteArray := prog_1_method_8_code
def yX0_made : MethodName := ⟨RX0, "made", "(III)LTandemKeepsAPlace$Rider;"⟩
def dkwX0_made_4 : List UInt8 := [183, 0, 49, 176, 187, 0, 50, 89, 27, 28, 183, 0, 52, 176]
abbrev dktX0_made_4 : List UInt8 := dkwX0_made_4 ++ []
def dkwX0_made_3 : List UInt8 := [27, 28, 183, 0, 43, 176, 187, 0, 44, 89, 27, 28, 183, 0, 46, 176, 187, 0, 47, 89, 27, 28]
abbrev dktX0_made_3 : List UInt8 := dkwX0_made_3 ++ dktX0_made_4
def dkwX0_made_2 : List UInt8 := [187, 0, 32, 89, 27, 28, 183, 0, 34, 176, 187, 0, 38, 89, 27, 28, 183, 0, 40, 176, 187, 0, 41, 89]
abbrev dktX0_made_2 : List UInt8 := dkwX0_made_2 ++ dktX0_made_3
def dkwX0_made_1 : List UInt8 := [170, 0, 0, 0, 0, 0, 85, 0, 0, 0, 1, 0, 0, 0, 5, 0, 0, 0, 35, 0, 0, 0, 45, 0, 0, 0, 55, 0, 0, 0, 65, 0, 0, 0, 75]
abbrev dktX0_made_1 : List UInt8 := dkwX0_made_1 ++ dktX0_made_2
def dkwX0_made_0 : List UInt8 := [26]
abbrev dktX0_made_0 : List UInt8 := dkwX0_made_0 ++ dktX0_made_1
theorem dksX0_made_0 : cX0_made.data.toList.drop 0 = dktX0_made_0 := by decide +kernel
theorem dksX0_made_1 : cX0_made.data.toList.drop 1 = dktX0_made_1 := dk_seg dksX0_made_0 1 rfl rfl
theorem dksX0_made_2 : cX0_made.data.toList.drop 36 = dktX0_made_2 := dk_seg dksX0_made_1 35 rfl rfl
theorem dksX0_made_3 : cX0_made.data.toList.drop 60 = dktX0_made_3 := dk_seg dksX0_made_2 24 rfl rfl
theorem dksX0_made_4 : cX0_made.data.toList.drop 82 = dktX0_made_4 := dk_seg dksX0_made_3 22 rfl rfl
theorem dX0_made_0 : decode cX0_made 0 = .ok (.iload_n 0, 1) := dk_26 (dk_at dksX0_made_0 0 rfl rfl)
theorem dX0_made_1 : decode cX0_made 1 = .ok (.tableswitch 85 1 5 #[35, 45, 55, 65, 75], 35) := by decide +kernel
theorem dX0_made_36 : decode cX0_made 36 = .ok (.new 32, 3) := dk_187 0 32 (dk_at dksX0_made_2 0 rfl rfl)
theorem dX0_made_39 : decode cX0_made 39 = .ok (.dup, 1) := dk_89 (dk_at dksX0_made_2 3 rfl rfl)
theorem dX0_made_40 : decode cX0_made 40 = .ok (.iload_n 1, 1) := dk_27 (dk_at dksX0_made_2 4 rfl rfl)
theorem dX0_made_41 : decode cX0_made 41 = .ok (.iload_n 2, 1) := dk_28 (dk_at dksX0_made_2 5 rfl rfl)
theorem dX0_made_42 : decode cX0_made 42 = .ok (.invokespecial 34, 3) := dk_183 0 34 (dk_at dksX0_made_2 6 rfl rfl)
theorem dX0_made_45 : decode cX0_made 45 = .ok (.areturn, 1) := dk_176 (dk_at dksX0_made_2 9 rfl rfl)
theorem dX0_made_46 : decode cX0_made 46 = .ok (.new 38, 3) := dk_187 0 38 (dk_at dksX0_made_2 10 rfl rfl)
theorem dX0_made_49 : decode cX0_made 49 = .ok (.dup, 1) := dk_89 (dk_at dksX0_made_2 13 rfl rfl)
theorem dX0_made_50 : decode cX0_made 50 = .ok (.iload_n 1, 1) := dk_27 (dk_at dksX0_made_2 14 rfl rfl)
theorem dX0_made_51 : decode cX0_made 51 = .ok (.iload_n 2, 1) := dk_28 (dk_at dksX0_made_2 15 rfl rfl)
theorem dX0_made_52 : decode cX0_made 52 = .ok (.invokespecial 40, 3) := dk_183 0 40 (dk_at dksX0_made_2 16 rfl rfl)
theorem dX0_made_55 : decode cX0_made 55 = .ok (.areturn, 1) := dk_176 (dk_at dksX0_made_2 19 rfl rfl)
theorem dX0_made_56 : decode cX0_made 56 = .ok (.new 41, 3) := dk_187 0 41 (dk_at dksX0_made_2 20 rfl rfl)
theorem dX0_made_59 : decode cX0_made 59 = .ok (.dup, 1) := dk_89 (dk_at dksX0_made_2 23 rfl rfl)
theorem dX0_made_60 : decode cX0_made 60 = .ok (.iload_n 1, 1) := dk_27 (dk_at dksX0_made_3 0 rfl rfl)
theorem dX0_made_61 : decode cX0_made 61 = .ok (.iload_n 2, 1) := dk_28 (dk_at dksX0_made_3 1 rfl rfl)
theorem dX0_made_62 : decode cX0_made 62 = .ok (.invokespecial 43, 3) := dk_183 0 43 (dk_at dksX0_made_3 2 rfl rfl)
theorem dX0_made_65 : decode cX0_made 65 = .ok (.areturn, 1) := dk_176 (dk_at dksX0_made_3 5 rfl rfl)
theorem dX0_made_66 : decode cX0_made 66 = .ok (.new 44, 3) := dk_187 0 44 (dk_at dksX0_made_3 6 rfl rfl)
theorem dX0_made_69 : decode cX0_made 69 = .ok (.dup, 1) := dk_89 (dk_at dksX0_made_3 9 rfl rfl)
theorem dX0_made_70 : decode cX0_made 70 = .ok (.iload_n 1, 1) := dk_27 (dk_at dksX0_made_3 10 rfl rfl)
theorem dX0_made_71 : decode cX0_made 71 = .ok (.iload_n 2, 1) := dk_28 (dk_at dksX0_made_3 11 rfl rfl)
theorem dX0_made_72 : decode cX0_made 72 = .ok (.invokespecial 46, 3) := dk_183 0 46 (dk_at dksX0_made_3 12 rfl rfl)
theorem dX0_made_75 : decode cX0_made 75 = .ok (.areturn, 1) := dk_176 (dk_at dksX0_made_3 15 rfl rfl)
theorem dX0_made_76 : decode cX0_made 76 = .ok (.new 47, 3) := dk_187 0 47 (dk_at dksX0_made_3 16 rfl rfl)
theorem dX0_made_79 : decode cX0_made 79 = .ok (.dup, 1) := dk_89 (dk_at dksX0_made_3 19 rfl rfl)
theorem dX0_made_80 : decode cX0_made 80 = .ok (.iload_n 1, 1) := dk_27 (dk_at dksX0_made_3 20 rfl rfl)
theorem dX0_made_81 : decode cX0_made 81 = .ok (.iload_n 2, 1) := dk_28 (dk_at dksX0_made_3 21 rfl rfl)
theorem dX0_made_82 : decode cX0_made 82 = .ok (.invokespecial 49, 3) := dk_183 0 49 (dk_at dksX0_made_4 0 rfl rfl)
theorem dX0_made_85 : decode cX0_made 85 = .ok (.areturn, 1) := dk_176 (dk_at dksX0_made_4 3 rfl rfl)
theorem dX0_made_86 : decode cX0_made 86 = .ok (.new 50, 3) := dk_187 0 50 (dk_at dksX0_made_4 4 rfl rfl)
theorem dX0_made_89 : decode cX0_made 89 = .ok (.dup, 1) := dk_89 (dk_at dksX0_made_4 7 rfl rfl)
theorem dX0_made_90 : decode cX0_made 90 = .ok (.iload_n 1, 1) := dk_27 (dk_at dksX0_made_4 8 rfl rfl)
theorem dX0_made_91 : decode cX0_made 91 = .ok (.iload_n 2, 1) := dk_28 (dk_at dksX0_made_4 9 rfl rfl)
theorem dX0_made_92 : decode cX0_made 92 = .ok (.invokespecial 52, 3) := dk_183 0 52 (dk_at dksX0_made_4 10 rfl rfl)
theorem dX0_made_95 : decode cX0_made 95 = .ok (.areturn, 1) := dk_176 (dk_at dksX0_made_4 13 rfl rfl)
abbrev cX0_road : ByteArray := prog_1_method_12_code
def yX0_road : MethodName := ⟨RX0, "road", "(III)I"⟩
def dkwX0_road_2 : List UInt8 := [28, 29, 182, 0, 81, 21, 4, 172]
abbrev dktX0_road_2 : List UInt8 := dkwX0_road_2 ++ []
def dkwX0_road_1 : List UInt8 := [20, 0, 79, 184, 0, 14, 154, 0, 6, 16, 254, 172, 42, 180, 0, 72, 27, 50, 28, 46, 54, 4, 42, 27]
abbrev dktX0_road_1 : List UInt8 := dkwX0_road_1 ++ dktX0_road_2
def dkwX0_road_0 : List UInt8 := [27, 184, 0, 57, 153, 0, 27, 28, 184, 0, 57, 153, 0, 20, 27, 28, 159, 0, 15, 29, 133, 9]
abbrev dktX0_road_0 : List UInt8 := dkwX0_road_0 ++ dktX0_road_1
theorem dksX0_road_0 : cX0_road.data.toList.drop 0 = dktX0_road_0 := by decide +kernel
theorem dksX0_road_1 : cX0_road.data.toList.drop 22 = dktX0_road_1 := dk_seg dksX0_road_0 22 rfl rfl
theorem dksX0_road_2 : cX0_road.data.toList.drop 46 = dktX0_road_2 := dk_seg dksX0_road_1 24 rfl rfl
theorem dX0_road_0 : decode cX0_road 0 = .ok (.iload_n 1, 1) := dk_27 (dk_at dksX0_road_0 0 rfl rfl)
theorem dX0_road_1 : decode cX0_road 1 = .ok (.invokestatic 57, 3) := dk_184 0 57 (dk_at dksX0_road_0 1 rfl rfl)
theorem dX0_road_4 : decode cX0_road 4 = .ok (.ifCond .eq 27, 3) := dk_153 0 27 (dk_at dksX0_road_0 4 rfl rfl)
theorem dX0_road_7 : decode cX0_road 7 = .ok (.iload_n 2, 1) := dk_28 (dk_at dksX0_road_0 7 rfl rfl)
theorem dX0_road_8 : decode cX0_road 8 = .ok (.invokestatic 57, 3) := dk_184 0 57 (dk_at dksX0_road_0 8 rfl rfl)
theorem dX0_road_11 : decode cX0_road 11 = .ok (.ifCond .eq 20, 3) := dk_153 0 20 (dk_at dksX0_road_0 11 rfl rfl)
theorem dX0_road_14 : decode cX0_road 14 = .ok (.iload_n 1, 1) := dk_27 (dk_at dksX0_road_0 14 rfl rfl)
theorem dX0_road_15 : decode cX0_road 15 = .ok (.iload_n 2, 1) := dk_28 (dk_at dksX0_road_0 15 rfl rfl)
theorem dX0_road_16 : decode cX0_road 16 = .ok (.if_icmp .eq 15, 3) := dk_159 0 15 (dk_at dksX0_road_0 16 rfl rfl)
theorem dX0_road_19 : decode cX0_road 19 = .ok (.iload_n 3, 1) := dk_29 (dk_at dksX0_road_0 19 rfl rfl)
theorem dX0_road_20 : decode cX0_road 20 = .ok (.i2l, 1) := dk_133 (dk_at dksX0_road_0 20 rfl rfl)
theorem dX0_road_21 : decode cX0_road 21 = .ok (.lconst 0, 1) := dk_9 (dk_at dksX0_road_0 21 rfl rfl)
theorem dX0_road_22 : decode cX0_road 22 = .ok (.ldc2_w 79, 3) := dk_20 0 79 (dk_at dksX0_road_1 0 rfl rfl)
theorem dX0_road_25 : decode cX0_road 25 = .ok (.invokestatic 14, 3) := dk_184 0 14 (dk_at dksX0_road_1 3 rfl rfl)
theorem dX0_road_28 : decode cX0_road 28 = .ok (.ifCond .ne 6, 3) := dk_154 0 6 (dk_at dksX0_road_1 6 rfl rfl)
theorem dX0_road_31 : decode cX0_road 31 = .ok (.bipush (-2), 2) := dk_16 254 (dk_at dksX0_road_1 9 rfl rfl)
theorem dX0_road_33 : decode cX0_road 33 = .ok (.ireturn, 1) := dk_172 (dk_at dksX0_road_1 11 rfl rfl)
theorem dX0_road_34 : decode cX0_road 34 = .ok (.aload_n 0, 1) := dk_42 (dk_at dksX0_road_1 12 rfl rfl)
theorem dX0_road_35 : decode cX0_road 35 = .ok (.getfield 72, 3) := dk_180 0 72 (dk_at dksX0_road_1 13 rfl rfl)
theorem dX0_road_38 : decode cX0_road 38 = .ok (.iload_n 1, 1) := dk_27 (dk_at dksX0_road_1 16 rfl rfl)
theorem dX0_road_39 : decode cX0_road 39 = .ok (.aaload, 1) := dk_50 (dk_at dksX0_road_1 17 rfl rfl)
theorem dX0_road_40 : decode cX0_road 40 = .ok (.iload_n 2, 1) := dk_28 (dk_at dksX0_road_1 18 rfl rfl)
theorem dX0_road_41 : decode cX0_road 41 = .ok (.iaload, 1) := dk_46 (dk_at dksX0_road_1 19 rfl rfl)
theorem dX0_road_42 : decode cX0_road 42 = .ok (.istore 4, 2) := dk_54 4 (dk_at dksX0_road_1 20 rfl rfl)
theorem dX0_road_44 : decode cX0_road 44 = .ok (.aload_n 0, 1) := dk_42 (dk_at dksX0_road_1 22 rfl rfl)
theorem dX0_road_45 : decode cX0_road 45 = .ok (.iload_n 1, 1) := dk_27 (dk_at dksX0_road_1 23 rfl rfl)
theorem dX0_road_46 : decode cX0_road 46 = .ok (.iload_n 2, 1) := dk_28 (dk_at dksX0_road_2 0 rfl rfl)
theorem dX0_road_47 : decode cX0_road 47 = .ok (.iload_n 3, 1) := dk_29 (dk_at dksX0_road_2 1 rfl rfl)
theorem dX0_road_48 : decode cX0_road 48 = .ok (.invokevirtual 81, 3) := dk_182 0 81 (dk_at dksX0_road_2 2 rfl rfl)
theorem dX0_road_51 : decode cX0_road 51 = .ok (.iload 4, 2) := dk_21 4 (dk_at dksX0_road_2 5 rfl rfl)
theorem dX0_road_53 : decode cX0_road 53 = .ok (.ireturn, 1) := dk_172 (dk_at dksX0_road_2 7 rfl rfl)
abbrev cX0_lays : ByteArray := prog_1_method_11_code
def yX0_lays : MethodName := ⟨RX0, "lays", "(III)V"⟩
def dkwX0_lays_0 : List UInt8 := [42, 180, 0, 72, 27, 50, 28, 29, 79, 42, 180, 0, 72, 28, 50, 27, 29, 79, 42, 182, 0, 75, 177]
abbrev dktX0_lays_0 : List UInt8 := dkwX0_lays_0 ++ []
theorem dksX0_lays_0 : cX0_lays.data.toList.drop 0 = dktX0_lays_0 := by decide +kernel
theorem dX0_lays_0 : decode cX0_lays 0 = .ok (.aload_n 0, 1) := dk_42 (dk_at dksX0_lays_0 0 rfl rfl)
theorem dX0_lays_1 : decode cX0_lays 1 = .ok (.getfield 72, 3) := dk_180 0 72 (dk_at dksX0_lays_0 1 rfl rfl)
theorem dX0_lays_4 : decode cX0_lays 4 = .ok (.iload_n 1, 1) := dk_27 (dk_at dksX0_lays_0 4 rfl rfl)
theorem dX0_lays_5 : decode cX0_lays 5 = .ok (.aaload, 1) := dk_50 (dk_at dksX0_lays_0 5 rfl rfl)
theorem dX0_lays_6 : decode cX0_lays 6 = .ok (.iload_n 2, 1) := dk_28 (dk_at dksX0_lays_0 6 rfl rfl)
theorem dX0_lays_7 : decode cX0_lays 7 = .ok (.iload_n 3, 1) := dk_29 (dk_at dksX0_lays_0 7 rfl rfl)
theorem dX0_lays_8 : decode cX0_lays 8 = .ok (.iastore, 1) := dk_79 (dk_at dksX0_lays_0 8 rfl rfl)
theorem dX0_lays_9 : decode cX0_lays 9 = .ok (.aload_n 0, 1) := dk_42 (dk_at dksX0_lays_0 9 rfl rfl)
theorem dX0_lays_10 : decode cX0_lays 10 = .ok (.getfield 72, 3) := dk_180 0 72 (dk_at dksX0_lays_0 10 rfl rfl)
theorem dX0_lays_13 : decode cX0_lays 13 = .ok (.iload_n 2, 1) := dk_28 (dk_at dksX0_lays_0 13 rfl rfl)
theorem dX0_lays_14 : decode cX0_lays 14 = .ok (.aaload, 1) := dk_50 (dk_at dksX0_lays_0 14 rfl rfl)
theorem dX0_lays_15 : decode cX0_lays 15 = .ok (.iload_n 1, 1) := dk_27 (dk_at dksX0_lays_0 15 rfl rfl)
theorem dX0_lays_16 : decode cX0_lays 16 = .ok (.iload_n 3, 1) := dk_29 (dk_at dksX0_lays_0 16 rfl rfl)
theorem dX0_lays_17 : decode cX0_lays 17 = .ok (.iastore, 1) := dk_79 (dk_at dksX0_lays_0 17 rfl rfl)
theorem dX0_lays_18 : decode cX0_lays 18 = .ok (.aload_n 0, 1) := dk_42 (dk_at dksX0_lays_0 18 rfl rfl)
theorem dX0_lays_19 : decode cX0_lays 19 = .ok (.invokevirtual 75, 3) := dk_182 0 75 (dk_at dksX0_lays_0 19 rfl rfl)
theorem dX0_lays_22 : decode cX0_lays 22 = .ok (.return_, 1) := dk_177 (dk_at dksX0_lays_0 22 rfl rfl)
abbrev cX0_tellsFar : ByteArray := prog_1_method_10_code
def yX0_tellsFar : MethodName := ⟨RX0, "tellsFar", "()V"⟩
def dkwX0_tellsFar_6 : List UInt8 := [132, 1, 1, 167, 255, 183, 177]
abbrev dktX0_tellsFar_6 : List UInt8 := dkwX0_tellsFar_6 ++ []
def dkwX0_tellsFar_5 : List UInt8 := [180, 0, 68, 27, 50, 29, 46, 96, 184, 0, 1, 79, 132, 3, 1, 167, 255, 211, 132, 2, 1, 167, 255, 197]
abbrev dktX0_tellsFar_5 : List UInt8 := dkwX0_tellsFar_5 ++ dktX0_tellsFar_6
def dkwX0_tellsFar_4 : List UInt8 := [42, 180, 0, 68, 28, 50, 29, 42, 180, 0, 68, 28, 50, 29, 46, 42, 180, 0, 68, 28, 50, 27, 46, 42]
abbrev dktX0_tellsFar_4 : List UInt8 := dkwX0_tellsFar_4 ++ dktX0_tellsFar_5
def dkwX0_tellsFar_3 : List UInt8 := [3, 60, 27, 16, 8, 162, 0, 73, 3, 61, 28, 16, 8, 162, 0, 59, 3, 62, 29, 16, 8, 162, 0, 45]
abbrev dktX0_tellsFar_3 : List UInt8 := dkwX0_tellsFar_3 ++ dktX0_tellsFar_4
def dkwX0_tellsFar_2 : List UInt8 := [167, 0, 11, 42, 180, 0, 72, 27, 50, 28, 46, 79, 132, 2, 1, 167, 255, 205, 132, 1, 1, 167, 255, 191]
abbrev dktX0_tellsFar_2 : List UInt8 := dkwX0_tellsFar_2 ++ dktX0_tellsFar_3
def dkwX0_tellsFar_1 : List UInt8 := [28, 160, 0, 7, 3, 167, 0, 28, 42, 180, 0, 72, 27, 50, 28, 46, 154, 0, 9, 17, 3, 231]
abbrev dktX0_tellsFar_1 : List UInt8 := dkwX0_tellsFar_1 ++ dktX0_tellsFar_2
def dkwX0_tellsFar_0 : List UInt8 := [3, 60, 27, 16, 8, 162, 0, 65, 3, 61, 28, 16, 8, 162, 0, 51, 42, 180, 0, 68, 27, 50, 28, 27]
abbrev dktX0_tellsFar_0 : List UInt8 := dkwX0_tellsFar_0 ++ dktX0_tellsFar_1
theorem dksX0_tellsFar_0 : cX0_tellsFar.data.toList.drop 0 = dktX0_tellsFar_0 := by decide +kernel
theorem dksX0_tellsFar_1 : cX0_tellsFar.data.toList.drop 24 = dktX0_tellsFar_1 := dk_seg dksX0_tellsFar_0 24 rfl rfl
theorem dksX0_tellsFar_2 : cX0_tellsFar.data.toList.drop 46 = dktX0_tellsFar_2 := dk_seg dksX0_tellsFar_1 22 rfl rfl
theorem dksX0_tellsFar_3 : cX0_tellsFar.data.toList.drop 70 = dktX0_tellsFar_3 := dk_seg dksX0_tellsFar_2 24 rfl rfl
theorem dksX0_tellsFar_4 : cX0_tellsFar.data.toList.drop 94 = dktX0_tellsFar_4 := dk_seg dksX0_tellsFar_3 24 rfl rfl
theorem dksX0_tellsFar_5 : cX0_tellsFar.data.toList.drop 118 = dktX0_tellsFar_5 := dk_seg dksX0_tellsFar_4 24 rfl rfl
theorem dksX0_tellsFar_6 : cX0_tellsFar.data.toList.drop 142 = dktX0_tellsFar_6 := dk_seg dksX0_tellsFar_5 24 rfl rfl
theorem dX0_tellsFar_0 : decode cX0_tellsFar 0 = .ok (.iconst 0, 1) := dk_3 (dk_at dksX0_tellsFar_0 0 rfl rfl)
theorem dX0_tellsFar_1 : decode cX0_tellsFar 1 = .ok (.istore_n 1, 1) := dk_60 (dk_at dksX0_tellsFar_0 1 rfl rfl)
theorem dX0_tellsFar_2 : decode cX0_tellsFar 2 = .ok (.iload_n 1, 1) := dk_27 (dk_at dksX0_tellsFar_0 2 rfl rfl)
theorem dX0_tellsFar_3 : decode cX0_tellsFar 3 = .ok (.bipush 8, 2) := dk_16 8 (dk_at dksX0_tellsFar_0 3 rfl rfl)
theorem dX0_tellsFar_5 : decode cX0_tellsFar 5 = .ok (.if_icmp .ge 65, 3) := dk_162 0 65 (dk_at dksX0_tellsFar_0 5 rfl rfl)
theorem dX0_tellsFar_8 : decode cX0_tellsFar 8 = .ok (.iconst 0, 1) := dk_3 (dk_at dksX0_tellsFar_0 8 rfl rfl)
theorem dX0_tellsFar_9 : decode cX0_tellsFar 9 = .ok (.istore_n 2, 1) := dk_61 (dk_at dksX0_tellsFar_0 9 rfl rfl)
theorem dX0_tellsFar_10 : decode cX0_tellsFar 10 = .ok (.iload_n 2, 1) := dk_28 (dk_at dksX0_tellsFar_0 10 rfl rfl)
theorem dX0_tellsFar_11 : decode cX0_tellsFar 11 = .ok (.bipush 8, 2) := dk_16 8 (dk_at dksX0_tellsFar_0 11 rfl rfl)
theorem dX0_tellsFar_13 : decode cX0_tellsFar 13 = .ok (.if_icmp .ge 51, 3) := dk_162 0 51 (dk_at dksX0_tellsFar_0 13 rfl rfl)
theorem dX0_tellsFar_16 : decode cX0_tellsFar 16 = .ok (.aload_n 0, 1) := dk_42 (dk_at dksX0_tellsFar_0 16 rfl rfl)
theorem dX0_tellsFar_17 : decode cX0_tellsFar 17 = .ok (.getfield 68, 3) := dk_180 0 68 (dk_at dksX0_tellsFar_0 17 rfl rfl)
theorem dX0_tellsFar_20 : decode cX0_tellsFar 20 = .ok (.iload_n 1, 1) := dk_27 (dk_at dksX0_tellsFar_0 20 rfl rfl)
theorem dX0_tellsFar_21 : decode cX0_tellsFar 21 = .ok (.aaload, 1) := dk_50 (dk_at dksX0_tellsFar_0 21 rfl rfl)
theorem dX0_tellsFar_22 : decode cX0_tellsFar 22 = .ok (.iload_n 2, 1) := dk_28 (dk_at dksX0_tellsFar_0 22 rfl rfl)
theorem dX0_tellsFar_23 : decode cX0_tellsFar 23 = .ok (.iload_n 1, 1) := dk_27 (dk_at dksX0_tellsFar_0 23 rfl rfl)
theorem dX0_tellsFar_24 : decode cX0_tellsFar 24 = .ok (.iload_n 2, 1) := dk_28 (dk_at dksX0_tellsFar_1 0 rfl rfl)
theorem dX0_tellsFar_25 : decode cX0_tellsFar 25 = .ok (.if_icmp .ne 7, 3) := dk_160 0 7 (dk_at dksX0_tellsFar_1 1 rfl rfl)
theorem dX0_tellsFar_28 : decode cX0_tellsFar 28 = .ok (.iconst 0, 1) := dk_3 (dk_at dksX0_tellsFar_1 4 rfl rfl)
theorem dX0_tellsFar_29 : decode cX0_tellsFar 29 = .ok (.goto 28, 3) := dk_167 0 28 (dk_at dksX0_tellsFar_1 5 rfl rfl)
theorem dX0_tellsFar_32 : decode cX0_tellsFar 32 = .ok (.aload_n 0, 1) := dk_42 (dk_at dksX0_tellsFar_1 8 rfl rfl)
theorem dX0_tellsFar_33 : decode cX0_tellsFar 33 = .ok (.getfield 72, 3) := dk_180 0 72 (dk_at dksX0_tellsFar_1 9 rfl rfl)
theorem dX0_tellsFar_36 : decode cX0_tellsFar 36 = .ok (.iload_n 1, 1) := dk_27 (dk_at dksX0_tellsFar_1 12 rfl rfl)
theorem dX0_tellsFar_37 : decode cX0_tellsFar 37 = .ok (.aaload, 1) := dk_50 (dk_at dksX0_tellsFar_1 13 rfl rfl)
theorem dX0_tellsFar_38 : decode cX0_tellsFar 38 = .ok (.iload_n 2, 1) := dk_28 (dk_at dksX0_tellsFar_1 14 rfl rfl)
theorem dX0_tellsFar_39 : decode cX0_tellsFar 39 = .ok (.iaload, 1) := dk_46 (dk_at dksX0_tellsFar_1 15 rfl rfl)
theorem dX0_tellsFar_40 : decode cX0_tellsFar 40 = .ok (.ifCond .ne 9, 3) := dk_154 0 9 (dk_at dksX0_tellsFar_1 16 rfl rfl)
theorem dX0_tellsFar_43 : decode cX0_tellsFar 43 = .ok (.sipush 999, 3) := dk_17 3 231 (dk_at dksX0_tellsFar_1 19 rfl rfl)
theorem dX0_tellsFar_46 : decode cX0_tellsFar 46 = .ok (.goto 11, 3) := dk_167 0 11 (dk_at dksX0_tellsFar_2 0 rfl rfl)
theorem dX0_tellsFar_49 : decode cX0_tellsFar 49 = .ok (.aload_n 0, 1) := dk_42 (dk_at dksX0_tellsFar_2 3 rfl rfl)
theorem dX0_tellsFar_50 : decode cX0_tellsFar 50 = .ok (.getfield 72, 3) := dk_180 0 72 (dk_at dksX0_tellsFar_2 4 rfl rfl)
theorem dX0_tellsFar_53 : decode cX0_tellsFar 53 = .ok (.iload_n 1, 1) := dk_27 (dk_at dksX0_tellsFar_2 7 rfl rfl)
theorem dX0_tellsFar_54 : decode cX0_tellsFar 54 = .ok (.aaload, 1) := dk_50 (dk_at dksX0_tellsFar_2 8 rfl rfl)
theorem dX0_tellsFar_55 : decode cX0_tellsFar 55 = .ok (.iload_n 2, 1) := dk_28 (dk_at dksX0_tellsFar_2 9 rfl rfl)
theorem dX0_tellsFar_56 : decode cX0_tellsFar 56 = .ok (.iaload, 1) := dk_46 (dk_at dksX0_tellsFar_2 10 rfl rfl)
theorem dX0_tellsFar_57 : decode cX0_tellsFar 57 = .ok (.iastore, 1) := dk_79 (dk_at dksX0_tellsFar_2 11 rfl rfl)
theorem dX0_tellsFar_58 : decode cX0_tellsFar 58 = .ok (.iinc 2 1, 3) := dk_132 2 1 (dk_at dksX0_tellsFar_2 12 rfl rfl)
theorem dX0_tellsFar_61 : decode cX0_tellsFar 61 = .ok (.goto (-51), 3) := dk_167 255 205 (dk_at dksX0_tellsFar_2 15 rfl rfl)
theorem dX0_tellsFar_64 : decode cX0_tellsFar 64 = .ok (.iinc 1 1, 3) := dk_132 1 1 (dk_at dksX0_tellsFar_2 18 rfl rfl)
theorem dX0_tellsFar_67 : decode cX0_tellsFar 67 = .ok (.goto (-65), 3) := dk_167 255 191 (dk_at dksX0_tellsFar_2 21 rfl rfl)
theorem dX0_tellsFar_70 : decode cX0_tellsFar 70 = .ok (.iconst 0, 1) := dk_3 (dk_at dksX0_tellsFar_3 0 rfl rfl)
theorem dX0_tellsFar_71 : decode cX0_tellsFar 71 = .ok (.istore_n 1, 1) := dk_60 (dk_at dksX0_tellsFar_3 1 rfl rfl)
theorem dX0_tellsFar_72 : decode cX0_tellsFar 72 = .ok (.iload_n 1, 1) := dk_27 (dk_at dksX0_tellsFar_3 2 rfl rfl)
theorem dX0_tellsFar_73 : decode cX0_tellsFar 73 = .ok (.bipush 8, 2) := dk_16 8 (dk_at dksX0_tellsFar_3 3 rfl rfl)
theorem dX0_tellsFar_75 : decode cX0_tellsFar 75 = .ok (.if_icmp .ge 73, 3) := dk_162 0 73 (dk_at dksX0_tellsFar_3 5 rfl rfl)
theorem dX0_tellsFar_78 : decode cX0_tellsFar 78 = .ok (.iconst 0, 1) := dk_3 (dk_at dksX0_tellsFar_3 8 rfl rfl)
theorem dX0_tellsFar_79 : decode cX0_tellsFar 79 = .ok (.istore_n 2, 1) := dk_61 (dk_at dksX0_tellsFar_3 9 rfl rfl)
theorem dX0_tellsFar_80 : decode cX0_tellsFar 80 = .ok (.iload_n 2, 1) := dk_28 (dk_at dksX0_tellsFar_3 10 rfl rfl)
theorem dX0_tellsFar_81 : decode cX0_tellsFar 81 = .ok (.bipush 8, 2) := dk_16 8 (dk_at dksX0_tellsFar_3 11 rfl rfl)
theorem dX0_tellsFar_83 : decode cX0_tellsFar 83 = .ok (.if_icmp .ge 59, 3) := dk_162 0 59 (dk_at dksX0_tellsFar_3 13 rfl rfl)
theorem dX0_tellsFar_86 : decode cX0_tellsFar 86 = .ok (.iconst 0, 1) := dk_3 (dk_at dksX0_tellsFar_3 16 rfl rfl)
theorem dX0_tellsFar_87 : decode cX0_tellsFar 87 = .ok (.istore_n 3, 1) := dk_62 (dk_at dksX0_tellsFar_3 17 rfl rfl)
theorem dX0_tellsFar_88 : decode cX0_tellsFar 88 = .ok (.iload_n 3, 1) := dk_29 (dk_at dksX0_tellsFar_3 18 rfl rfl)
theorem dX0_tellsFar_89 : decode cX0_tellsFar 89 = .ok (.bipush 8, 2) := dk_16 8 (dk_at dksX0_tellsFar_3 19 rfl rfl)
theorem dX0_tellsFar_91 : decode cX0_tellsFar 91 = .ok (.if_icmp .ge 45, 3) := dk_162 0 45 (dk_at dksX0_tellsFar_3 21 rfl rfl)
theorem dX0_tellsFar_94 : decode cX0_tellsFar 94 = .ok (.aload_n 0, 1) := dk_42 (dk_at dksX0_tellsFar_4 0 rfl rfl)
theorem dX0_tellsFar_95 : decode cX0_tellsFar 95 = .ok (.getfield 68, 3) := dk_180 0 68 (dk_at dksX0_tellsFar_4 1 rfl rfl)
theorem dX0_tellsFar_98 : decode cX0_tellsFar 98 = .ok (.iload_n 2, 1) := dk_28 (dk_at dksX0_tellsFar_4 4 rfl rfl)
theorem dX0_tellsFar_99 : decode cX0_tellsFar 99 = .ok (.aaload, 1) := dk_50 (dk_at dksX0_tellsFar_4 5 rfl rfl)
theorem dX0_tellsFar_100 : decode cX0_tellsFar 100 = .ok (.iload_n 3, 1) := dk_29 (dk_at dksX0_tellsFar_4 6 rfl rfl)
theorem dX0_tellsFar_101 : decode cX0_tellsFar 101 = .ok (.aload_n 0, 1) := dk_42 (dk_at dksX0_tellsFar_4 7 rfl rfl)
theorem dX0_tellsFar_102 : decode cX0_tellsFar 102 = .ok (.getfield 68, 3) := dk_180 0 68 (dk_at dksX0_tellsFar_4 8 rfl rfl)
theorem dX0_tellsFar_105 : decode cX0_tellsFar 105 = .ok (.iload_n 2, 1) := dk_28 (dk_at dksX0_tellsFar_4 11 rfl rfl)
theorem dX0_tellsFar_106 : decode cX0_tellsFar 106 = .ok (.aaload, 1) := dk_50 (dk_at dksX0_tellsFar_4 12 rfl rfl)
theorem dX0_tellsFar_107 : decode cX0_tellsFar 107 = .ok (.iload_n 3, 1) := dk_29 (dk_at dksX0_tellsFar_4 13 rfl rfl)
theorem dX0_tellsFar_108 : decode cX0_tellsFar 108 = .ok (.iaload, 1) := dk_46 (dk_at dksX0_tellsFar_4 14 rfl rfl)
theorem dX0_tellsFar_109 : decode cX0_tellsFar 109 = .ok (.aload_n 0, 1) := dk_42 (dk_at dksX0_tellsFar_4 15 rfl rfl)
theorem dX0_tellsFar_110 : decode cX0_tellsFar 110 = .ok (.getfield 68, 3) := dk_180 0 68 (dk_at dksX0_tellsFar_4 16 rfl rfl)
theorem dX0_tellsFar_113 : decode cX0_tellsFar 113 = .ok (.iload_n 2, 1) := dk_28 (dk_at dksX0_tellsFar_4 19 rfl rfl)
theorem dX0_tellsFar_114 : decode cX0_tellsFar 114 = .ok (.aaload, 1) := dk_50 (dk_at dksX0_tellsFar_4 20 rfl rfl)
theorem dX0_tellsFar_115 : decode cX0_tellsFar 115 = .ok (.iload_n 1, 1) := dk_27 (dk_at dksX0_tellsFar_4 21 rfl rfl)
theorem dX0_tellsFar_116 : decode cX0_tellsFar 116 = .ok (.iaload, 1) := dk_46 (dk_at dksX0_tellsFar_4 22 rfl rfl)
theorem dX0_tellsFar_117 : decode cX0_tellsFar 117 = .ok (.aload_n 0, 1) := dk_42 (dk_at dksX0_tellsFar_4 23 rfl rfl)
theorem dX0_tellsFar_118 : decode cX0_tellsFar 118 = .ok (.getfield 68, 3) := dk_180 0 68 (dk_at dksX0_tellsFar_5 0 rfl rfl)
theorem dX0_tellsFar_121 : decode cX0_tellsFar 121 = .ok (.iload_n 1, 1) := dk_27 (dk_at dksX0_tellsFar_5 3 rfl rfl)
theorem dX0_tellsFar_122 : decode cX0_tellsFar 122 = .ok (.aaload, 1) := dk_50 (dk_at dksX0_tellsFar_5 4 rfl rfl)
theorem dX0_tellsFar_123 : decode cX0_tellsFar 123 = .ok (.iload_n 3, 1) := dk_29 (dk_at dksX0_tellsFar_5 5 rfl rfl)
theorem dX0_tellsFar_124 : decode cX0_tellsFar 124 = .ok (.iaload, 1) := dk_46 (dk_at dksX0_tellsFar_5 6 rfl rfl)
theorem dX0_tellsFar_125 : decode cX0_tellsFar 125 = .ok (.iadd, 1) := dk_96 (dk_at dksX0_tellsFar_5 7 rfl rfl)
theorem dX0_tellsFar_126 : decode cX0_tellsFar 126 = .ok (.invokestatic 1, 3) := dk_184 0 1 (dk_at dksX0_tellsFar_5 8 rfl rfl)
theorem dX0_tellsFar_129 : decode cX0_tellsFar 129 = .ok (.iastore, 1) := dk_79 (dk_at dksX0_tellsFar_5 11 rfl rfl)
theorem dX0_tellsFar_130 : decode cX0_tellsFar 130 = .ok (.iinc 3 1, 3) := dk_132 3 1 (dk_at dksX0_tellsFar_5 12 rfl rfl)
theorem dX0_tellsFar_133 : decode cX0_tellsFar 133 = .ok (.goto (-45), 3) := dk_167 255 211 (dk_at dksX0_tellsFar_5 15 rfl rfl)
theorem dX0_tellsFar_136 : decode cX0_tellsFar 136 = .ok (.iinc 2 1, 3) := dk_132 2 1 (dk_at dksX0_tellsFar_5 18 rfl rfl)
theorem dX0_tellsFar_139 : decode cX0_tellsFar 139 = .ok (.goto (-59), 3) := dk_167 255 197 (dk_at dksX0_tellsFar_5 21 rfl rfl)
theorem dX0_tellsFar_142 : decode cX0_tellsFar 142 = .ok (.iinc 1 1, 3) := dk_132 1 1 (dk_at dksX0_tellsFar_6 0 rfl rfl)
theorem dX0_tellsFar_145 : decode cX0_tellsFar 145 = .ok (.goto (-73), 3) := dk_167 255 183 (dk_at dksX0_tellsFar_6 3 rfl rfl)
theorem dX0_tellsFar_148 : decode cX0_tellsFar 148 = .ok (.return_, 1) := dk_177 (dk_at dksX0_tellsFar_6 6 rfl rfl)
abbrev cX0_far : ByteArray := prog_1_method_13_code
def yX0_far : MethodName := ⟨RX0, "far", "(II)I"⟩
def dkwX0_far_1 : List UInt8 := [46, 17, 3, 231, 160, 0, 7, 2, 167, 0, 11, 42, 180, 0, 68, 27, 50, 28, 46, 172]
abbrev dktX0_far_1 : List UInt8 := dkwX0_far_1 ++ []
def dkwX0_far_0 : List UInt8 := [27, 184, 0, 57, 153, 0, 10, 28, 184, 0, 57, 154, 0, 6, 16, 254, 172, 42, 180, 0, 68, 27, 50, 28]
abbrev dktX0_far_0 : List UInt8 := dkwX0_far_0 ++ dktX0_far_1
theorem dksX0_far_0 : cX0_far.data.toList.drop 0 = dktX0_far_0 := by decide +kernel
theorem dksX0_far_1 : cX0_far.data.toList.drop 24 = dktX0_far_1 := dk_seg dksX0_far_0 24 rfl rfl
theorem dX0_far_0 : decode cX0_far 0 = .ok (.iload_n 1, 1) := dk_27 (dk_at dksX0_far_0 0 rfl rfl)
theorem dX0_far_1 : decode cX0_far 1 = .ok (.invokestatic 57, 3) := dk_184 0 57 (dk_at dksX0_far_0 1 rfl rfl)
theorem dX0_far_4 : decode cX0_far 4 = .ok (.ifCond .eq 10, 3) := dk_153 0 10 (dk_at dksX0_far_0 4 rfl rfl)
theorem dX0_far_7 : decode cX0_far 7 = .ok (.iload_n 2, 1) := dk_28 (dk_at dksX0_far_0 7 rfl rfl)
theorem dX0_far_8 : decode cX0_far 8 = .ok (.invokestatic 57, 3) := dk_184 0 57 (dk_at dksX0_far_0 8 rfl rfl)
theorem dX0_far_11 : decode cX0_far 11 = .ok (.ifCond .ne 6, 3) := dk_154 0 6 (dk_at dksX0_far_0 11 rfl rfl)
theorem dX0_far_14 : decode cX0_far 14 = .ok (.bipush (-2), 2) := dk_16 254 (dk_at dksX0_far_0 14 rfl rfl)
theorem dX0_far_16 : decode cX0_far 16 = .ok (.ireturn, 1) := dk_172 (dk_at dksX0_far_0 16 rfl rfl)
theorem dX0_far_17 : decode cX0_far 17 = .ok (.aload_n 0, 1) := dk_42 (dk_at dksX0_far_0 17 rfl rfl)
theorem dX0_far_18 : decode cX0_far 18 = .ok (.getfield 68, 3) := dk_180 0 68 (dk_at dksX0_far_0 18 rfl rfl)
theorem dX0_far_21 : decode cX0_far 21 = .ok (.iload_n 1, 1) := dk_27 (dk_at dksX0_far_0 21 rfl rfl)
theorem dX0_far_22 : decode cX0_far 22 = .ok (.aaload, 1) := dk_50 (dk_at dksX0_far_0 22 rfl rfl)
theorem dX0_far_23 : decode cX0_far 23 = .ok (.iload_n 2, 1) := dk_28 (dk_at dksX0_far_0 23 rfl rfl)
theorem dX0_far_24 : decode cX0_far 24 = .ok (.iaload, 1) := dk_46 (dk_at dksX0_far_1 0 rfl rfl)
theorem dX0_far_25 : decode cX0_far 25 = .ok (.sipush 999, 3) := dk_17 3 231 (dk_at dksX0_far_1 1 rfl rfl)
theorem dX0_far_28 : decode cX0_far 28 = .ok (.if_icmp .ne 7, 3) := dk_160 0 7 (dk_at dksX0_far_1 4 rfl rfl)
theorem dX0_far_31 : decode cX0_far 31 = .ok (.iconst (-1), 1) := dk_2 (dk_at dksX0_far_1 7 rfl rfl)
theorem dX0_far_32 : decode cX0_far 32 = .ok (.goto 11, 3) := dk_167 0 11 (dk_at dksX0_far_1 8 rfl rfl)
theorem dX0_far_35 : decode cX0_far 35 = .ok (.aload_n 0, 1) := dk_42 (dk_at dksX0_far_1 11 rfl rfl)
theorem dX0_far_36 : decode cX0_far 36 = .ok (.getfield 68, 3) := dk_180 0 68 (dk_at dksX0_far_1 12 rfl rfl)
theorem dX0_far_39 : decode cX0_far 39 = .ok (.iload_n 1, 1) := dk_27 (dk_at dksX0_far_1 15 rfl rfl)
theorem dX0_far_40 : decode cX0_far 40 = .ok (.aaload, 1) := dk_50 (dk_at dksX0_far_1 16 rfl rfl)
theorem dX0_far_41 : decode cX0_far 41 = .ok (.iload_n 2, 1) := dk_28 (dk_at dksX0_far_1 17 rfl rfl)
theorem dX0_far_42 : decode cX0_far 42 = .ok (.iaload, 1) := dk_46 (dk_at dksX0_far_1 18 rfl rfl)
theorem dX0_far_43 : decode cX0_far 43 = .ok (.ireturn, 1) := dk_172 (dk_at dksX0_far_1 19 rfl rfl)
abbrev cX0_set : ByteArray := prog_1_method_16_code
def yX0_set : MethodName := ⟨RX0, "set", "(III)I"⟩
def dkwX0_set_1 : List UInt8 := [29, 182, 0, 103, 21, 4, 172]
abbrev dktX0_set_1 : List UInt8 := dkwX0_set_1 ++ []
def dkwX0_set_0 : List UInt8 := [42, 27, 28, 29, 182, 0, 96, 154, 0, 6, 16, 254, 172, 42, 28, 27, 182, 0, 100, 54, 4, 42, 27, 28]
abbrev dktX0_set_0 : List UInt8 := dkwX0_set_0 ++ dktX0_set_1
theorem dksX0_set_0 : cX0_set.data.toList.drop 0 = dktX0_set_0 := by decide +kernel
theorem dksX0_set_1 : cX0_set.data.toList.drop 24 = dktX0_set_1 := dk_seg dksX0_set_0 24 rfl rfl
theorem dX0_set_0 : decode cX0_set 0 = .ok (.aload_n 0, 1) := dk_42 (dk_at dksX0_set_0 0 rfl rfl)
theorem dX0_set_1 : decode cX0_set 1 = .ok (.iload_n 1, 1) := dk_27 (dk_at dksX0_set_0 1 rfl rfl)
theorem dX0_set_2 : decode cX0_set 2 = .ok (.iload_n 2, 1) := dk_28 (dk_at dksX0_set_0 2 rfl rfl)
theorem dX0_set_3 : decode cX0_set 3 = .ok (.iload_n 3, 1) := dk_29 (dk_at dksX0_set_0 3 rfl rfl)
theorem dX0_set_4 : decode cX0_set 4 = .ok (.invokevirtual 96, 3) := dk_182 0 96 (dk_at dksX0_set_0 4 rfl rfl)
theorem dX0_set_7 : decode cX0_set 7 = .ok (.ifCond .ne 6, 3) := dk_154 0 6 (dk_at dksX0_set_0 7 rfl rfl)
theorem dX0_set_10 : decode cX0_set 10 = .ok (.bipush (-2), 2) := dk_16 254 (dk_at dksX0_set_0 10 rfl rfl)
theorem dX0_set_12 : decode cX0_set 12 = .ok (.ireturn, 1) := dk_172 (dk_at dksX0_set_0 12 rfl rfl)
theorem dX0_set_13 : decode cX0_set 13 = .ok (.aload_n 0, 1) := dk_42 (dk_at dksX0_set_0 13 rfl rfl)
theorem dX0_set_14 : decode cX0_set 14 = .ok (.iload_n 2, 1) := dk_28 (dk_at dksX0_set_0 14 rfl rfl)
theorem dX0_set_15 : decode cX0_set 15 = .ok (.iload_n 1, 1) := dk_27 (dk_at dksX0_set_0 15 rfl rfl)
theorem dX0_set_16 : decode cX0_set 16 = .ok (.invokevirtual 100, 3) := dk_182 0 100 (dk_at dksX0_set_0 16 rfl rfl)
theorem dX0_set_19 : decode cX0_set 19 = .ok (.istore 4, 2) := dk_54 4 (dk_at dksX0_set_0 19 rfl rfl)
theorem dX0_set_21 : decode cX0_set 21 = .ok (.aload_n 0, 1) := dk_42 (dk_at dksX0_set_0 21 rfl rfl)
theorem dX0_set_22 : decode cX0_set 22 = .ok (.iload_n 1, 1) := dk_27 (dk_at dksX0_set_0 22 rfl rfl)
theorem dX0_set_23 : decode cX0_set 23 = .ok (.iload_n 2, 1) := dk_28 (dk_at dksX0_set_0 23 rfl rfl)
theorem dX0_set_24 : decode cX0_set 24 = .ok (.iload_n 3, 1) := dk_29 (dk_at dksX0_set_1 0 rfl rfl)
theorem dX0_set_25 : decode cX0_set 25 = .ok (.invokevirtual 103, 3) := dk_182 0 103 (dk_at dksX0_set_1 1 rfl rfl)
theorem dX0_set_28 : decode cX0_set 28 = .ok (.iload 4, 2) := dk_21 4 (dk_at dksX0_set_1 4 rfl rfl)
theorem dX0_set_30 : decode cX0_set 30 = .ok (.ireturn, 1) := dk_172 (dk_at dksX0_set_1 6 rfl rfl)
abbrev cX0_isSo : ByteArray := prog_1_method_14_code
def yX0_isSo : MethodName := ⟨RX0, "isSo", "(III)Z"⟩
def dkwX0_isSo_4 : List UInt8 := [153, 0, 14, 29, 184, 0, 57, 153, 0, 7, 4, 167, 0, 4, 3, 172]
abbrev dktX0_isSo_4 : List UInt8 := dkwX0_isSo_4 ++ []
def dkwX0_isSo_3 : List UInt8 := [184, 0, 14, 153, 0, 7, 4, 167, 0, 4, 3, 172, 27, 5, 160, 0, 22, 42, 28, 182, 0, 22]
abbrev dktX0_isSo_3 : List UInt8 := dkwX0_isSo_3 ++ dktX0_isSo_4
def dkwX0_isSo_2 : List UInt8 := [29, 133, 9, 20, 0, 85, 184, 0, 14, 172, 42, 28, 182, 0, 22, 153, 0, 19, 29, 133, 9, 20, 0, 55]
abbrev dktX0_isSo_2 : List UInt8 := dkwX0_isSo_2 ++ dktX0_isSo_3
def dkwX0_isSo_1 : List UInt8 := [171, 0, 0, 0, 0, 0, 63, 0, 0, 0, 2, 0, 0, 0, 0, 0, 0, 0, 27, 0, 0, 0, 1, 0, 0, 0, 37]
abbrev dktX0_isSo_1 : List UInt8 := dkwX0_isSo_1 ++ dktX0_isSo_2
def dkwX0_isSo_0 : List UInt8 := [27]
abbrev dktX0_isSo_0 : List UInt8 := dkwX0_isSo_0 ++ dktX0_isSo_1
theorem dksX0_isSo_0 : cX0_isSo.data.toList.drop 0 = dktX0_isSo_0 := by decide +kernel
theorem dksX0_isSo_1 : cX0_isSo.data.toList.drop 1 = dktX0_isSo_1 := dk_seg dksX0_isSo_0 1 rfl rfl
theorem dksX0_isSo_2 : cX0_isSo.data.toList.drop 28 = dktX0_isSo_2 := dk_seg dksX0_isSo_1 27 rfl rfl
theorem dksX0_isSo_3 : cX0_isSo.data.toList.drop 52 = dktX0_isSo_3 := dk_seg dksX0_isSo_2 24 rfl rfl
theorem dksX0_isSo_4 : cX0_isSo.data.toList.drop 74 = dktX0_isSo_4 := dk_seg dksX0_isSo_3 22 rfl rfl
theorem dX0_isSo_0 : decode cX0_isSo 0 = .ok (.iload_n 1, 1) := dk_27 (dk_at dksX0_isSo_0 0 rfl rfl)
theorem dX0_isSo_1 : decode cX0_isSo 1 = .ok (.lookupswitch 63 #[(0, 27), (1, 37)], 27) := by decide +kernel
theorem dX0_isSo_28 : decode cX0_isSo 28 = .ok (.iload_n 3, 1) := dk_29 (dk_at dksX0_isSo_2 0 rfl rfl)
theorem dX0_isSo_29 : decode cX0_isSo 29 = .ok (.i2l, 1) := dk_133 (dk_at dksX0_isSo_2 1 rfl rfl)
theorem dX0_isSo_30 : decode cX0_isSo 30 = .ok (.lconst 0, 1) := dk_9 (dk_at dksX0_isSo_2 2 rfl rfl)
theorem dX0_isSo_31 : decode cX0_isSo 31 = .ok (.ldc2_w 85, 3) := dk_20 0 85 (dk_at dksX0_isSo_2 3 rfl rfl)
theorem dX0_isSo_34 : decode cX0_isSo 34 = .ok (.invokestatic 14, 3) := dk_184 0 14 (dk_at dksX0_isSo_2 6 rfl rfl)
theorem dX0_isSo_37 : decode cX0_isSo 37 = .ok (.ireturn, 1) := dk_172 (dk_at dksX0_isSo_2 9 rfl rfl)
theorem dX0_isSo_38 : decode cX0_isSo 38 = .ok (.aload_n 0, 1) := dk_42 (dk_at dksX0_isSo_2 10 rfl rfl)
theorem dX0_isSo_39 : decode cX0_isSo 39 = .ok (.iload_n 2, 1) := dk_28 (dk_at dksX0_isSo_2 11 rfl rfl)
theorem dX0_isSo_40 : decode cX0_isSo 40 = .ok (.invokevirtual 22, 3) := dk_182 0 22 (dk_at dksX0_isSo_2 12 rfl rfl)
theorem dX0_isSo_43 : decode cX0_isSo 43 = .ok (.ifCond .eq 19, 3) := dk_153 0 19 (dk_at dksX0_isSo_2 15 rfl rfl)
theorem dX0_isSo_46 : decode cX0_isSo 46 = .ok (.iload_n 3, 1) := dk_29 (dk_at dksX0_isSo_2 18 rfl rfl)
theorem dX0_isSo_47 : decode cX0_isSo 47 = .ok (.i2l, 1) := dk_133 (dk_at dksX0_isSo_2 19 rfl rfl)
theorem dX0_isSo_48 : decode cX0_isSo 48 = .ok (.lconst 0, 1) := dk_9 (dk_at dksX0_isSo_2 20 rfl rfl)
theorem dX0_isSo_49 : decode cX0_isSo 49 = .ok (.ldc2_w 55, 3) := dk_20 0 55 (dk_at dksX0_isSo_2 21 rfl rfl)
theorem dX0_isSo_52 : decode cX0_isSo 52 = .ok (.invokestatic 14, 3) := dk_184 0 14 (dk_at dksX0_isSo_3 0 rfl rfl)
theorem dX0_isSo_55 : decode cX0_isSo 55 = .ok (.ifCond .eq 7, 3) := dk_153 0 7 (dk_at dksX0_isSo_3 3 rfl rfl)
theorem dX0_isSo_58 : decode cX0_isSo 58 = .ok (.iconst 1, 1) := dk_4 (dk_at dksX0_isSo_3 6 rfl rfl)
theorem dX0_isSo_59 : decode cX0_isSo 59 = .ok (.goto 4, 3) := dk_167 0 4 (dk_at dksX0_isSo_3 7 rfl rfl)
theorem dX0_isSo_62 : decode cX0_isSo 62 = .ok (.iconst 0, 1) := dk_3 (dk_at dksX0_isSo_3 10 rfl rfl)
theorem dX0_isSo_63 : decode cX0_isSo 63 = .ok (.ireturn, 1) := dk_172 (dk_at dksX0_isSo_3 11 rfl rfl)
theorem dX0_isSo_64 : decode cX0_isSo 64 = .ok (.iload_n 1, 1) := dk_27 (dk_at dksX0_isSo_3 12 rfl rfl)
theorem dX0_isSo_65 : decode cX0_isSo 65 = .ok (.iconst 2, 1) := dk_5 (dk_at dksX0_isSo_3 13 rfl rfl)
theorem dX0_isSo_66 : decode cX0_isSo 66 = .ok (.if_icmp .ne 22, 3) := dk_160 0 22 (dk_at dksX0_isSo_3 14 rfl rfl)
theorem dX0_isSo_69 : decode cX0_isSo 69 = .ok (.aload_n 0, 1) := dk_42 (dk_at dksX0_isSo_3 17 rfl rfl)
theorem dX0_isSo_70 : decode cX0_isSo 70 = .ok (.iload_n 2, 1) := dk_28 (dk_at dksX0_isSo_3 18 rfl rfl)
theorem dX0_isSo_71 : decode cX0_isSo 71 = .ok (.invokevirtual 22, 3) := dk_182 0 22 (dk_at dksX0_isSo_3 19 rfl rfl)
theorem dX0_isSo_74 : decode cX0_isSo 74 = .ok (.ifCond .eq 14, 3) := dk_153 0 14 (dk_at dksX0_isSo_4 0 rfl rfl)
theorem dX0_isSo_77 : decode cX0_isSo 77 = .ok (.iload_n 3, 1) := dk_29 (dk_at dksX0_isSo_4 3 rfl rfl)
theorem dX0_isSo_78 : decode cX0_isSo 78 = .ok (.invokestatic 57, 3) := dk_184 0 57 (dk_at dksX0_isSo_4 4 rfl rfl)
theorem dX0_isSo_81 : decode cX0_isSo 81 = .ok (.ifCond .eq 7, 3) := dk_153 0 7 (dk_at dksX0_isSo_4 7 rfl rfl)
theorem dX0_isSo_84 : decode cX0_isSo 84 = .ok (.iconst 1, 1) := dk_4 (dk_at dksX0_isSo_4 10 rfl rfl)
theorem dX0_isSo_85 : decode cX0_isSo 85 = .ok (.goto 4, 3) := dk_167 0 4 (dk_at dksX0_isSo_4 11 rfl rfl)
theorem dX0_isSo_88 : decode cX0_isSo 88 = .ok (.iconst 0, 1) := dk_3 (dk_at dksX0_isSo_4 14 rfl rfl)
theorem dX0_isSo_89 : decode cX0_isSo 89 = .ok (.ireturn, 1) := dk_172 (dk_at dksX0_isSo_4 15 rfl rfl)
abbrev cX0_isOne : ByteArray := prog_1_method_5_code
def yX0_isOne : MethodName := ⟨RX0, "isOne", "(I)Z"⟩
def dkwX0_isOne_0 : List UInt8 := [27, 133, 9, 42, 180, 0, 18, 4, 100, 133, 184, 0, 14, 172]
abbrev dktX0_isOne_0 : List UInt8 := dkwX0_isOne_0 ++ []
theorem dksX0_isOne_0 : cX0_isOne.data.toList.drop 0 = dktX0_isOne_0 := by decide +kernel
theorem dX0_isOne_0 : decode cX0_isOne 0 = .ok (.iload_n 1, 1) := dk_27 (dk_at dksX0_isOne_0 0 rfl rfl)
theorem dX0_isOne_1 : decode cX0_isOne 1 = .ok (.i2l, 1) := dk_133 (dk_at dksX0_isOne_0 1 rfl rfl)
theorem dX0_isOne_2 : decode cX0_isOne 2 = .ok (.lconst 0, 1) := dk_9 (dk_at dksX0_isOne_0 2 rfl rfl)
theorem dX0_isOne_3 : decode cX0_isOne 3 = .ok (.aload_n 0, 1) := dk_42 (dk_at dksX0_isOne_0 3 rfl rfl)
theorem dX0_isOne_4 : decode cX0_isOne 4 = .ok (.getfield 18, 3) := dk_180 0 18 (dk_at dksX0_isOne_0 4 rfl rfl)
theorem dX0_isOne_7 : decode cX0_isOne 7 = .ok (.iconst 1, 1) := dk_4 (dk_at dksX0_isOne_0 7 rfl rfl)
theorem dX0_isOne_8 : decode cX0_isOne 8 = .ok (.isub, 1) := dk_100 (dk_at dksX0_isOne_0 8 rfl rfl)
theorem dX0_isOne_9 : decode cX0_isOne 9 = .ok (.i2l, 1) := dk_133 (dk_at dksX0_isOne_0 9 rfl rfl)
theorem dX0_isOne_10 : decode cX0_isOne 10 = .ok (.invokestatic 14, 3) := dk_184 0 14 (dk_at dksX0_isOne_0 10 rfl rfl)
theorem dX0_isOne_13 : decode cX0_isOne 13 = .ok (.ireturn, 1) := dk_172 (dk_at dksX0_isOne_0 13 rfl rfl)
abbrev cX0_told : ByteArray := prog_1_method_18_code
def yX0_told : MethodName := ⟨RX0, "told", "(II)I"⟩
def dkwX0_told_1 : List UInt8 := [182, 0, 22, 153, 0, 12, 42, 27, 28, 182, 0, 117, 167, 0, 5, 16, 254, 172]
abbrev dktX0_told_1 : List UInt8 := dkwX0_told_1 ++ []
def dkwX0_told_0 : List UInt8 := [28, 154, 0, 8, 42, 180, 0, 87, 172, 28, 133, 10, 20, 0, 53, 184, 0, 14, 153, 0, 20, 42, 27]
abbrev dktX0_told_0 : List UInt8 := dkwX0_told_0 ++ dktX0_told_1
theorem dksX0_told_0 : cX0_told.data.toList.drop 0 = dktX0_told_0 := by decide +kernel
theorem dksX0_told_1 : cX0_told.data.toList.drop 23 = dktX0_told_1 := dk_seg dksX0_told_0 23 rfl rfl
theorem dX0_told_0 : decode cX0_told 0 = .ok (.iload_n 2, 1) := dk_28 (dk_at dksX0_told_0 0 rfl rfl)
theorem dX0_told_1 : decode cX0_told 1 = .ok (.ifCond .ne 8, 3) := dk_154 0 8 (dk_at dksX0_told_0 1 rfl rfl)
theorem dX0_told_4 : decode cX0_told 4 = .ok (.aload_n 0, 1) := dk_42 (dk_at dksX0_told_0 4 rfl rfl)
theorem dX0_told_5 : decode cX0_told 5 = .ok (.getfield 87, 3) := dk_180 0 87 (dk_at dksX0_told_0 5 rfl rfl)
theorem dX0_told_8 : decode cX0_told 8 = .ok (.ireturn, 1) := dk_172 (dk_at dksX0_told_0 8 rfl rfl)
theorem dX0_told_9 : decode cX0_told 9 = .ok (.iload_n 2, 1) := dk_28 (dk_at dksX0_told_0 9 rfl rfl)
theorem dX0_told_10 : decode cX0_told 10 = .ok (.i2l, 1) := dk_133 (dk_at dksX0_told_0 10 rfl rfl)
theorem dX0_told_11 : decode cX0_told 11 = .ok (.lconst 1, 1) := dk_10 (dk_at dksX0_told_0 11 rfl rfl)
theorem dX0_told_12 : decode cX0_told 12 = .ok (.ldc2_w 53, 3) := dk_20 0 53 (dk_at dksX0_told_0 12 rfl rfl)
theorem dX0_told_15 : decode cX0_told 15 = .ok (.invokestatic 14, 3) := dk_184 0 14 (dk_at dksX0_told_0 15 rfl rfl)
theorem dX0_told_18 : decode cX0_told 18 = .ok (.ifCond .eq 20, 3) := dk_153 0 20 (dk_at dksX0_told_0 18 rfl rfl)
theorem dX0_told_21 : decode cX0_told 21 = .ok (.aload_n 0, 1) := dk_42 (dk_at dksX0_told_0 21 rfl rfl)
theorem dX0_told_22 : decode cX0_told 22 = .ok (.iload_n 1, 1) := dk_27 (dk_at dksX0_told_0 22 rfl rfl)
theorem dX0_told_23 : decode cX0_told 23 = .ok (.invokevirtual 22, 3) := dk_182 0 22 (dk_at dksX0_told_1 0 rfl rfl)
theorem dX0_told_26 : decode cX0_told 26 = .ok (.ifCond .eq 12, 3) := dk_153 0 12 (dk_at dksX0_told_1 3 rfl rfl)
theorem dX0_told_29 : decode cX0_told 29 = .ok (.aload_n 0, 1) := dk_42 (dk_at dksX0_told_1 6 rfl rfl)
theorem dX0_told_30 : decode cX0_told 30 = .ok (.iload_n 1, 1) := dk_27 (dk_at dksX0_told_1 7 rfl rfl)
theorem dX0_told_31 : decode cX0_told 31 = .ok (.iload_n 2, 1) := dk_28 (dk_at dksX0_told_1 8 rfl rfl)
theorem dX0_told_32 : decode cX0_told 32 = .ok (.invokevirtual 117, 3) := dk_182 0 117 (dk_at dksX0_told_1 9 rfl rfl)
theorem dX0_told_35 : decode cX0_told 35 = .ok (.goto 5, 3) := dk_167 0 5 (dk_at dksX0_told_1 12 rfl rfl)
theorem dX0_told_38 : decode cX0_told 38 = .ok (.bipush (-2), 2) := dk_16 254 (dk_at dksX0_told_1 15 rfl rfl)
theorem dX0_told_40 : decode cX0_told 40 = .ok (.ireturn, 1) := dk_172 (dk_at dksX0_told_1 17 rfl rfl)
abbrev cX0_toldOf : ByteArray := prog_1_method_17_code
def yX0_toldOf : MethodName := ⟨RX0, "toldOf", "(II)I"⟩
def dkwX0_toldOf_3 : List UInt8 := [27, 50, 182, 0, 106, 172, 42, 180, 0, 60, 27, 50, 180, 0, 110, 172, 42, 27, 182, 0, 113, 172]
abbrev dktX0_toldOf_3 : List UInt8 := dkwX0_toldOf_3 ++ []
def dkwX0_toldOf_2 : List UInt8 := [42, 180, 0, 60, 27, 50, 180, 0, 90, 172, 42, 180, 0, 60, 27, 50, 180, 0, 93, 172, 42, 180, 0, 60]
abbrev dktX0_toldOf_2 : List UInt8 := dkwX0_toldOf_2 ++ dktX0_toldOf_3
def dkwX0_toldOf_1 : List UInt8 := [170, 0, 0, 0, 0, 0, 71, 0, 0, 0, 1, 0, 0, 0, 4, 0, 0, 0, 31, 0, 0, 0, 41, 0, 0, 0, 51, 0, 0, 0, 61]
abbrev dktX0_toldOf_1 : List UInt8 := dkwX0_toldOf_1 ++ dktX0_toldOf_2
def dkwX0_toldOf_0 : List UInt8 := [28]
abbrev dktX0_toldOf_0 : List UInt8 := dkwX0_toldOf_0 ++ dktX0_toldOf_1
theorem dksX0_toldOf_0 : cX0_toldOf.data.toList.drop 0 = dktX0_toldOf_0 := by decide +kernel
theorem dksX0_toldOf_1 : cX0_toldOf.data.toList.drop 1 = dktX0_toldOf_1 := dk_seg dksX0_toldOf_0 1 rfl rfl
theorem dksX0_toldOf_2 : cX0_toldOf.data.toList.drop 32 = dktX0_toldOf_2 := dk_seg dksX0_toldOf_1 31 rfl rfl
theorem dksX0_toldOf_3 : cX0_toldOf.data.toList.drop 56 = dktX0_toldOf_3 := dk_seg dksX0_toldOf_2 24 rfl rfl
theorem dX0_toldOf_0 : decode cX0_toldOf 0 = .ok (.iload_n 2, 1) := dk_28 (dk_at dksX0_toldOf_0 0 rfl rfl)
theorem dX0_toldOf_1 : decode cX0_toldOf 1 = .ok (.tableswitch 71 1 4 #[31, 41, 51, 61], 31) := by decide +kernel
theorem dX0_toldOf_32 : decode cX0_toldOf 32 = .ok (.aload_n 0, 1) := dk_42 (dk_at dksX0_toldOf_2 0 rfl rfl)
theorem dX0_toldOf_33 : decode cX0_toldOf 33 = .ok (.getfield 60, 3) := dk_180 0 60 (dk_at dksX0_toldOf_2 1 rfl rfl)
theorem dX0_toldOf_36 : decode cX0_toldOf 36 = .ok (.iload_n 1, 1) := dk_27 (dk_at dksX0_toldOf_2 4 rfl rfl)
theorem dX0_toldOf_37 : decode cX0_toldOf 37 = .ok (.aaload, 1) := dk_50 (dk_at dksX0_toldOf_2 5 rfl rfl)
theorem dX0_toldOf_38 : decode cX0_toldOf 38 = .ok (.getfield 90, 3) := dk_180 0 90 (dk_at dksX0_toldOf_2 6 rfl rfl)
theorem dX0_toldOf_41 : decode cX0_toldOf 41 = .ok (.ireturn, 1) := dk_172 (dk_at dksX0_toldOf_2 9 rfl rfl)
theorem dX0_toldOf_42 : decode cX0_toldOf 42 = .ok (.aload_n 0, 1) := dk_42 (dk_at dksX0_toldOf_2 10 rfl rfl)
theorem dX0_toldOf_43 : decode cX0_toldOf 43 = .ok (.getfield 60, 3) := dk_180 0 60 (dk_at dksX0_toldOf_2 11 rfl rfl)
theorem dX0_toldOf_46 : decode cX0_toldOf 46 = .ok (.iload_n 1, 1) := dk_27 (dk_at dksX0_toldOf_2 14 rfl rfl)
theorem dX0_toldOf_47 : decode cX0_toldOf 47 = .ok (.aaload, 1) := dk_50 (dk_at dksX0_toldOf_2 15 rfl rfl)
theorem dX0_toldOf_48 : decode cX0_toldOf 48 = .ok (.getfield 93, 3) := dk_180 0 93 (dk_at dksX0_toldOf_2 16 rfl rfl)
theorem dX0_toldOf_51 : decode cX0_toldOf 51 = .ok (.ireturn, 1) := dk_172 (dk_at dksX0_toldOf_2 19 rfl rfl)
theorem dX0_toldOf_52 : decode cX0_toldOf 52 = .ok (.aload_n 0, 1) := dk_42 (dk_at dksX0_toldOf_2 20 rfl rfl)
theorem dX0_toldOf_53 : decode cX0_toldOf 53 = .ok (.getfield 60, 3) := dk_180 0 60 (dk_at dksX0_toldOf_2 21 rfl rfl)
theorem dX0_toldOf_56 : decode cX0_toldOf 56 = .ok (.iload_n 1, 1) := dk_27 (dk_at dksX0_toldOf_3 0 rfl rfl)
theorem dX0_toldOf_57 : decode cX0_toldOf 57 = .ok (.aaload, 1) := dk_50 (dk_at dksX0_toldOf_3 1 rfl rfl)
theorem dX0_toldOf_58 : decode cX0_toldOf 58 = .ok (.invokevirtual 106, 3) := dk_182 0 106 (dk_at dksX0_toldOf_3 2 rfl rfl)
theorem dX0_toldOf_61 : decode cX0_toldOf 61 = .ok (.ireturn, 1) := dk_172 (dk_at dksX0_toldOf_3 5 rfl rfl)
theorem dX0_toldOf_62 : decode cX0_toldOf 62 = .ok (.aload_n 0, 1) := dk_42 (dk_at dksX0_toldOf_3 6 rfl rfl)
theorem dX0_toldOf_63 : decode cX0_toldOf 63 = .ok (.getfield 60, 3) := dk_180 0 60 (dk_at dksX0_toldOf_3 7 rfl rfl)
theorem dX0_toldOf_66 : decode cX0_toldOf 66 = .ok (.iload_n 1, 1) := dk_27 (dk_at dksX0_toldOf_3 10 rfl rfl)
theorem dX0_toldOf_67 : decode cX0_toldOf 67 = .ok (.aaload, 1) := dk_50 (dk_at dksX0_toldOf_3 11 rfl rfl)
theorem dX0_toldOf_68 : decode cX0_toldOf 68 = .ok (.getfield 110, 3) := dk_180 0 110 (dk_at dksX0_toldOf_3 12 rfl rfl)
theorem dX0_toldOf_71 : decode cX0_toldOf 71 = .ok (.ireturn, 1) := dk_172 (dk_at dksX0_toldOf_3 15 rfl rfl)
theorem dX0_toldOf_72 : decode cX0_toldOf 72 = .ok (.aload_n 0, 1) := dk_42 (dk_at dksX0_toldOf_3 16 rfl rfl)
theorem dX0_toldOf_73 : decode cX0_toldOf 73 = .ok (.iload_n 1, 1) := dk_27 (dk_at dksX0_toldOf_3 17 rfl rfl)
theorem dX0_toldOf_74 : decode cX0_toldOf 74 = .ok (.invokevirtual 113, 3) := dk_182 0 113 (dk_at dksX0_toldOf_3 18 rfl rfl)
theorem dX0_toldOf_77 : decode cX0_toldOf 77 = .ok (.ireturn, 1) := dk_172 (dk_at dksX0_toldOf_3 21 rfl rfl)
abbrev cX0_rulesOf : ByteArray := prog_1_method_62_code
def yX0_rulesOf : MethodName := ⟨RX0, "rulesOf", "(I)I"⟩
def dkwX0_rulesOf_3 : List UInt8 := [132, 3, 1, 167, 255, 191, 28, 172]
abbrev dktX0_rulesOf_3 : List UInt8 := dkwX0_rulesOf_3 ++ []
def dkwX0_rulesOf_2 : List UInt8 := [182, 1, 126, 27, 159, 0, 6, 167, 0, 15, 132, 4, 1, 167, 255, 227, 28, 4, 29, 120, 128, 61]
abbrev dktX0_rulesOf_2 : List UInt8 := dkwX0_rulesOf_2 ++ dktX0_rulesOf_3
def dkwX0_rulesOf_1 : List UInt8 := [181, 1, 101, 3, 54, 4, 21, 4, 16, 8, 162, 0, 28, 42, 21, 4, 181, 1, 120, 42, 29, 27]
abbrev dktX0_rulesOf_1 : List UInt8 := dkwX0_rulesOf_1 ++ dktX0_rulesOf_2
def dkwX0_rulesOf_0 : List UInt8 := [3, 61, 3, 62, 29, 42, 180, 0, 18, 162, 0, 63, 29, 27, 160, 0, 6, 167, 0, 49, 42, 3]
abbrev dktX0_rulesOf_0 : List UInt8 := dkwX0_rulesOf_0 ++ dktX0_rulesOf_1
theorem dksX0_rulesOf_0 : cX0_rulesOf.data.toList.drop 0 = dktX0_rulesOf_0 := by decide +kernel
theorem dksX0_rulesOf_1 : cX0_rulesOf.data.toList.drop 22 = dktX0_rulesOf_1 := dk_seg dksX0_rulesOf_0 22 rfl rfl
theorem dksX0_rulesOf_2 : cX0_rulesOf.data.toList.drop 44 = dktX0_rulesOf_2 := dk_seg dksX0_rulesOf_1 22 rfl rfl
theorem dksX0_rulesOf_3 : cX0_rulesOf.data.toList.drop 66 = dktX0_rulesOf_3 := dk_seg dksX0_rulesOf_2 22 rfl rfl
theorem dX0_rulesOf_0 : decode cX0_rulesOf 0 = .ok (.iconst 0, 1) := dk_3 (dk_at dksX0_rulesOf_0 0 rfl rfl)
theorem dX0_rulesOf_1 : decode cX0_rulesOf 1 = .ok (.istore_n 2, 1) := dk_61 (dk_at dksX0_rulesOf_0 1 rfl rfl)
theorem dX0_rulesOf_2 : decode cX0_rulesOf 2 = .ok (.iconst 0, 1) := dk_3 (dk_at dksX0_rulesOf_0 2 rfl rfl)
theorem dX0_rulesOf_3 : decode cX0_rulesOf 3 = .ok (.istore_n 3, 1) := dk_62 (dk_at dksX0_rulesOf_0 3 rfl rfl)
theorem dX0_rulesOf_4 : decode cX0_rulesOf 4 = .ok (.iload_n 3, 1) := dk_29 (dk_at dksX0_rulesOf_0 4 rfl rfl)
theorem dX0_rulesOf_5 : decode cX0_rulesOf 5 = .ok (.aload_n 0, 1) := dk_42 (dk_at dksX0_rulesOf_0 5 rfl rfl)
theorem dX0_rulesOf_6 : decode cX0_rulesOf 6 = .ok (.getfield 18, 3) := dk_180 0 18 (dk_at dksX0_rulesOf_0 6 rfl rfl)
theorem dX0_rulesOf_9 : decode cX0_rulesOf 9 = .ok (.if_icmp .ge 63, 3) := dk_162 0 63 (dk_at dksX0_rulesOf_0 9 rfl rfl)
theorem dX0_rulesOf_12 : decode cX0_rulesOf 12 = .ok (.iload_n 3, 1) := dk_29 (dk_at dksX0_rulesOf_0 12 rfl rfl)
theorem dX0_rulesOf_13 : decode cX0_rulesOf 13 = .ok (.iload_n 1, 1) := dk_27 (dk_at dksX0_rulesOf_0 13 rfl rfl)
theorem dX0_rulesOf_14 : decode cX0_rulesOf 14 = .ok (.if_icmp .ne 6, 3) := dk_160 0 6 (dk_at dksX0_rulesOf_0 14 rfl rfl)
theorem dX0_rulesOf_17 : decode cX0_rulesOf 17 = .ok (.goto 49, 3) := dk_167 0 49 (dk_at dksX0_rulesOf_0 17 rfl rfl)
theorem dX0_rulesOf_20 : decode cX0_rulesOf 20 = .ok (.aload_n 0, 1) := dk_42 (dk_at dksX0_rulesOf_0 20 rfl rfl)
theorem dX0_rulesOf_21 : decode cX0_rulesOf 21 = .ok (.iconst 0, 1) := dk_3 (dk_at dksX0_rulesOf_0 21 rfl rfl)
theorem dX0_rulesOf_22 : decode cX0_rulesOf 22 = .ok (.putfield 357, 3) := dk_181 1 101 (dk_at dksX0_rulesOf_1 0 rfl rfl)
theorem dX0_rulesOf_25 : decode cX0_rulesOf 25 = .ok (.iconst 0, 1) := dk_3 (dk_at dksX0_rulesOf_1 3 rfl rfl)
theorem dX0_rulesOf_26 : decode cX0_rulesOf 26 = .ok (.istore 4, 2) := dk_54 4 (dk_at dksX0_rulesOf_1 4 rfl rfl)
theorem dX0_rulesOf_28 : decode cX0_rulesOf 28 = .ok (.iload 4, 2) := dk_21 4 (dk_at dksX0_rulesOf_1 6 rfl rfl)
theorem dX0_rulesOf_30 : decode cX0_rulesOf 30 = .ok (.bipush 8, 2) := dk_16 8 (dk_at dksX0_rulesOf_1 8 rfl rfl)
theorem dX0_rulesOf_32 : decode cX0_rulesOf 32 = .ok (.if_icmp .ge 28, 3) := dk_162 0 28 (dk_at dksX0_rulesOf_1 10 rfl rfl)
theorem dX0_rulesOf_35 : decode cX0_rulesOf 35 = .ok (.aload_n 0, 1) := dk_42 (dk_at dksX0_rulesOf_1 13 rfl rfl)
theorem dX0_rulesOf_36 : decode cX0_rulesOf 36 = .ok (.iload 4, 2) := dk_21 4 (dk_at dksX0_rulesOf_1 14 rfl rfl)
theorem dX0_rulesOf_38 : decode cX0_rulesOf 38 = .ok (.putfield 376, 3) := dk_181 1 120 (dk_at dksX0_rulesOf_1 16 rfl rfl)
theorem dX0_rulesOf_41 : decode cX0_rulesOf 41 = .ok (.aload_n 0, 1) := dk_42 (dk_at dksX0_rulesOf_1 19 rfl rfl)
theorem dX0_rulesOf_42 : decode cX0_rulesOf 42 = .ok (.iload_n 3, 1) := dk_29 (dk_at dksX0_rulesOf_1 20 rfl rfl)
theorem dX0_rulesOf_43 : decode cX0_rulesOf 43 = .ok (.iload_n 1, 1) := dk_27 (dk_at dksX0_rulesOf_1 21 rfl rfl)
theorem dX0_rulesOf_44 : decode cX0_rulesOf 44 = .ok (.invokevirtual 382, 3) := dk_182 1 126 (dk_at dksX0_rulesOf_2 0 rfl rfl)
theorem dX0_rulesOf_47 : decode cX0_rulesOf 47 = .ok (.iload_n 1, 1) := dk_27 (dk_at dksX0_rulesOf_2 3 rfl rfl)
theorem dX0_rulesOf_48 : decode cX0_rulesOf 48 = .ok (.if_icmp .eq 6, 3) := dk_159 0 6 (dk_at dksX0_rulesOf_2 4 rfl rfl)
theorem dX0_rulesOf_51 : decode cX0_rulesOf 51 = .ok (.goto 15, 3) := dk_167 0 15 (dk_at dksX0_rulesOf_2 7 rfl rfl)
theorem dX0_rulesOf_54 : decode cX0_rulesOf 54 = .ok (.iinc 4 1, 3) := dk_132 4 1 (dk_at dksX0_rulesOf_2 10 rfl rfl)
theorem dX0_rulesOf_57 : decode cX0_rulesOf 57 = .ok (.goto (-29), 3) := dk_167 255 227 (dk_at dksX0_rulesOf_2 13 rfl rfl)
theorem dX0_rulesOf_60 : decode cX0_rulesOf 60 = .ok (.iload_n 2, 1) := dk_28 (dk_at dksX0_rulesOf_2 16 rfl rfl)
theorem dX0_rulesOf_61 : decode cX0_rulesOf 61 = .ok (.iconst 1, 1) := dk_4 (dk_at dksX0_rulesOf_2 17 rfl rfl)
theorem dX0_rulesOf_62 : decode cX0_rulesOf 62 = .ok (.iload_n 3, 1) := dk_29 (dk_at dksX0_rulesOf_2 18 rfl rfl)
theorem dX0_rulesOf_63 : decode cX0_rulesOf 63 = .ok (.ishl, 1) := dk_120 (dk_at dksX0_rulesOf_2 19 rfl rfl)
theorem dX0_rulesOf_64 : decode cX0_rulesOf 64 = .ok (.ior, 1) := dk_128 (dk_at dksX0_rulesOf_2 20 rfl rfl)
theorem dX0_rulesOf_65 : decode cX0_rulesOf 65 = .ok (.istore_n 2, 1) := dk_61 (dk_at dksX0_rulesOf_2 21 rfl rfl)
theorem dX0_rulesOf_66 : decode cX0_rulesOf 66 = .ok (.iinc 3 1, 3) := dk_132 3 1 (dk_at dksX0_rulesOf_3 0 rfl rfl)
theorem dX0_rulesOf_69 : decode cX0_rulesOf 69 = .ok (.goto (-65), 3) := dk_167 255 191 (dk_at dksX0_rulesOf_3 3 rfl rfl)
theorem dX0_rulesOf_72 : decode cX0_rulesOf 72 = .ok (.iload_n 2, 1) := dk_28 (dk_at dksX0_rulesOf_3 6 rfl rfl)
theorem dX0_rulesOf_73 : decode cX0_rulesOf 73 = .ok (.ireturn, 1) := dk_172 (dk_at dksX0_rulesOf_3 7 rfl rfl)
abbrev cX0_steers : ByteArray := prog_1_method_47_code
def yX0_steers : MethodName := ⟨RX0, "steers", "(II)I"⟩
def dkwX0_steers_1 : List UInt8 := [28, 27, 3, 182, 1, 112, 96, 54, 4, 29, 21, 4, 161, 0, 7, 27, 167, 0, 4, 28, 172]
abbrev dktX0_steers_1 : List UInt8 := dkwX0_steers_1 ++ []
def dkwX0_steers_0 : List UInt8 := [42, 27, 28, 4, 182, 1, 108, 42, 27, 28, 4, 182, 1, 112, 96, 62, 42, 28, 27, 3, 182, 1, 108, 42]
abbrev dktX0_steers_0 : List UInt8 := dkwX0_steers_0 ++ dktX0_steers_1
theorem dksX0_steers_0 : cX0_steers.data.toList.drop 0 = dktX0_steers_0 := by decide +kernel
theorem dksX0_steers_1 : cX0_steers.data.toList.drop 24 = dktX0_steers_1 := dk_seg dksX0_steers_0 24 rfl rfl
theorem dX0_steers_0 : decode cX0_steers 0 = .ok (.aload_n 0, 1) := dk_42 (dk_at dksX0_steers_0 0 rfl rfl)
theorem dX0_steers_1 : decode cX0_steers 1 = .ok (.iload_n 1, 1) := dk_27 (dk_at dksX0_steers_0 1 rfl rfl)
theorem dX0_steers_2 : decode cX0_steers 2 = .ok (.iload_n 2, 1) := dk_28 (dk_at dksX0_steers_0 2 rfl rfl)
theorem dX0_steers_3 : decode cX0_steers 3 = .ok (.iconst 1, 1) := dk_4 (dk_at dksX0_steers_0 3 rfl rfl)
theorem dX0_steers_4 : decode cX0_steers 4 = .ok (.invokevirtual 364, 3) := dk_182 1 108 (dk_at dksX0_steers_0 4 rfl rfl)
theorem dX0_steers_7 : decode cX0_steers 7 = .ok (.aload_n 0, 1) := dk_42 (dk_at dksX0_steers_0 7 rfl rfl)
theorem dX0_steers_8 : decode cX0_steers 8 = .ok (.iload_n 1, 1) := dk_27 (dk_at dksX0_steers_0 8 rfl rfl)
theorem dX0_steers_9 : decode cX0_steers 9 = .ok (.iload_n 2, 1) := dk_28 (dk_at dksX0_steers_0 9 rfl rfl)
theorem dX0_steers_10 : decode cX0_steers 10 = .ok (.iconst 1, 1) := dk_4 (dk_at dksX0_steers_0 10 rfl rfl)
theorem dX0_steers_11 : decode cX0_steers 11 = .ok (.invokevirtual 368, 3) := dk_182 1 112 (dk_at dksX0_steers_0 11 rfl rfl)
theorem dX0_steers_14 : decode cX0_steers 14 = .ok (.iadd, 1) := dk_96 (dk_at dksX0_steers_0 14 rfl rfl)
theorem dX0_steers_15 : decode cX0_steers 15 = .ok (.istore_n 3, 1) := dk_62 (dk_at dksX0_steers_0 15 rfl rfl)
theorem dX0_steers_16 : decode cX0_steers 16 = .ok (.aload_n 0, 1) := dk_42 (dk_at dksX0_steers_0 16 rfl rfl)
theorem dX0_steers_17 : decode cX0_steers 17 = .ok (.iload_n 2, 1) := dk_28 (dk_at dksX0_steers_0 17 rfl rfl)
theorem dX0_steers_18 : decode cX0_steers 18 = .ok (.iload_n 1, 1) := dk_27 (dk_at dksX0_steers_0 18 rfl rfl)
theorem dX0_steers_19 : decode cX0_steers 19 = .ok (.iconst 0, 1) := dk_3 (dk_at dksX0_steers_0 19 rfl rfl)
theorem dX0_steers_20 : decode cX0_steers 20 = .ok (.invokevirtual 364, 3) := dk_182 1 108 (dk_at dksX0_steers_0 20 rfl rfl)
theorem dX0_steers_23 : decode cX0_steers 23 = .ok (.aload_n 0, 1) := dk_42 (dk_at dksX0_steers_0 23 rfl rfl)
theorem dX0_steers_24 : decode cX0_steers 24 = .ok (.iload_n 2, 1) := dk_28 (dk_at dksX0_steers_1 0 rfl rfl)
theorem dX0_steers_25 : decode cX0_steers 25 = .ok (.iload_n 1, 1) := dk_27 (dk_at dksX0_steers_1 1 rfl rfl)
theorem dX0_steers_26 : decode cX0_steers 26 = .ok (.iconst 0, 1) := dk_3 (dk_at dksX0_steers_1 2 rfl rfl)
theorem dX0_steers_27 : decode cX0_steers 27 = .ok (.invokevirtual 368, 3) := dk_182 1 112 (dk_at dksX0_steers_1 3 rfl rfl)
theorem dX0_steers_30 : decode cX0_steers 30 = .ok (.iadd, 1) := dk_96 (dk_at dksX0_steers_1 6 rfl rfl)
theorem dX0_steers_31 : decode cX0_steers 31 = .ok (.istore 4, 2) := dk_54 4 (dk_at dksX0_steers_1 7 rfl rfl)
theorem dX0_steers_33 : decode cX0_steers 33 = .ok (.iload_n 3, 1) := dk_29 (dk_at dksX0_steers_1 9 rfl rfl)
theorem dX0_steers_34 : decode cX0_steers 34 = .ok (.iload 4, 2) := dk_21 4 (dk_at dksX0_steers_1 10 rfl rfl)
theorem dX0_steers_36 : decode cX0_steers 36 = .ok (.if_icmp .lt 7, 3) := dk_161 0 7 (dk_at dksX0_steers_1 12 rfl rfl)
theorem dX0_steers_39 : decode cX0_steers 39 = .ok (.iload_n 1, 1) := dk_27 (dk_at dksX0_steers_1 15 rfl rfl)
theorem dX0_steers_40 : decode cX0_steers 40 = .ok (.goto 4, 3) := dk_167 0 4 (dk_at dksX0_steers_1 16 rfl rfl)
theorem dX0_steers_43 : decode cX0_steers 43 = .ok (.iload_n 2, 1) := dk_28 (dk_at dksX0_steers_1 19 rfl rfl)
theorem dX0_steers_44 : decode cX0_steers 44 = .ok (.ireturn, 1) := dk_172 (dk_at dksX0_steers_1 20 rfl rfl)
abbrev cX0_pullOf : ByteArray := prog_1_method_44_code
def yX0_pullOf : MethodName := ⟨RX0, "pullOf", "(IIZ)I"⟩
def dkwX0_pullOf_1 : List UInt8 := [17, 3, 231, 184, 1, 87, 172]
abbrev dktX0_pullOf_1 : List UInt8 := dkwX0_pullOf_1 ++ []
def dkwX0_pullOf_0 : List UInt8 := [42, 180, 0, 60, 27, 50, 42, 3, 27, 28, 29, 182, 1, 90, 29, 42, 180, 0, 87, 182, 1, 94]
abbrev dktX0_pullOf_0 : List UInt8 := dkwX0_pullOf_0 ++ dktX0_pullOf_1
theorem dksX0_pullOf_0 : cX0_pullOf.data.toList.drop 0 = dktX0_pullOf_0 := by decide +kernel
theorem dksX0_pullOf_1 : cX0_pullOf.data.toList.drop 22 = dktX0_pullOf_1 := dk_seg dksX0_pullOf_0 22 rfl rfl
theorem dX0_pullOf_0 : decode cX0_pullOf 0 = .ok (.aload_n 0, 1) := dk_42 (dk_at dksX0_pullOf_0 0 rfl rfl)
theorem dX0_pullOf_1 : decode cX0_pullOf 1 = .ok (.getfield 60, 3) := dk_180 0 60 (dk_at dksX0_pullOf_0 1 rfl rfl)
theorem dX0_pullOf_4 : decode cX0_pullOf 4 = .ok (.iload_n 1, 1) := dk_27 (dk_at dksX0_pullOf_0 4 rfl rfl)
theorem dX0_pullOf_5 : decode cX0_pullOf 5 = .ok (.aaload, 1) := dk_50 (dk_at dksX0_pullOf_0 5 rfl rfl)
theorem dX0_pullOf_6 : decode cX0_pullOf 6 = .ok (.aload_n 0, 1) := dk_42 (dk_at dksX0_pullOf_0 6 rfl rfl)
theorem dX0_pullOf_7 : decode cX0_pullOf 7 = .ok (.iconst 0, 1) := dk_3 (dk_at dksX0_pullOf_0 7 rfl rfl)
theorem dX0_pullOf_8 : decode cX0_pullOf 8 = .ok (.iload_n 1, 1) := dk_27 (dk_at dksX0_pullOf_0 8 rfl rfl)
theorem dX0_pullOf_9 : decode cX0_pullOf 9 = .ok (.iload_n 2, 1) := dk_28 (dk_at dksX0_pullOf_0 9 rfl rfl)
theorem dX0_pullOf_10 : decode cX0_pullOf 10 = .ok (.iload_n 3, 1) := dk_29 (dk_at dksX0_pullOf_0 10 rfl rfl)
theorem dX0_pullOf_11 : decode cX0_pullOf 11 = .ok (.invokevirtual 346, 3) := dk_182 1 90 (dk_at dksX0_pullOf_0 11 rfl rfl)
theorem dX0_pullOf_14 : decode cX0_pullOf 14 = .ok (.iload_n 3, 1) := dk_29 (dk_at dksX0_pullOf_0 14 rfl rfl)
theorem dX0_pullOf_15 : decode cX0_pullOf 15 = .ok (.aload_n 0, 1) := dk_42 (dk_at dksX0_pullOf_0 15 rfl rfl)
theorem dX0_pullOf_16 : decode cX0_pullOf 16 = .ok (.getfield 87, 3) := dk_180 0 87 (dk_at dksX0_pullOf_0 16 rfl rfl)
theorem dX0_pullOf_19 : decode cX0_pullOf 19 = .ok (.invokevirtual 350, 3) := dk_182 1 94 (dk_at dksX0_pullOf_0 19 rfl rfl)
theorem dX0_pullOf_22 : decode cX0_pullOf 22 = .ok (.sipush 999, 3) := dk_17 3 231 (dk_at dksX0_pullOf_1 0 rfl rfl)
theorem dX0_pullOf_25 : decode cX0_pullOf 25 = .ok (.invokestatic 343, 3) := dk_184 1 87 (dk_at dksX0_pullOf_1 3 rfl rfl)
theorem dX0_pullOf_28 : decode cX0_pullOf 28 = .ok (.ireturn, 1) := dk_172 (dk_at dksX0_pullOf_1 6 rfl rfl)
abbrev cX0_says : ByteArray := prog_1_method_43_code
def yX0_says : MethodName := ⟨RX0, "says", "(IIIZ)I"⟩
def dkwX0_says_2 : List UInt8 := [167, 0, 10, 21, 5, 16, 99, 184, 1, 87, 172]
abbrev dktX0_says_2 : List UInt8 := dkwX0_says_2 ++ []
def dkwX0_says_1 : List UInt8 := [42, 180, 0, 255, 42, 180, 1, 72, 50, 27, 50, 182, 1, 84, 54, 5, 27, 5, 160, 0, 8, 21, 5]
abbrev dktX0_says_1 : List UInt8 := dkwX0_says_1 ++ dktX0_says_2
def dkwX0_says_0 : List UInt8 := [42, 28, 181, 1, 75, 42, 29, 181, 1, 78, 42, 21, 4, 153, 0, 7, 3, 167, 0, 4, 4, 181, 1, 81]
abbrev dktX0_says_0 : List UInt8 := dkwX0_says_0 ++ dktX0_says_1
theorem dksX0_says_0 : cX0_says.data.toList.drop 0 = dktX0_says_0 := by decide +kernel
theorem dksX0_says_1 : cX0_says.data.toList.drop 24 = dktX0_says_1 := dk_seg dksX0_says_0 24 rfl rfl
theorem dksX0_says_2 : cX0_says.data.toList.drop 47 = dktX0_says_2 := dk_seg dksX0_says_1 23 rfl rfl
theorem dX0_says_0 : decode cX0_says 0 = .ok (.aload_n 0, 1) := dk_42 (dk_at dksX0_says_0 0 rfl rfl)
theorem dX0_says_1 : decode cX0_says 1 = .ok (.iload_n 2, 1) := dk_28 (dk_at dksX0_says_0 1 rfl rfl)
theorem dX0_says_2 : decode cX0_says 2 = .ok (.putfield 331, 3) := dk_181 1 75 (dk_at dksX0_says_0 2 rfl rfl)
theorem dX0_says_5 : decode cX0_says 5 = .ok (.aload_n 0, 1) := dk_42 (dk_at dksX0_says_0 5 rfl rfl)
theorem dX0_says_6 : decode cX0_says 6 = .ok (.iload_n 3, 1) := dk_29 (dk_at dksX0_says_0 6 rfl rfl)
theorem dX0_says_7 : decode cX0_says 7 = .ok (.putfield 334, 3) := dk_181 1 78 (dk_at dksX0_says_0 7 rfl rfl)
theorem dX0_says_10 : decode cX0_says 10 = .ok (.aload_n 0, 1) := dk_42 (dk_at dksX0_says_0 10 rfl rfl)
theorem dX0_says_11 : decode cX0_says 11 = .ok (.iload 4, 2) := dk_21 4 (dk_at dksX0_says_0 11 rfl rfl)
theorem dX0_says_13 : decode cX0_says 13 = .ok (.ifCond .eq 7, 3) := dk_153 0 7 (dk_at dksX0_says_0 13 rfl rfl)
theorem dX0_says_16 : decode cX0_says 16 = .ok (.iconst 0, 1) := dk_3 (dk_at dksX0_says_0 16 rfl rfl)
theorem dX0_says_17 : decode cX0_says 17 = .ok (.goto 4, 3) := dk_167 0 4 (dk_at dksX0_says_0 17 rfl rfl)
theorem dX0_says_20 : decode cX0_says 20 = .ok (.iconst 1, 1) := dk_4 (dk_at dksX0_says_0 20 rfl rfl)
theorem dX0_says_21 : decode cX0_says 21 = .ok (.putfield 337, 3) := dk_181 1 81 (dk_at dksX0_says_0 21 rfl rfl)
theorem dX0_says_24 : decode cX0_says 24 = .ok (.aload_n 0, 1) := dk_42 (dk_at dksX0_says_1 0 rfl rfl)
theorem dX0_says_25 : decode cX0_says 25 = .ok (.getfield 255, 3) := dk_180 0 255 (dk_at dksX0_says_1 1 rfl rfl)
theorem dX0_says_28 : decode cX0_says 28 = .ok (.aload_n 0, 1) := dk_42 (dk_at dksX0_says_1 4 rfl rfl)
theorem dX0_says_29 : decode cX0_says 29 = .ok (.getfield 328, 3) := dk_180 1 72 (dk_at dksX0_says_1 5 rfl rfl)
theorem dX0_says_32 : decode cX0_says 32 = .ok (.aaload, 1) := dk_50 (dk_at dksX0_says_1 8 rfl rfl)
theorem dX0_says_33 : decode cX0_says 33 = .ok (.iload_n 1, 1) := dk_27 (dk_at dksX0_says_1 9 rfl rfl)
theorem dX0_says_34 : decode cX0_says 34 = .ok (.aaload, 1) := dk_50 (dk_at dksX0_says_1 10 rfl rfl)
theorem dX0_says_35 : decode cX0_says 35 = .ok (.invokevirtual 340, 3) := dk_182 1 84 (dk_at dksX0_says_1 11 rfl rfl)
theorem dX0_says_38 : decode cX0_says 38 = .ok (.istore 5, 2) := dk_54 5 (dk_at dksX0_says_1 14 rfl rfl)
theorem dX0_says_40 : decode cX0_says 40 = .ok (.iload_n 1, 1) := dk_27 (dk_at dksX0_says_1 16 rfl rfl)
theorem dX0_says_41 : decode cX0_says 41 = .ok (.iconst 2, 1) := dk_5 (dk_at dksX0_says_1 17 rfl rfl)
theorem dX0_says_42 : decode cX0_says 42 = .ok (.if_icmp .ne 8, 3) := dk_160 0 8 (dk_at dksX0_says_1 18 rfl rfl)
theorem dX0_says_45 : decode cX0_says 45 = .ok (.iload 5, 2) := dk_21 5 (dk_at dksX0_says_1 21 rfl rfl)
theorem dX0_says_47 : decode cX0_says 47 = .ok (.goto 10, 3) := dk_167 0 10 (dk_at dksX0_says_2 0 rfl rfl)
theorem dX0_says_50 : decode cX0_says 50 = .ok (.iload 5, 2) := dk_21 5 (dk_at dksX0_says_2 3 rfl rfl)
theorem dX0_says_52 : decode cX0_says 52 = .ok (.bipush 99, 2) := dk_16 99 (dk_at dksX0_says_2 5 rfl rfl)
theorem dX0_says_54 : decode cX0_says 54 = .ok (.invokestatic 343, 3) := dk_184 1 87 (dk_at dksX0_says_2 7 rfl rfl)
theorem dX0_says_57 : decode cX0_says 57 = .ok (.ireturn, 1) := dk_172 (dk_at dksX0_says_2 10 rfl rfl)
abbrev cX0_held : ByteArray := prog_1_method_2_code
def yX0_held : MethodName := ⟨RX0, "held", "(II)I"⟩
def dkwX0_held_0 : List UInt8 := [3, 27, 26, 184, 0, 1, 184, 0, 7, 172]
abbrev dktX0_held_0 : List UInt8 := dkwX0_held_0 ++ []
theorem dksX0_held_0 : cX0_held.data.toList.drop 0 = dktX0_held_0 := by decide +kernel
theorem dX0_held_0 : decode cX0_held 0 = .ok (.iconst 0, 1) := dk_3 (dk_at dksX0_held_0 0 rfl rfl)
theorem dX0_held_1 : decode cX0_held 1 = .ok (.iload_n 1, 1) := dk_27 (dk_at dksX0_held_0 1 rfl rfl)
theorem dX0_held_2 : decode cX0_held 2 = .ok (.iload_n 0, 1) := dk_26 (dk_at dksX0_held_0 2 rfl rfl)
theorem dX0_held_3 : decode cX0_held 3 = .ok (.invokestatic 1, 3) := dk_184 0 1 (dk_at dksX0_held_0 3 rfl rfl)
theorem dX0_held_6 : decode cX0_held 6 = .ok (.invokestatic 7, 3) := dk_184 0 7 (dk_at dksX0_held_0 6 rfl rfl)
theorem dX0_held_9 : decode cX0_held 9 = .ok (.ireturn, 1) := dk_172 (dk_at dksX0_held_0 9 rfl rfl)
abbrev cX0_moodOf : ByteArray := prog_1_method_45_code
def yX0_moodOf : MethodName := ⟨RX0, "moodOf", "(IIZ)I"⟩
def dkwX0_moodOf_0 : List UInt8 := [42, 180, 0, 60, 27, 50, 42, 4, 27, 28, 29, 182, 1, 90, 182, 1, 98, 17, 3, 231, 184, 1, 87, 172]
abbrev dktX0_moodOf_0 : List UInt8 := dkwX0_moodOf_0 ++ []
theorem dksX0_moodOf_0 : cX0_moodOf.data.toList.drop 0 = dktX0_moodOf_0 := by decide +kernel
theorem dX0_moodOf_0 : decode cX0_moodOf 0 = .ok (.aload_n 0, 1) := dk_42 (dk_at dksX0_moodOf_0 0 rfl rfl)
theorem dX0_moodOf_1 : decode cX0_moodOf 1 = .ok (.getfield 60, 3) := dk_180 0 60 (dk_at dksX0_moodOf_0 1 rfl rfl)
theorem dX0_moodOf_4 : decode cX0_moodOf 4 = .ok (.iload_n 1, 1) := dk_27 (dk_at dksX0_moodOf_0 4 rfl rfl)
theorem dX0_moodOf_5 : decode cX0_moodOf 5 = .ok (.aaload, 1) := dk_50 (dk_at dksX0_moodOf_0 5 rfl rfl)
theorem dX0_moodOf_6 : decode cX0_moodOf 6 = .ok (.aload_n 0, 1) := dk_42 (dk_at dksX0_moodOf_0 6 rfl rfl)
theorem dX0_moodOf_7 : decode cX0_moodOf 7 = .ok (.iconst 1, 1) := dk_4 (dk_at dksX0_moodOf_0 7 rfl rfl)
theorem dX0_moodOf_8 : decode cX0_moodOf 8 = .ok (.iload_n 1, 1) := dk_27 (dk_at dksX0_moodOf_0 8 rfl rfl)
theorem dX0_moodOf_9 : decode cX0_moodOf 9 = .ok (.iload_n 2, 1) := dk_28 (dk_at dksX0_moodOf_0 9 rfl rfl)
theorem dX0_moodOf_10 : decode cX0_moodOf 10 = .ok (.iload_n 3, 1) := dk_29 (dk_at dksX0_moodOf_0 10 rfl rfl)
theorem dX0_moodOf_11 : decode cX0_moodOf 11 = .ok (.invokevirtual 346, 3) := dk_182 1 90 (dk_at dksX0_moodOf_0 11 rfl rfl)
theorem dX0_moodOf_14 : decode cX0_moodOf 14 = .ok (.invokevirtual 354, 3) := dk_182 1 98 (dk_at dksX0_moodOf_0 14 rfl rfl)
theorem dX0_moodOf_17 : decode cX0_moodOf 17 = .ok (.sipush 999, 3) := dk_17 3 231 (dk_at dksX0_moodOf_0 17 rfl rfl)
theorem dX0_moodOf_20 : decode cX0_moodOf 20 = .ok (.invokestatic 343, 3) := dk_184 1 87 (dk_at dksX0_moodOf_0 20 rfl rfl)
theorem dX0_moodOf_23 : decode cX0_moodOf 23 = .ok (.ireturn, 1) := dk_172 (dk_at dksX0_moodOf_0 23 rfl rfl)
abbrev cX0_becomes : ByteArray := prog_1_method_15_code
def yX0_becomes : MethodName := ⟨RX0, "becomes", "(III)V"⟩
def dkwX0_becomes_3 : List UInt8 := [180, 0, 60, 28, 50, 29, 181, 0, 93, 177]
abbrev dktX0_becomes_3 : List UInt8 := dkwX0_becomes_3 ++ []
def dkwX0_becomes_2 : List UInt8 := [42, 29, 181, 0, 87, 167, 0, 26, 42, 180, 0, 60, 28, 50, 29, 181, 0, 90, 167, 0, 13, 42]
abbrev dktX0_becomes_2 : List UInt8 := dkwX0_becomes_2 ++ dktX0_becomes_3
def dkwX0_becomes_1 : List UInt8 := [171, 0, 0, 0, 0, 0, 48, 0, 0, 0, 2, 0, 0, 0, 0, 0, 0, 0, 27, 0, 0, 0, 1, 0, 0, 0, 35]
abbrev dktX0_becomes_1 : List UInt8 := dkwX0_becomes_1 ++ dktX0_becomes_2
def dkwX0_becomes_0 : List UInt8 := [27]
abbrev dktX0_becomes_0 : List UInt8 := dkwX0_becomes_0 ++ dktX0_becomes_1
theorem dksX0_becomes_0 : cX0_becomes.data.toList.drop 0 = dktX0_becomes_0 := by decide +kernel
theorem dksX0_becomes_1 : cX0_becomes.data.toList.drop 1 = dktX0_becomes_1 := dk_seg dksX0_becomes_0 1 rfl rfl
theorem dksX0_becomes_2 : cX0_becomes.data.toList.drop 28 = dktX0_becomes_2 := dk_seg dksX0_becomes_1 27 rfl rfl
theorem dksX0_becomes_3 : cX0_becomes.data.toList.drop 50 = dktX0_becomes_3 := dk_seg dksX0_becomes_2 22 rfl rfl
theorem dX0_becomes_0 : decode cX0_becomes 0 = .ok (.iload_n 1, 1) := dk_27 (dk_at dksX0_becomes_0 0 rfl rfl)
theorem dX0_becomes_1 : decode cX0_becomes 1 = .ok (.lookupswitch 48 #[(0, 27), (1, 35)], 27) := by decide +kernel
theorem dX0_becomes_28 : decode cX0_becomes 28 = .ok (.aload_n 0, 1) := dk_42 (dk_at dksX0_becomes_2 0 rfl rfl)
theorem dX0_becomes_29 : decode cX0_becomes 29 = .ok (.iload_n 3, 1) := dk_29 (dk_at dksX0_becomes_2 1 rfl rfl)
theorem dX0_becomes_30 : decode cX0_becomes 30 = .ok (.putfield 87, 3) := dk_181 0 87 (dk_at dksX0_becomes_2 2 rfl rfl)
theorem dX0_becomes_33 : decode cX0_becomes 33 = .ok (.goto 26, 3) := dk_167 0 26 (dk_at dksX0_becomes_2 5 rfl rfl)
theorem dX0_becomes_36 : decode cX0_becomes 36 = .ok (.aload_n 0, 1) := dk_42 (dk_at dksX0_becomes_2 8 rfl rfl)
theorem dX0_becomes_37 : decode cX0_becomes 37 = .ok (.getfield 60, 3) := dk_180 0 60 (dk_at dksX0_becomes_2 9 rfl rfl)
theorem dX0_becomes_40 : decode cX0_becomes 40 = .ok (.iload_n 2, 1) := dk_28 (dk_at dksX0_becomes_2 12 rfl rfl)
theorem dX0_becomes_41 : decode cX0_becomes 41 = .ok (.aaload, 1) := dk_50 (dk_at dksX0_becomes_2 13 rfl rfl)
theorem dX0_becomes_42 : decode cX0_becomes 42 = .ok (.iload_n 3, 1) := dk_29 (dk_at dksX0_becomes_2 14 rfl rfl)
theorem dX0_becomes_43 : decode cX0_becomes 43 = .ok (.putfield 90, 3) := dk_181 0 90 (dk_at dksX0_becomes_2 15 rfl rfl)
theorem dX0_becomes_46 : decode cX0_becomes 46 = .ok (.goto 13, 3) := dk_167 0 13 (dk_at dksX0_becomes_2 18 rfl rfl)
theorem dX0_becomes_49 : decode cX0_becomes 49 = .ok (.aload_n 0, 1) := dk_42 (dk_at dksX0_becomes_2 21 rfl rfl)
theorem dX0_becomes_50 : decode cX0_becomes 50 = .ok (.getfield 60, 3) := dk_180 0 60 (dk_at dksX0_becomes_3 0 rfl rfl)
theorem dX0_becomes_53 : decode cX0_becomes 53 = .ok (.iload_n 2, 1) := dk_28 (dk_at dksX0_becomes_3 3 rfl rfl)
theorem dX0_becomes_54 : decode cX0_becomes 54 = .ok (.aaload, 1) := dk_50 (dk_at dksX0_becomes_3 4 rfl rfl)
theorem dX0_becomes_55 : decode cX0_becomes 55 = .ok (.iload_n 3, 1) := dk_29 (dk_at dksX0_becomes_3 5 rfl rfl)
theorem dX0_becomes_56 : decode cX0_becomes 56 = .ok (.putfield 93, 3) := dk_181 0 93 (dk_at dksX0_becomes_3 6 rfl rfl)
theorem dX0_becomes_59 : decode cX0_becomes 59 = .ok (.return_, 1) := dk_177 (dk_at dksX0_becomes_3 9 rfl rfl)
abbrev cX0_feed : ByteArray := prog_1_method_38_code
def yX0_feed : MethodName := ⟨RX0, "feed", "(I)I"⟩
def dkwX0_feed_2 : List UInt8 := [181, 0, 248, 42, 180, 0, 248, 172]
abbrev dktX0_feed_2 : List UInt8 := dkwX0_feed_2 ++ []
def dkwX0_feed_1 : List UInt8 := [160, 0, 6, 16, 252, 172, 42, 180, 0, 123, 42, 180, 0, 248, 27, 145, 84, 42, 89, 180, 0, 248, 4, 96]
abbrev dktX0_feed_1 : List UInt8 := dkwX0_feed_1 ++ dktX0_feed_2
def dkwX0_feed_0 : List UInt8 := [27, 133, 9, 20, 1, 9, 184, 0, 14, 154, 0, 6, 16, 254, 172, 42, 180, 0, 248, 17, 0, 160]
abbrev dktX0_feed_0 : List UInt8 := dkwX0_feed_0 ++ dktX0_feed_1
theorem dksX0_feed_0 : cX0_feed.data.toList.drop 0 = dktX0_feed_0 := by decide +kernel
theorem dksX0_feed_1 : cX0_feed.data.toList.drop 22 = dktX0_feed_1 := dk_seg dksX0_feed_0 22 rfl rfl
theorem dksX0_feed_2 : cX0_feed.data.toList.drop 46 = dktX0_feed_2 := dk_seg dksX0_feed_1 24 rfl rfl
theorem dX0_feed_0 : decode cX0_feed 0 = .ok (.iload_n 1, 1) := dk_27 (dk_at dksX0_feed_0 0 rfl rfl)
theorem dX0_feed_1 : decode cX0_feed 1 = .ok (.i2l, 1) := dk_133 (dk_at dksX0_feed_0 1 rfl rfl)
theorem dX0_feed_2 : decode cX0_feed 2 = .ok (.lconst 0, 1) := dk_9 (dk_at dksX0_feed_0 2 rfl rfl)
theorem dX0_feed_3 : decode cX0_feed 3 = .ok (.ldc2_w 265, 3) := dk_20 1 9 (dk_at dksX0_feed_0 3 rfl rfl)
theorem dX0_feed_6 : decode cX0_feed 6 = .ok (.invokestatic 14, 3) := dk_184 0 14 (dk_at dksX0_feed_0 6 rfl rfl)
theorem dX0_feed_9 : decode cX0_feed 9 = .ok (.ifCond .ne 6, 3) := dk_154 0 6 (dk_at dksX0_feed_0 9 rfl rfl)
theorem dX0_feed_12 : decode cX0_feed 12 = .ok (.bipush (-2), 2) := dk_16 254 (dk_at dksX0_feed_0 12 rfl rfl)
theorem dX0_feed_14 : decode cX0_feed 14 = .ok (.ireturn, 1) := dk_172 (dk_at dksX0_feed_0 14 rfl rfl)
theorem dX0_feed_15 : decode cX0_feed 15 = .ok (.aload_n 0, 1) := dk_42 (dk_at dksX0_feed_0 15 rfl rfl)
theorem dX0_feed_16 : decode cX0_feed 16 = .ok (.getfield 248, 3) := dk_180 0 248 (dk_at dksX0_feed_0 16 rfl rfl)
theorem dX0_feed_19 : decode cX0_feed 19 = .ok (.sipush 160, 3) := dk_17 0 160 (dk_at dksX0_feed_0 19 rfl rfl)
theorem dX0_feed_22 : decode cX0_feed 22 = .ok (.if_icmp .ne 6, 3) := dk_160 0 6 (dk_at dksX0_feed_1 0 rfl rfl)
theorem dX0_feed_25 : decode cX0_feed 25 = .ok (.bipush (-4), 2) := dk_16 252 (dk_at dksX0_feed_1 3 rfl rfl)
theorem dX0_feed_27 : decode cX0_feed 27 = .ok (.ireturn, 1) := dk_172 (dk_at dksX0_feed_1 5 rfl rfl)
theorem dX0_feed_28 : decode cX0_feed 28 = .ok (.aload_n 0, 1) := dk_42 (dk_at dksX0_feed_1 6 rfl rfl)
theorem dX0_feed_29 : decode cX0_feed 29 = .ok (.getfield 123, 3) := dk_180 0 123 (dk_at dksX0_feed_1 7 rfl rfl)
theorem dX0_feed_32 : decode cX0_feed 32 = .ok (.aload_n 0, 1) := dk_42 (dk_at dksX0_feed_1 10 rfl rfl)
theorem dX0_feed_33 : decode cX0_feed 33 = .ok (.getfield 248, 3) := dk_180 0 248 (dk_at dksX0_feed_1 11 rfl rfl)
theorem dX0_feed_36 : decode cX0_feed 36 = .ok (.iload_n 1, 1) := dk_27 (dk_at dksX0_feed_1 14 rfl rfl)
theorem dX0_feed_37 : decode cX0_feed 37 = .ok (.i2b, 1) := dk_145 (dk_at dksX0_feed_1 15 rfl rfl)
theorem dX0_feed_38 : decode cX0_feed 38 = .ok (.bastore, 1) := dk_84 (dk_at dksX0_feed_1 16 rfl rfl)
theorem dX0_feed_39 : decode cX0_feed 39 = .ok (.aload_n 0, 1) := dk_42 (dk_at dksX0_feed_1 17 rfl rfl)
theorem dX0_feed_40 : decode cX0_feed 40 = .ok (.dup, 1) := dk_89 (dk_at dksX0_feed_1 18 rfl rfl)
theorem dX0_feed_41 : decode cX0_feed 41 = .ok (.getfield 248, 3) := dk_180 0 248 (dk_at dksX0_feed_1 19 rfl rfl)
theorem dX0_feed_44 : decode cX0_feed 44 = .ok (.iconst 1, 1) := dk_4 (dk_at dksX0_feed_1 22 rfl rfl)
theorem dX0_feed_45 : decode cX0_feed 45 = .ok (.iadd, 1) := dk_96 (dk_at dksX0_feed_1 23 rfl rfl)
theorem dX0_feed_46 : decode cX0_feed 46 = .ok (.putfield 248, 3) := dk_181 0 248 (dk_at dksX0_feed_2 0 rfl rfl)
theorem dX0_feed_49 : decode cX0_feed 49 = .ok (.aload_n 0, 1) := dk_42 (dk_at dksX0_feed_2 3 rfl rfl)
theorem dX0_feed_50 : decode cX0_feed 50 = .ok (.getfield 248, 3) := dk_180 0 248 (dk_at dksX0_feed_2 4 rfl rfl)
theorem dX0_feed_53 : decode cX0_feed 53 = .ok (.ireturn, 1) := dk_172 (dk_at dksX0_feed_2 7 rfl rfl)
abbrev cX0_text : ByteArray := prog_1_method_39_code
def yX0_text : MethodName := ⟨RX0, "text", "()I"⟩
def dkwX0_text_0 : List UInt8 := [42, 180, 1, 3, 16, 6, 160, 0, 8, 16, 252, 167, 0, 7, 42, 182, 1, 6, 172]
abbrev dktX0_text_0 : List UInt8 := dkwX0_text_0 ++ []
theorem dksX0_text_0 : cX0_text.data.toList.drop 0 = dktX0_text_0 := by decide +kernel
theorem dX0_text_0 : decode cX0_text 0 = .ok (.aload_n 0, 1) := dk_42 (dk_at dksX0_text_0 0 rfl rfl)
theorem dX0_text_1 : decode cX0_text 1 = .ok (.getfield 259, 3) := dk_180 1 3 (dk_at dksX0_text_0 1 rfl rfl)
theorem dX0_text_4 : decode cX0_text 4 = .ok (.bipush 6, 2) := dk_16 6 (dk_at dksX0_text_0 4 rfl rfl)
theorem dX0_text_6 : decode cX0_text 6 = .ok (.if_icmp .ne 8, 3) := dk_160 0 8 (dk_at dksX0_text_0 6 rfl rfl)
theorem dX0_text_9 : decode cX0_text 9 = .ok (.bipush (-4), 2) := dk_16 252 (dk_at dksX0_text_0 9 rfl rfl)
theorem dX0_text_11 : decode cX0_text 11 = .ok (.goto 7, 3) := dk_167 0 7 (dk_at dksX0_text_0 11 rfl rfl)
theorem dX0_text_14 : decode cX0_text 14 = .ok (.aload_n 0, 1) := dk_42 (dk_at dksX0_text_0 14 rfl rfl)
theorem dX0_text_15 : decode cX0_text 15 = .ok (.invokevirtual 262, 3) := dk_182 1 6 (dk_at dksX0_text_0 15 rfl rfl)
theorem dX0_text_18 : decode cX0_text 18 = .ok (.ireturn, 1) := dk_172 (dk_at dksX0_text_0 18 rfl rfl)
abbrev cX0_newText : ByteArray := prog_1_method_36_code
def yX0_newText : MethodName := ⟨RX0, "newText", "()I"⟩
def dkwX0_newText_5 : List UInt8 := [100, 172]
abbrev dktX0_newText_5 : List UInt8 := dkwX0_newText_5 ++ []
def dkwX0_newText_4 : List UInt8 := [180, 0, 255, 42, 180, 1, 3, 43, 83, 42, 89, 180, 1, 3, 4, 96, 181, 1, 3, 42, 180, 1, 3, 4]
abbrev dktX0_newText_4 : List UInt8 := dkwX0_newText_4 ++ dktX0_newText_5
def dkwX0_newText_3 : List UInt8 := [180, 0, 144, 153, 0, 8, 42, 180, 0, 169, 191, 167, 0, 12, 77, 16, 156, 42, 180, 0, 141, 100, 172, 42]
abbrev dktX0_newText_3 : List UInt8 := dkwX0_newText_3 ++ dktX0_newText_4
def dkwX0_newText_2 : List UInt8 := [43, 28, 42, 182, 0, 245, 83, 42, 42, 16, 59, 182, 0, 226, 182, 0, 196, 132, 2, 1, 167, 255, 222, 42]
abbrev dktX0_newText_2 : List UInt8 := dkwX0_newText_2 ++ dktX0_newText_3
def dkwX0_newText_1 : List UInt8 := [189, 0, 251, 76, 42, 182, 0, 190, 3, 61, 28, 6, 162, 0, 35, 42, 42, 28, 182, 0, 204, 182, 0, 196]
abbrev dktX0_newText_1 : List UInt8 := dkwX0_newText_1 ++ dktX0_newText_2
def dkwX0_newText_0 : List UInt8 := [42, 42, 180, 0, 248, 181, 0, 120, 42, 3, 181, 0, 248, 42, 3, 181, 0, 135, 42, 3, 181, 0, 193, 6]
abbrev dktX0_newText_0 : List UInt8 := dkwX0_newText_0 ++ dktX0_newText_1
theorem dksX0_newText_0 : cX0_newText.data.toList.drop 0 = dktX0_newText_0 := by decide +kernel
theorem dksX0_newText_1 : cX0_newText.data.toList.drop 24 = dktX0_newText_1 := dk_seg dksX0_newText_0 24 rfl rfl
theorem dksX0_newText_2 : cX0_newText.data.toList.drop 48 = dktX0_newText_2 := dk_seg dksX0_newText_1 24 rfl rfl
theorem dksX0_newText_3 : cX0_newText.data.toList.drop 72 = dktX0_newText_3 := dk_seg dksX0_newText_2 24 rfl rfl
theorem dksX0_newText_4 : cX0_newText.data.toList.drop 96 = dktX0_newText_4 := dk_seg dksX0_newText_3 24 rfl rfl
theorem dksX0_newText_5 : cX0_newText.data.toList.drop 120 = dktX0_newText_5 := dk_seg dksX0_newText_4 24 rfl rfl
theorem dX0_newText_0 : decode cX0_newText 0 = .ok (.aload_n 0, 1) := dk_42 (dk_at dksX0_newText_0 0 rfl rfl)
theorem dX0_newText_1 : decode cX0_newText 1 = .ok (.aload_n 0, 1) := dk_42 (dk_at dksX0_newText_0 1 rfl rfl)
theorem dX0_newText_2 : decode cX0_newText 2 = .ok (.getfield 248, 3) := dk_180 0 248 (dk_at dksX0_newText_0 2 rfl rfl)
theorem dX0_newText_5 : decode cX0_newText 5 = .ok (.putfield 120, 3) := dk_181 0 120 (dk_at dksX0_newText_0 5 rfl rfl)
theorem dX0_newText_8 : decode cX0_newText 8 = .ok (.aload_n 0, 1) := dk_42 (dk_at dksX0_newText_0 8 rfl rfl)
theorem dX0_newText_9 : decode cX0_newText 9 = .ok (.iconst 0, 1) := dk_3 (dk_at dksX0_newText_0 9 rfl rfl)
theorem dX0_newText_10 : decode cX0_newText 10 = .ok (.putfield 248, 3) := dk_181 0 248 (dk_at dksX0_newText_0 10 rfl rfl)
theorem dX0_newText_13 : decode cX0_newText 13 = .ok (.aload_n 0, 1) := dk_42 (dk_at dksX0_newText_0 13 rfl rfl)
theorem dX0_newText_14 : decode cX0_newText 14 = .ok (.iconst 0, 1) := dk_3 (dk_at dksX0_newText_0 14 rfl rfl)
theorem dX0_newText_15 : decode cX0_newText 15 = .ok (.putfield 135, 3) := dk_181 0 135 (dk_at dksX0_newText_0 15 rfl rfl)
theorem dX0_newText_18 : decode cX0_newText 18 = .ok (.aload_n 0, 1) := dk_42 (dk_at dksX0_newText_0 18 rfl rfl)
theorem dX0_newText_19 : decode cX0_newText 19 = .ok (.iconst 0, 1) := dk_3 (dk_at dksX0_newText_0 19 rfl rfl)
theorem dX0_newText_20 : decode cX0_newText 20 = .ok (.putfield 193, 3) := dk_181 0 193 (dk_at dksX0_newText_0 20 rfl rfl)
theorem dX0_newText_23 : decode cX0_newText 23 = .ok (.iconst 3, 1) := dk_6 (dk_at dksX0_newText_0 23 rfl rfl)
theorem dX0_newText_24 : decode cX0_newText 24 = .ok (.anewarray 251, 3) := dk_189 0 251 (dk_at dksX0_newText_1 0 rfl rfl)
theorem dX0_newText_27 : decode cX0_newText 27 = .ok (.astore_n 1, 1) := dk_76 (dk_at dksX0_newText_1 3 rfl rfl)
theorem dX0_newText_28 : decode cX0_newText 28 = .ok (.aload_n 0, 1) := dk_42 (dk_at dksX0_newText_1 4 rfl rfl)
theorem dX0_newText_29 : decode cX0_newText 29 = .ok (.invokevirtual 190, 3) := dk_182 0 190 (dk_at dksX0_newText_1 5 rfl rfl)
theorem dX0_newText_32 : decode cX0_newText 32 = .ok (.iconst 0, 1) := dk_3 (dk_at dksX0_newText_1 8 rfl rfl)
theorem dX0_newText_33 : decode cX0_newText 33 = .ok (.istore_n 2, 1) := dk_61 (dk_at dksX0_newText_1 9 rfl rfl)
theorem dX0_newText_34 : decode cX0_newText 34 = .ok (.iload_n 2, 1) := dk_28 (dk_at dksX0_newText_1 10 rfl rfl)
theorem dX0_newText_35 : decode cX0_newText 35 = .ok (.iconst 3, 1) := dk_6 (dk_at dksX0_newText_1 11 rfl rfl)
theorem dX0_newText_36 : decode cX0_newText 36 = .ok (.if_icmp .ge 35, 3) := dk_162 0 35 (dk_at dksX0_newText_1 12 rfl rfl)
theorem dX0_newText_39 : decode cX0_newText 39 = .ok (.aload_n 0, 1) := dk_42 (dk_at dksX0_newText_1 15 rfl rfl)
theorem dX0_newText_40 : decode cX0_newText 40 = .ok (.aload_n 0, 1) := dk_42 (dk_at dksX0_newText_1 16 rfl rfl)
theorem dX0_newText_41 : decode cX0_newText 41 = .ok (.iload_n 2, 1) := dk_28 (dk_at dksX0_newText_1 17 rfl rfl)
theorem dX0_newText_42 : decode cX0_newText 42 = .ok (.invokevirtual 204, 3) := dk_182 0 204 (dk_at dksX0_newText_1 18 rfl rfl)
theorem dX0_newText_45 : decode cX0_newText 45 = .ok (.invokevirtual 196, 3) := dk_182 0 196 (dk_at dksX0_newText_1 21 rfl rfl)
theorem dX0_newText_48 : decode cX0_newText 48 = .ok (.aload_n 1, 1) := dk_43 (dk_at dksX0_newText_2 0 rfl rfl)
theorem dX0_newText_49 : decode cX0_newText 49 = .ok (.iload_n 2, 1) := dk_28 (dk_at dksX0_newText_2 1 rfl rfl)
theorem dX0_newText_50 : decode cX0_newText 50 = .ok (.aload_n 0, 1) := dk_42 (dk_at dksX0_newText_2 2 rfl rfl)
theorem dX0_newText_51 : decode cX0_newText 51 = .ok (.invokevirtual 245, 3) := dk_182 0 245 (dk_at dksX0_newText_2 3 rfl rfl)
theorem dX0_newText_54 : decode cX0_newText 54 = .ok (.aastore, 1) := dk_83 (dk_at dksX0_newText_2 6 rfl rfl)
theorem dX0_newText_55 : decode cX0_newText 55 = .ok (.aload_n 0, 1) := dk_42 (dk_at dksX0_newText_2 7 rfl rfl)
theorem dX0_newText_56 : decode cX0_newText 56 = .ok (.aload_n 0, 1) := dk_42 (dk_at dksX0_newText_2 8 rfl rfl)
theorem dX0_newText_57 : decode cX0_newText 57 = .ok (.bipush 59, 2) := dk_16 59 (dk_at dksX0_newText_2 9 rfl rfl)
theorem dX0_newText_59 : decode cX0_newText 59 = .ok (.invokevirtual 226, 3) := dk_182 0 226 (dk_at dksX0_newText_2 11 rfl rfl)
theorem dX0_newText_62 : decode cX0_newText 62 = .ok (.invokevirtual 196, 3) := dk_182 0 196 (dk_at dksX0_newText_2 14 rfl rfl)
theorem dX0_newText_65 : decode cX0_newText 65 = .ok (.iinc 2 1, 3) := dk_132 2 1 (dk_at dksX0_newText_2 17 rfl rfl)
theorem dX0_newText_68 : decode cX0_newText 68 = .ok (.goto (-34), 3) := dk_167 255 222 (dk_at dksX0_newText_2 20 rfl rfl)
theorem dX0_newText_71 : decode cX0_newText 71 = .ok (.aload_n 0, 1) := dk_42 (dk_at dksX0_newText_2 23 rfl rfl)
theorem dX0_newText_72 : decode cX0_newText 72 = .ok (.getfield 144, 3) := dk_180 0 144 (dk_at dksX0_newText_3 0 rfl rfl)
theorem dX0_newText_75 : decode cX0_newText 75 = .ok (.ifCond .eq 8, 3) := dk_153 0 8 (dk_at dksX0_newText_3 3 rfl rfl)
theorem dX0_newText_78 : decode cX0_newText 78 = .ok (.aload_n 0, 1) := dk_42 (dk_at dksX0_newText_3 6 rfl rfl)
theorem dX0_newText_79 : decode cX0_newText 79 = .ok (.getfield 169, 3) := dk_180 0 169 (dk_at dksX0_newText_3 7 rfl rfl)
theorem dX0_newText_82 : decode cX0_newText 82 = .ok (.athrow, 1) := dk_191 (dk_at dksX0_newText_3 10 rfl rfl)
theorem dX0_newText_83 : decode cX0_newText 83 = .ok (.goto 12, 3) := dk_167 0 12 (dk_at dksX0_newText_3 11 rfl rfl)
theorem dX0_newText_86 : decode cX0_newText 86 = .ok (.astore_n 2, 1) := dk_77 (dk_at dksX0_newText_3 14 rfl rfl)
theorem dX0_newText_87 : decode cX0_newText 87 = .ok (.bipush (-100), 2) := dk_16 156 (dk_at dksX0_newText_3 15 rfl rfl)
theorem dX0_newText_89 : decode cX0_newText 89 = .ok (.aload_n 0, 1) := dk_42 (dk_at dksX0_newText_3 17 rfl rfl)
theorem dX0_newText_90 : decode cX0_newText 90 = .ok (.getfield 141, 3) := dk_180 0 141 (dk_at dksX0_newText_3 18 rfl rfl)
theorem dX0_newText_93 : decode cX0_newText 93 = .ok (.isub, 1) := dk_100 (dk_at dksX0_newText_3 21 rfl rfl)
theorem dX0_newText_94 : decode cX0_newText 94 = .ok (.ireturn, 1) := dk_172 (dk_at dksX0_newText_3 22 rfl rfl)
theorem dX0_newText_95 : decode cX0_newText 95 = .ok (.aload_n 0, 1) := dk_42 (dk_at dksX0_newText_3 23 rfl rfl)
theorem dX0_newText_96 : decode cX0_newText 96 = .ok (.getfield 255, 3) := dk_180 0 255 (dk_at dksX0_newText_4 0 rfl rfl)
theorem dX0_newText_99 : decode cX0_newText 99 = .ok (.aload_n 0, 1) := dk_42 (dk_at dksX0_newText_4 3 rfl rfl)
theorem dX0_newText_100 : decode cX0_newText 100 = .ok (.getfield 259, 3) := dk_180 1 3 (dk_at dksX0_newText_4 4 rfl rfl)
theorem dX0_newText_103 : decode cX0_newText 103 = .ok (.aload_n 1, 1) := dk_43 (dk_at dksX0_newText_4 7 rfl rfl)
theorem dX0_newText_104 : decode cX0_newText 104 = .ok (.aastore, 1) := dk_83 (dk_at dksX0_newText_4 8 rfl rfl)
theorem dX0_newText_105 : decode cX0_newText 105 = .ok (.aload_n 0, 1) := dk_42 (dk_at dksX0_newText_4 9 rfl rfl)
theorem dX0_newText_106 : decode cX0_newText 106 = .ok (.dup, 1) := dk_89 (dk_at dksX0_newText_4 10 rfl rfl)
theorem dX0_newText_107 : decode cX0_newText 107 = .ok (.getfield 259, 3) := dk_180 1 3 (dk_at dksX0_newText_4 11 rfl rfl)
theorem dX0_newText_110 : decode cX0_newText 110 = .ok (.iconst 1, 1) := dk_4 (dk_at dksX0_newText_4 14 rfl rfl)
theorem dX0_newText_111 : decode cX0_newText 111 = .ok (.iadd, 1) := dk_96 (dk_at dksX0_newText_4 15 rfl rfl)
theorem dX0_newText_112 : decode cX0_newText 112 = .ok (.putfield 259, 3) := dk_181 1 3 (dk_at dksX0_newText_4 16 rfl rfl)
theorem dX0_newText_115 : decode cX0_newText 115 = .ok (.aload_n 0, 1) := dk_42 (dk_at dksX0_newText_4 19 rfl rfl)
theorem dX0_newText_116 : decode cX0_newText 116 = .ok (.getfield 259, 3) := dk_180 1 3 (dk_at dksX0_newText_4 20 rfl rfl)
theorem dX0_newText_119 : decode cX0_newText 119 = .ok (.iconst 1, 1) := dk_4 (dk_at dksX0_newText_4 23 rfl rfl)
theorem dX0_newText_120 : decode cX0_newText 120 = .ok (.isub, 1) := dk_100 (dk_at dksX0_newText_5 0 rfl rfl)
theorem dX0_newText_121 : decode cX0_newText 121 = .ok (.ireturn, 1) := dk_172 (dk_at dksX0_newText_5 1 rfl rfl)
abbrev cX0_next : ByteArray := prog_1_method_22_code
def yX0_next : MethodName := ⟨RX0, "next", "()V"⟩
def dkwX0_next_5 : List UInt8 := [18, 162, 27, 182, 0, 164, 156, 0, 8, 42, 180, 0, 169, 191, 177]
abbrev dktX0_next_5 : List UInt8 := dkwX0_next_5 ++ []
def dkwX0_next_4 : List UInt8 := [167, 0, 37, 42, 7, 181, 0, 144, 42, 27, 181, 0, 159, 42, 89, 180, 0, 135, 4, 96, 181, 0, 135]
abbrev dktX0_next_4 : List UInt8 := dkwX0_next_4 ++ dktX0_next_5
def dkwX0_next_3 : List UInt8 := [184, 0, 147, 153, 0, 10, 42, 182, 0, 150, 167, 0, 51, 27, 184, 0, 153, 153, 0, 10, 42, 182, 0, 156]
abbrev dktX0_next_3 : List UInt8 := dkwX0_next_3 ++ dktX0_next_4
def dkwX0_next_2 : List UInt8 := [42, 42, 180, 0, 135, 182, 0, 138, 60, 27, 2, 160, 0, 11, 42, 3, 181, 0, 144, 167, 0, 65, 27]
abbrev dktX0_next_2 : List UInt8 := dkwX0_next_2 ++ dktX0_next_3
def dkwX0_next_1 : List UInt8 := [160, 0, 16, 42, 89, 180, 0, 135, 4, 96, 181, 0, 135, 167, 255, 220, 42, 42, 180, 0, 135, 181, 0, 141]
abbrev dktX0_next_1 : List UInt8 := dkwX0_next_1 ++ dktX0_next_2
def dkwX0_next_0 : List UInt8 := [42, 42, 180, 0, 135, 182, 0, 138, 16, 32, 159, 0, 16, 42, 42, 180, 0, 135, 182, 0, 138, 16, 10]
abbrev dktX0_next_0 : List UInt8 := dkwX0_next_0 ++ dktX0_next_1
theorem dksX0_next_0 : cX0_next.data.toList.drop 0 = dktX0_next_0 := by decide +kernel
theorem dksX0_next_1 : cX0_next.data.toList.drop 23 = dktX0_next_1 := dk_seg dksX0_next_0 23 rfl rfl
theorem dksX0_next_2 : cX0_next.data.toList.drop 47 = dktX0_next_2 := dk_seg dksX0_next_1 24 rfl rfl
theorem dksX0_next_3 : cX0_next.data.toList.drop 70 = dktX0_next_3 := dk_seg dksX0_next_2 23 rfl rfl
theorem dksX0_next_4 : cX0_next.data.toList.drop 94 = dktX0_next_4 := dk_seg dksX0_next_3 24 rfl rfl
theorem dksX0_next_5 : cX0_next.data.toList.drop 117 = dktX0_next_5 := dk_seg dksX0_next_4 23 rfl rfl
theorem dX0_next_0 : decode cX0_next 0 = .ok (.aload_n 0, 1) := dk_42 (dk_at dksX0_next_0 0 rfl rfl)
theorem dX0_next_1 : decode cX0_next 1 = .ok (.aload_n 0, 1) := dk_42 (dk_at dksX0_next_0 1 rfl rfl)
theorem dX0_next_2 : decode cX0_next 2 = .ok (.getfield 135, 3) := dk_180 0 135 (dk_at dksX0_next_0 2 rfl rfl)
theorem dX0_next_5 : decode cX0_next 5 = .ok (.invokevirtual 138, 3) := dk_182 0 138 (dk_at dksX0_next_0 5 rfl rfl)
theorem dX0_next_8 : decode cX0_next 8 = .ok (.bipush 32, 2) := dk_16 32 (dk_at dksX0_next_0 8 rfl rfl)
theorem dX0_next_10 : decode cX0_next 10 = .ok (.if_icmp .eq 16, 3) := dk_159 0 16 (dk_at dksX0_next_0 10 rfl rfl)
theorem dX0_next_13 : decode cX0_next 13 = .ok (.aload_n 0, 1) := dk_42 (dk_at dksX0_next_0 13 rfl rfl)
theorem dX0_next_14 : decode cX0_next 14 = .ok (.aload_n 0, 1) := dk_42 (dk_at dksX0_next_0 14 rfl rfl)
theorem dX0_next_15 : decode cX0_next 15 = .ok (.getfield 135, 3) := dk_180 0 135 (dk_at dksX0_next_0 15 rfl rfl)
theorem dX0_next_18 : decode cX0_next 18 = .ok (.invokevirtual 138, 3) := dk_182 0 138 (dk_at dksX0_next_0 18 rfl rfl)
theorem dX0_next_21 : decode cX0_next 21 = .ok (.bipush 10, 2) := dk_16 10 (dk_at dksX0_next_0 21 rfl rfl)
theorem dX0_next_23 : decode cX0_next 23 = .ok (.if_icmp .ne 16, 3) := dk_160 0 16 (dk_at dksX0_next_1 0 rfl rfl)
theorem dX0_next_26 : decode cX0_next 26 = .ok (.aload_n 0, 1) := dk_42 (dk_at dksX0_next_1 3 rfl rfl)
theorem dX0_next_27 : decode cX0_next 27 = .ok (.dup, 1) := dk_89 (dk_at dksX0_next_1 4 rfl rfl)
theorem dX0_next_28 : decode cX0_next 28 = .ok (.getfield 135, 3) := dk_180 0 135 (dk_at dksX0_next_1 5 rfl rfl)
theorem dX0_next_31 : decode cX0_next 31 = .ok (.iconst 1, 1) := dk_4 (dk_at dksX0_next_1 8 rfl rfl)
theorem dX0_next_32 : decode cX0_next 32 = .ok (.iadd, 1) := dk_96 (dk_at dksX0_next_1 9 rfl rfl)
theorem dX0_next_33 : decode cX0_next 33 = .ok (.putfield 135, 3) := dk_181 0 135 (dk_at dksX0_next_1 10 rfl rfl)
theorem dX0_next_36 : decode cX0_next 36 = .ok (.goto (-36), 3) := dk_167 255 220 (dk_at dksX0_next_1 13 rfl rfl)
theorem dX0_next_39 : decode cX0_next 39 = .ok (.aload_n 0, 1) := dk_42 (dk_at dksX0_next_1 16 rfl rfl)
theorem dX0_next_40 : decode cX0_next 40 = .ok (.aload_n 0, 1) := dk_42 (dk_at dksX0_next_1 17 rfl rfl)
theorem dX0_next_41 : decode cX0_next 41 = .ok (.getfield 135, 3) := dk_180 0 135 (dk_at dksX0_next_1 18 rfl rfl)
theorem dX0_next_44 : decode cX0_next 44 = .ok (.putfield 141, 3) := dk_181 0 141 (dk_at dksX0_next_1 21 rfl rfl)
theorem dX0_next_47 : decode cX0_next 47 = .ok (.aload_n 0, 1) := dk_42 (dk_at dksX0_next_2 0 rfl rfl)
theorem dX0_next_48 : decode cX0_next 48 = .ok (.aload_n 0, 1) := dk_42 (dk_at dksX0_next_2 1 rfl rfl)
theorem dX0_next_49 : decode cX0_next 49 = .ok (.getfield 135, 3) := dk_180 0 135 (dk_at dksX0_next_2 2 rfl rfl)
theorem dX0_next_52 : decode cX0_next 52 = .ok (.invokevirtual 138, 3) := dk_182 0 138 (dk_at dksX0_next_2 5 rfl rfl)
theorem dX0_next_55 : decode cX0_next 55 = .ok (.istore_n 1, 1) := dk_60 (dk_at dksX0_next_2 8 rfl rfl)
theorem dX0_next_56 : decode cX0_next 56 = .ok (.iload_n 1, 1) := dk_27 (dk_at dksX0_next_2 9 rfl rfl)
theorem dX0_next_57 : decode cX0_next 57 = .ok (.iconst (-1), 1) := dk_2 (dk_at dksX0_next_2 10 rfl rfl)
theorem dX0_next_58 : decode cX0_next 58 = .ok (.if_icmp .ne 11, 3) := dk_160 0 11 (dk_at dksX0_next_2 11 rfl rfl)
theorem dX0_next_61 : decode cX0_next 61 = .ok (.aload_n 0, 1) := dk_42 (dk_at dksX0_next_2 14 rfl rfl)
theorem dX0_next_62 : decode cX0_next 62 = .ok (.iconst 0, 1) := dk_3 (dk_at dksX0_next_2 15 rfl rfl)
theorem dX0_next_63 : decode cX0_next 63 = .ok (.putfield 144, 3) := dk_181 0 144 (dk_at dksX0_next_2 16 rfl rfl)
theorem dX0_next_66 : decode cX0_next 66 = .ok (.goto 65, 3) := dk_167 0 65 (dk_at dksX0_next_2 19 rfl rfl)
theorem dX0_next_69 : decode cX0_next 69 = .ok (.iload_n 1, 1) := dk_27 (dk_at dksX0_next_2 22 rfl rfl)
theorem dX0_next_70 : decode cX0_next 70 = .ok (.invokestatic 147, 3) := dk_184 0 147 (dk_at dksX0_next_3 0 rfl rfl)
theorem dX0_next_73 : decode cX0_next 73 = .ok (.ifCond .eq 10, 3) := dk_153 0 10 (dk_at dksX0_next_3 3 rfl rfl)
theorem dX0_next_76 : decode cX0_next 76 = .ok (.aload_n 0, 1) := dk_42 (dk_at dksX0_next_3 6 rfl rfl)
theorem dX0_next_77 : decode cX0_next 77 = .ok (.invokevirtual 150, 3) := dk_182 0 150 (dk_at dksX0_next_3 7 rfl rfl)
theorem dX0_next_80 : decode cX0_next 80 = .ok (.goto 51, 3) := dk_167 0 51 (dk_at dksX0_next_3 10 rfl rfl)
theorem dX0_next_83 : decode cX0_next 83 = .ok (.iload_n 1, 1) := dk_27 (dk_at dksX0_next_3 13 rfl rfl)
theorem dX0_next_84 : decode cX0_next 84 = .ok (.invokestatic 153, 3) := dk_184 0 153 (dk_at dksX0_next_3 14 rfl rfl)
theorem dX0_next_87 : decode cX0_next 87 = .ok (.ifCond .eq 10, 3) := dk_153 0 10 (dk_at dksX0_next_3 17 rfl rfl)
theorem dX0_next_90 : decode cX0_next 90 = .ok (.aload_n 0, 1) := dk_42 (dk_at dksX0_next_3 20 rfl rfl)
theorem dX0_next_91 : decode cX0_next 91 = .ok (.invokevirtual 156, 3) := dk_182 0 156 (dk_at dksX0_next_3 21 rfl rfl)
theorem dX0_next_94 : decode cX0_next 94 = .ok (.goto 37, 3) := dk_167 0 37 (dk_at dksX0_next_4 0 rfl rfl)
theorem dX0_next_97 : decode cX0_next 97 = .ok (.aload_n 0, 1) := dk_42 (dk_at dksX0_next_4 3 rfl rfl)
theorem dX0_next_98 : decode cX0_next 98 = .ok (.iconst 4, 1) := dk_7 (dk_at dksX0_next_4 4 rfl rfl)
theorem dX0_next_99 : decode cX0_next 99 = .ok (.putfield 144, 3) := dk_181 0 144 (dk_at dksX0_next_4 5 rfl rfl)
theorem dX0_next_102 : decode cX0_next 102 = .ok (.aload_n 0, 1) := dk_42 (dk_at dksX0_next_4 8 rfl rfl)
theorem dX0_next_103 : decode cX0_next 103 = .ok (.iload_n 1, 1) := dk_27 (dk_at dksX0_next_4 9 rfl rfl)
theorem dX0_next_104 : decode cX0_next 104 = .ok (.putfield 159, 3) := dk_181 0 159 (dk_at dksX0_next_4 10 rfl rfl)
theorem dX0_next_107 : decode cX0_next 107 = .ok (.aload_n 0, 1) := dk_42 (dk_at dksX0_next_4 13 rfl rfl)
theorem dX0_next_108 : decode cX0_next 108 = .ok (.dup, 1) := dk_89 (dk_at dksX0_next_4 14 rfl rfl)
theorem dX0_next_109 : decode cX0_next 109 = .ok (.getfield 135, 3) := dk_180 0 135 (dk_at dksX0_next_4 15 rfl rfl)
theorem dX0_next_112 : decode cX0_next 112 = .ok (.iconst 1, 1) := dk_4 (dk_at dksX0_next_4 18 rfl rfl)
theorem dX0_next_113 : decode cX0_next 113 = .ok (.iadd, 1) := dk_96 (dk_at dksX0_next_4 19 rfl rfl)
theorem dX0_next_114 : decode cX0_next 114 = .ok (.putfield 135, 3) := dk_181 0 135 (dk_at dksX0_next_4 20 rfl rfl)
theorem dX0_next_117 : decode cX0_next 117 = .ok (.ldc 162, 2) := dk_18 162 (dk_at dksX0_next_5 0 rfl rfl)
theorem dX0_next_119 : decode cX0_next 119 = .ok (.iload_n 1, 1) := dk_27 (dk_at dksX0_next_5 2 rfl rfl)
theorem dX0_next_120 : decode cX0_next 120 = .ok (.invokevirtual 164, 3) := dk_182 0 164 (dk_at dksX0_next_5 3 rfl rfl)
theorem dX0_next_123 : decode cX0_next 123 = .ok (.ifCond .ge 8, 3) := dk_156 0 8 (dk_at dksX0_next_5 6 rfl rfl)
theorem dX0_next_126 : decode cX0_next 126 = .ok (.aload_n 0, 1) := dk_42 (dk_at dksX0_next_5 9 rfl rfl)
theorem dX0_next_127 : decode cX0_next 127 = .ok (.getfield 169, 3) := dk_180 0 169 (dk_at dksX0_next_5 10 rfl rfl)
theorem dX0_next_130 : decode cX0_next 130 = .ok (.athrow, 1) := dk_191 (dk_at dksX0_next_5 13 rfl rfl)
theorem dX0_next_131 : decode cX0_next 131 = .ok (.return_, 1) := dk_177 (dk_at dksX0_next_5 14 rfl rfl)
abbrev cX0_byteAt : ByteArray := prog_1_method_19_code
def yX0_byteAt : MethodName := ⟨RX0, "byteAt", "(I)I"⟩
def dkwX0_byteAt_0 : List UInt8 := [27, 42, 180, 0, 120, 162, 0, 16, 42, 180, 0, 123, 27, 51, 17, 0, 255, 126, 167, 0, 4, 2, 172]
abbrev dktX0_byteAt_0 : List UInt8 := dkwX0_byteAt_0 ++ []
theorem dksX0_byteAt_0 : cX0_byteAt.data.toList.drop 0 = dktX0_byteAt_0 := by decide +kernel
theorem dX0_byteAt_0 : decode cX0_byteAt 0 = .ok (.iload_n 1, 1) := dk_27 (dk_at dksX0_byteAt_0 0 rfl rfl)
theorem dX0_byteAt_1 : decode cX0_byteAt 1 = .ok (.aload_n 0, 1) := dk_42 (dk_at dksX0_byteAt_0 1 rfl rfl)
theorem dX0_byteAt_2 : decode cX0_byteAt 2 = .ok (.getfield 120, 3) := dk_180 0 120 (dk_at dksX0_byteAt_0 2 rfl rfl)
theorem dX0_byteAt_5 : decode cX0_byteAt 5 = .ok (.if_icmp .ge 16, 3) := dk_162 0 16 (dk_at dksX0_byteAt_0 5 rfl rfl)
theorem dX0_byteAt_8 : decode cX0_byteAt 8 = .ok (.aload_n 0, 1) := dk_42 (dk_at dksX0_byteAt_0 8 rfl rfl)
theorem dX0_byteAt_9 : decode cX0_byteAt 9 = .ok (.getfield 123, 3) := dk_180 0 123 (dk_at dksX0_byteAt_0 9 rfl rfl)
theorem dX0_byteAt_12 : decode cX0_byteAt 12 = .ok (.iload_n 1, 1) := dk_27 (dk_at dksX0_byteAt_0 12 rfl rfl)
theorem dX0_byteAt_13 : decode cX0_byteAt 13 = .ok (.baload, 1) := dk_51 (dk_at dksX0_byteAt_0 13 rfl rfl)
theorem dX0_byteAt_14 : decode cX0_byteAt 14 = .ok (.sipush 255, 3) := dk_17 0 255 (dk_at dksX0_byteAt_0 14 rfl rfl)
theorem dX0_byteAt_17 : decode cX0_byteAt 17 = .ok (.iand, 1) := dk_126 (dk_at dksX0_byteAt_0 17 rfl rfl)
theorem dX0_byteAt_18 : decode cX0_byteAt 18 = .ok (.goto 4, 3) := dk_167 0 4 (dk_at dksX0_byteAt_0 18 rfl rfl)
theorem dX0_byteAt_21 : decode cX0_byteAt 21 = .ok (.iconst (-1), 1) := dk_2 (dk_at dksX0_byteAt_0 21 rfl rfl)
theorem dX0_byteAt_22 : decode cX0_byteAt 22 = .ok (.ireturn, 1) := dk_172 (dk_at dksX0_byteAt_0 22 rfl rfl)
abbrev cX0_isLetter : ByteArray := prog_1_method_20_code
def yX0_isLetter : MethodName := ⟨RX0, "isLetter", "(I)Z"⟩
def dkwX0_isLetter_0 : List UInt8 := [26, 133, 20, 0, 127, 20, 0, 129, 184, 0, 14, 172]
abbrev dktX0_isLetter_0 : List UInt8 := dkwX0_isLetter_0 ++ []
theorem dksX0_isLetter_0 : cX0_isLetter.data.toList.drop 0 = dktX0_isLetter_0 := by decide +kernel
theorem dX0_isLetter_0 : decode cX0_isLetter 0 = .ok (.iload_n 0, 1) := dk_26 (dk_at dksX0_isLetter_0 0 rfl rfl)
theorem dX0_isLetter_1 : decode cX0_isLetter 1 = .ok (.i2l, 1) := dk_133 (dk_at dksX0_isLetter_0 1 rfl rfl)
theorem dX0_isLetter_2 : decode cX0_isLetter 2 = .ok (.ldc2_w 127, 3) := dk_20 0 127 (dk_at dksX0_isLetter_0 2 rfl rfl)
theorem dX0_isLetter_5 : decode cX0_isLetter 5 = .ok (.ldc2_w 129, 3) := dk_20 0 129 (dk_at dksX0_isLetter_0 5 rfl rfl)
theorem dX0_isLetter_8 : decode cX0_isLetter 8 = .ok (.invokestatic 14, 3) := dk_184 0 14 (dk_at dksX0_isLetter_0 8 rfl rfl)
theorem dX0_isLetter_11 : decode cX0_isLetter 11 = .ok (.ireturn, 1) := dk_172 (dk_at dksX0_isLetter_0 11 rfl rfl)
abbrev cX0_word : ByteArray := prog_1_method_24_code
def yX0_word : MethodName := ⟨RX0, "word", "()V"⟩
def dkwX0_word_3 : List UInt8 := [42, 180, 0, 159, 2, 160, 0, 8, 42, 180, 0, 169, 191, 177]
abbrev dktX0_word_3 : List UInt8 := dkwX0_word_3 ++ []
def dkwX0_word_2 : List UInt8 := [181, 0, 144, 42, 27, 2, 160, 0, 14, 42, 42, 180, 0, 187, 182, 0, 183, 167, 0, 4, 27, 181, 0, 159]
abbrev dktX0_word_2 : List UInt8 := dkwX0_word_2 ++ dktX0_word_3
def dkwX0_word_1 : List UInt8 := [167, 255, 232, 42, 42, 180, 0, 179, 182, 0, 183, 60, 42, 27, 2, 160, 0, 7, 5, 167, 0, 4, 4]
abbrev dktX0_word_1 : List UInt8 := dkwX0_word_1 ++ dktX0_word_2
def dkwX0_word_0 : List UInt8 := [42, 42, 180, 0, 135, 182, 0, 138, 184, 0, 147, 153, 0, 16, 42, 89, 180, 0, 135, 4, 96, 181, 0, 135]
abbrev dktX0_word_0 : List UInt8 := dkwX0_word_0 ++ dktX0_word_1
theorem dksX0_word_0 : cX0_word.data.toList.drop 0 = dktX0_word_0 := by decide +kernel
theorem dksX0_word_1 : cX0_word.data.toList.drop 24 = dktX0_word_1 := dk_seg dksX0_word_0 24 rfl rfl
theorem dksX0_word_2 : cX0_word.data.toList.drop 47 = dktX0_word_2 := dk_seg dksX0_word_1 23 rfl rfl
theorem dksX0_word_3 : cX0_word.data.toList.drop 71 = dktX0_word_3 := dk_seg dksX0_word_2 24 rfl rfl
theorem dX0_word_0 : decode cX0_word 0 = .ok (.aload_n 0, 1) := dk_42 (dk_at dksX0_word_0 0 rfl rfl)
theorem dX0_word_1 : decode cX0_word 1 = .ok (.aload_n 0, 1) := dk_42 (dk_at dksX0_word_0 1 rfl rfl)
theorem dX0_word_2 : decode cX0_word 2 = .ok (.getfield 135, 3) := dk_180 0 135 (dk_at dksX0_word_0 2 rfl rfl)
theorem dX0_word_5 : decode cX0_word 5 = .ok (.invokevirtual 138, 3) := dk_182 0 138 (dk_at dksX0_word_0 5 rfl rfl)
theorem dX0_word_8 : decode cX0_word 8 = .ok (.invokestatic 147, 3) := dk_184 0 147 (dk_at dksX0_word_0 8 rfl rfl)
theorem dX0_word_11 : decode cX0_word 11 = .ok (.ifCond .eq 16, 3) := dk_153 0 16 (dk_at dksX0_word_0 11 rfl rfl)
theorem dX0_word_14 : decode cX0_word 14 = .ok (.aload_n 0, 1) := dk_42 (dk_at dksX0_word_0 14 rfl rfl)
theorem dX0_word_15 : decode cX0_word 15 = .ok (.dup, 1) := dk_89 (dk_at dksX0_word_0 15 rfl rfl)
theorem dX0_word_16 : decode cX0_word 16 = .ok (.getfield 135, 3) := dk_180 0 135 (dk_at dksX0_word_0 16 rfl rfl)
theorem dX0_word_19 : decode cX0_word 19 = .ok (.iconst 1, 1) := dk_4 (dk_at dksX0_word_0 19 rfl rfl)
theorem dX0_word_20 : decode cX0_word 20 = .ok (.iadd, 1) := dk_96 (dk_at dksX0_word_0 20 rfl rfl)
theorem dX0_word_21 : decode cX0_word 21 = .ok (.putfield 135, 3) := dk_181 0 135 (dk_at dksX0_word_0 21 rfl rfl)
theorem dX0_word_24 : decode cX0_word 24 = .ok (.goto (-24), 3) := dk_167 255 232 (dk_at dksX0_word_1 0 rfl rfl)
theorem dX0_word_27 : decode cX0_word 27 = .ok (.aload_n 0, 1) := dk_42 (dk_at dksX0_word_1 3 rfl rfl)
theorem dX0_word_28 : decode cX0_word 28 = .ok (.aload_n 0, 1) := dk_42 (dk_at dksX0_word_1 4 rfl rfl)
theorem dX0_word_29 : decode cX0_word 29 = .ok (.getfield 179, 3) := dk_180 0 179 (dk_at dksX0_word_1 5 rfl rfl)
theorem dX0_word_32 : decode cX0_word 32 = .ok (.invokevirtual 183, 3) := dk_182 0 183 (dk_at dksX0_word_1 8 rfl rfl)
theorem dX0_word_35 : decode cX0_word 35 = .ok (.istore_n 1, 1) := dk_60 (dk_at dksX0_word_1 11 rfl rfl)
theorem dX0_word_36 : decode cX0_word 36 = .ok (.aload_n 0, 1) := dk_42 (dk_at dksX0_word_1 12 rfl rfl)
theorem dX0_word_37 : decode cX0_word 37 = .ok (.iload_n 1, 1) := dk_27 (dk_at dksX0_word_1 13 rfl rfl)
theorem dX0_word_38 : decode cX0_word 38 = .ok (.iconst (-1), 1) := dk_2 (dk_at dksX0_word_1 14 rfl rfl)
theorem dX0_word_39 : decode cX0_word 39 = .ok (.if_icmp .ne 7, 3) := dk_160 0 7 (dk_at dksX0_word_1 15 rfl rfl)
theorem dX0_word_42 : decode cX0_word 42 = .ok (.iconst 2, 1) := dk_5 (dk_at dksX0_word_1 18 rfl rfl)
theorem dX0_word_43 : decode cX0_word 43 = .ok (.goto 4, 3) := dk_167 0 4 (dk_at dksX0_word_1 19 rfl rfl)
theorem dX0_word_46 : decode cX0_word 46 = .ok (.iconst 1, 1) := dk_4 (dk_at dksX0_word_1 22 rfl rfl)
theorem dX0_word_47 : decode cX0_word 47 = .ok (.putfield 144, 3) := dk_181 0 144 (dk_at dksX0_word_2 0 rfl rfl)
theorem dX0_word_50 : decode cX0_word 50 = .ok (.aload_n 0, 1) := dk_42 (dk_at dksX0_word_2 3 rfl rfl)
theorem dX0_word_51 : decode cX0_word 51 = .ok (.iload_n 1, 1) := dk_27 (dk_at dksX0_word_2 4 rfl rfl)
theorem dX0_word_52 : decode cX0_word 52 = .ok (.iconst (-1), 1) := dk_2 (dk_at dksX0_word_2 5 rfl rfl)
theorem dX0_word_53 : decode cX0_word 53 = .ok (.if_icmp .ne 14, 3) := dk_160 0 14 (dk_at dksX0_word_2 6 rfl rfl)
theorem dX0_word_56 : decode cX0_word 56 = .ok (.aload_n 0, 1) := dk_42 (dk_at dksX0_word_2 9 rfl rfl)
theorem dX0_word_57 : decode cX0_word 57 = .ok (.aload_n 0, 1) := dk_42 (dk_at dksX0_word_2 10 rfl rfl)
theorem dX0_word_58 : decode cX0_word 58 = .ok (.getfield 187, 3) := dk_180 0 187 (dk_at dksX0_word_2 11 rfl rfl)
theorem dX0_word_61 : decode cX0_word 61 = .ok (.invokevirtual 183, 3) := dk_182 0 183 (dk_at dksX0_word_2 14 rfl rfl)
theorem dX0_word_64 : decode cX0_word 64 = .ok (.goto 4, 3) := dk_167 0 4 (dk_at dksX0_word_2 17 rfl rfl)
theorem dX0_word_67 : decode cX0_word 67 = .ok (.iload_n 1, 1) := dk_27 (dk_at dksX0_word_2 20 rfl rfl)
theorem dX0_word_68 : decode cX0_word 68 = .ok (.putfield 159, 3) := dk_181 0 159 (dk_at dksX0_word_2 21 rfl rfl)
theorem dX0_word_71 : decode cX0_word 71 = .ok (.aload_n 0, 1) := dk_42 (dk_at dksX0_word_3 0 rfl rfl)
theorem dX0_word_72 : decode cX0_word 72 = .ok (.getfield 159, 3) := dk_180 0 159 (dk_at dksX0_word_3 1 rfl rfl)
theorem dX0_word_75 : decode cX0_word 75 = .ok (.iconst (-1), 1) := dk_2 (dk_at dksX0_word_3 4 rfl rfl)
theorem dX0_word_76 : decode cX0_word 76 = .ok (.if_icmp .ne 8, 3) := dk_160 0 8 (dk_at dksX0_word_3 5 rfl rfl)
theorem dX0_word_79 : decode cX0_word 79 = .ok (.aload_n 0, 1) := dk_42 (dk_at dksX0_word_3 8 rfl rfl)
theorem dX0_word_80 : decode cX0_word 80 = .ok (.getfield 169, 3) := dk_180 0 169 (dk_at dksX0_word_3 9 rfl rfl)
theorem dX0_word_83 : decode cX0_word 83 = .ok (.athrow, 1) := dk_191 (dk_at dksX0_word_3 12 rfl rfl)
theorem dX0_word_84 : decode cX0_word 84 = .ok (.return_, 1) := dk_177 (dk_at dksX0_word_3 13 rfl rfl)
abbrev cX0_placeIn : ByteArray := prog_1_method_23_code
def yX0_placeIn : MethodName := ⟨RX0, "placeIn", "([Ljava/lang/String;)I"⟩
def dkwX0_placeIn_4 : List UInt8 := [132, 2, 1, 167, 255, 162, 2, 172]
abbrev dktX0_placeIn_4 : List UInt8 := dkwX0_placeIn_4 ++ []
def dkwX0_placeIn_3 : List UInt8 := [182, 0, 138, 160, 0, 7, 4, 167, 0, 4, 3, 62, 132, 4, 1, 167, 255, 207, 29, 153, 0, 5, 28, 172]
abbrev dktX0_placeIn_3 : List UInt8 := dkwX0_placeIn_3 ++ dktX0_placeIn_4
def dkwX0_placeIn_2 : List UInt8 := [180, 0, 141, 100, 162, 0, 37, 43, 28, 50, 21, 4, 182, 0, 175, 42, 42, 180, 0, 141, 21, 4, 96]
abbrev dktX0_placeIn_2 : List UInt8 := dkwX0_placeIn_2 ++ dktX0_placeIn_3
def dkwX0_placeIn_1 : List UInt8 := [160, 0, 7, 4, 167, 0, 4, 3, 62, 3, 54, 4, 29, 153, 0, 51, 21, 4, 42, 180, 0, 135, 42]
abbrev dktX0_placeIn_1 : List UInt8 := dkwX0_placeIn_1 ++ dktX0_placeIn_2
def dkwX0_placeIn_0 : List UInt8 := [3, 61, 28, 43, 190, 162, 0, 94, 43, 28, 50, 182, 0, 173, 42, 180, 0, 135, 42, 180, 0, 141, 100]
abbrev dktX0_placeIn_0 : List UInt8 := dkwX0_placeIn_0 ++ dktX0_placeIn_1
theorem dksX0_placeIn_0 : cX0_placeIn.data.toList.drop 0 = dktX0_placeIn_0 := by decide +kernel
theorem dksX0_placeIn_1 : cX0_placeIn.data.toList.drop 23 = dktX0_placeIn_1 := dk_seg dksX0_placeIn_0 23 rfl rfl
theorem dksX0_placeIn_2 : cX0_placeIn.data.toList.drop 46 = dktX0_placeIn_2 := dk_seg dksX0_placeIn_1 23 rfl rfl
theorem dksX0_placeIn_3 : cX0_placeIn.data.toList.drop 69 = dktX0_placeIn_3 := dk_seg dksX0_placeIn_2 23 rfl rfl
theorem dksX0_placeIn_4 : cX0_placeIn.data.toList.drop 93 = dktX0_placeIn_4 := dk_seg dksX0_placeIn_3 24 rfl rfl
theorem dX0_placeIn_0 : decode cX0_placeIn 0 = .ok (.iconst 0, 1) := dk_3 (dk_at dksX0_placeIn_0 0 rfl rfl)
theorem dX0_placeIn_1 : decode cX0_placeIn 1 = .ok (.istore_n 2, 1) := dk_61 (dk_at dksX0_placeIn_0 1 rfl rfl)
theorem dX0_placeIn_2 : decode cX0_placeIn 2 = .ok (.iload_n 2, 1) := dk_28 (dk_at dksX0_placeIn_0 2 rfl rfl)
theorem dX0_placeIn_3 : decode cX0_placeIn 3 = .ok (.aload_n 1, 1) := dk_43 (dk_at dksX0_placeIn_0 3 rfl rfl)
theorem dX0_placeIn_4 : decode cX0_placeIn 4 = .ok (.arraylength, 1) := dk_190 (dk_at dksX0_placeIn_0 4 rfl rfl)
theorem dX0_placeIn_5 : decode cX0_placeIn 5 = .ok (.if_icmp .ge 94, 3) := dk_162 0 94 (dk_at dksX0_placeIn_0 5 rfl rfl)
theorem dX0_placeIn_8 : decode cX0_placeIn 8 = .ok (.aload_n 1, 1) := dk_43 (dk_at dksX0_placeIn_0 8 rfl rfl)
theorem dX0_placeIn_9 : decode cX0_placeIn 9 = .ok (.iload_n 2, 1) := dk_28 (dk_at dksX0_placeIn_0 9 rfl rfl)
theorem dX0_placeIn_10 : decode cX0_placeIn 10 = .ok (.aaload, 1) := dk_50 (dk_at dksX0_placeIn_0 10 rfl rfl)
theorem dX0_placeIn_11 : decode cX0_placeIn 11 = .ok (.invokevirtual 173, 3) := dk_182 0 173 (dk_at dksX0_placeIn_0 11 rfl rfl)
theorem dX0_placeIn_14 : decode cX0_placeIn 14 = .ok (.aload_n 0, 1) := dk_42 (dk_at dksX0_placeIn_0 14 rfl rfl)
theorem dX0_placeIn_15 : decode cX0_placeIn 15 = .ok (.getfield 135, 3) := dk_180 0 135 (dk_at dksX0_placeIn_0 15 rfl rfl)
theorem dX0_placeIn_18 : decode cX0_placeIn 18 = .ok (.aload_n 0, 1) := dk_42 (dk_at dksX0_placeIn_0 18 rfl rfl)
theorem dX0_placeIn_19 : decode cX0_placeIn 19 = .ok (.getfield 141, 3) := dk_180 0 141 (dk_at dksX0_placeIn_0 19 rfl rfl)
theorem dX0_placeIn_22 : decode cX0_placeIn 22 = .ok (.isub, 1) := dk_100 (dk_at dksX0_placeIn_0 22 rfl rfl)
theorem dX0_placeIn_23 : decode cX0_placeIn 23 = .ok (.if_icmp .ne 7, 3) := dk_160 0 7 (dk_at dksX0_placeIn_1 0 rfl rfl)
theorem dX0_placeIn_26 : decode cX0_placeIn 26 = .ok (.iconst 1, 1) := dk_4 (dk_at dksX0_placeIn_1 3 rfl rfl)
theorem dX0_placeIn_27 : decode cX0_placeIn 27 = .ok (.goto 4, 3) := dk_167 0 4 (dk_at dksX0_placeIn_1 4 rfl rfl)
theorem dX0_placeIn_30 : decode cX0_placeIn 30 = .ok (.iconst 0, 1) := dk_3 (dk_at dksX0_placeIn_1 7 rfl rfl)
theorem dX0_placeIn_31 : decode cX0_placeIn 31 = .ok (.istore_n 3, 1) := dk_62 (dk_at dksX0_placeIn_1 8 rfl rfl)
theorem dX0_placeIn_32 : decode cX0_placeIn 32 = .ok (.iconst 0, 1) := dk_3 (dk_at dksX0_placeIn_1 9 rfl rfl)
theorem dX0_placeIn_33 : decode cX0_placeIn 33 = .ok (.istore 4, 2) := dk_54 4 (dk_at dksX0_placeIn_1 10 rfl rfl)
theorem dX0_placeIn_35 : decode cX0_placeIn 35 = .ok (.iload_n 3, 1) := dk_29 (dk_at dksX0_placeIn_1 12 rfl rfl)
theorem dX0_placeIn_36 : decode cX0_placeIn 36 = .ok (.ifCond .eq 51, 3) := dk_153 0 51 (dk_at dksX0_placeIn_1 13 rfl rfl)
theorem dX0_placeIn_39 : decode cX0_placeIn 39 = .ok (.iload 4, 2) := dk_21 4 (dk_at dksX0_placeIn_1 16 rfl rfl)
theorem dX0_placeIn_41 : decode cX0_placeIn 41 = .ok (.aload_n 0, 1) := dk_42 (dk_at dksX0_placeIn_1 18 rfl rfl)
theorem dX0_placeIn_42 : decode cX0_placeIn 42 = .ok (.getfield 135, 3) := dk_180 0 135 (dk_at dksX0_placeIn_1 19 rfl rfl)
theorem dX0_placeIn_45 : decode cX0_placeIn 45 = .ok (.aload_n 0, 1) := dk_42 (dk_at dksX0_placeIn_1 22 rfl rfl)
theorem dX0_placeIn_46 : decode cX0_placeIn 46 = .ok (.getfield 141, 3) := dk_180 0 141 (dk_at dksX0_placeIn_2 0 rfl rfl)
theorem dX0_placeIn_49 : decode cX0_placeIn 49 = .ok (.isub, 1) := dk_100 (dk_at dksX0_placeIn_2 3 rfl rfl)
theorem dX0_placeIn_50 : decode cX0_placeIn 50 = .ok (.if_icmp .ge 37, 3) := dk_162 0 37 (dk_at dksX0_placeIn_2 4 rfl rfl)
theorem dX0_placeIn_53 : decode cX0_placeIn 53 = .ok (.aload_n 1, 1) := dk_43 (dk_at dksX0_placeIn_2 7 rfl rfl)
theorem dX0_placeIn_54 : decode cX0_placeIn 54 = .ok (.iload_n 2, 1) := dk_28 (dk_at dksX0_placeIn_2 8 rfl rfl)
theorem dX0_placeIn_55 : decode cX0_placeIn 55 = .ok (.aaload, 1) := dk_50 (dk_at dksX0_placeIn_2 9 rfl rfl)
theorem dX0_placeIn_56 : decode cX0_placeIn 56 = .ok (.iload 4, 2) := dk_21 4 (dk_at dksX0_placeIn_2 10 rfl rfl)
theorem dX0_placeIn_58 : decode cX0_placeIn 58 = .ok (.invokevirtual 175, 3) := dk_182 0 175 (dk_at dksX0_placeIn_2 12 rfl rfl)
theorem dX0_placeIn_61 : decode cX0_placeIn 61 = .ok (.aload_n 0, 1) := dk_42 (dk_at dksX0_placeIn_2 15 rfl rfl)
theorem dX0_placeIn_62 : decode cX0_placeIn 62 = .ok (.aload_n 0, 1) := dk_42 (dk_at dksX0_placeIn_2 16 rfl rfl)
theorem dX0_placeIn_63 : decode cX0_placeIn 63 = .ok (.getfield 141, 3) := dk_180 0 141 (dk_at dksX0_placeIn_2 17 rfl rfl)
theorem dX0_placeIn_66 : decode cX0_placeIn 66 = .ok (.iload 4, 2) := dk_21 4 (dk_at dksX0_placeIn_2 20 rfl rfl)
theorem dX0_placeIn_68 : decode cX0_placeIn 68 = .ok (.iadd, 1) := dk_96 (dk_at dksX0_placeIn_2 22 rfl rfl)
theorem dX0_placeIn_69 : decode cX0_placeIn 69 = .ok (.invokevirtual 138, 3) := dk_182 0 138 (dk_at dksX0_placeIn_3 0 rfl rfl)
theorem dX0_placeIn_72 : decode cX0_placeIn 72 = .ok (.if_icmp .ne 7, 3) := dk_160 0 7 (dk_at dksX0_placeIn_3 3 rfl rfl)
theorem dX0_placeIn_75 : decode cX0_placeIn 75 = .ok (.iconst 1, 1) := dk_4 (dk_at dksX0_placeIn_3 6 rfl rfl)
theorem dX0_placeIn_76 : decode cX0_placeIn 76 = .ok (.goto 4, 3) := dk_167 0 4 (dk_at dksX0_placeIn_3 7 rfl rfl)
theorem dX0_placeIn_79 : decode cX0_placeIn 79 = .ok (.iconst 0, 1) := dk_3 (dk_at dksX0_placeIn_3 10 rfl rfl)
theorem dX0_placeIn_80 : decode cX0_placeIn 80 = .ok (.istore_n 3, 1) := dk_62 (dk_at dksX0_placeIn_3 11 rfl rfl)
theorem dX0_placeIn_81 : decode cX0_placeIn 81 = .ok (.iinc 4 1, 3) := dk_132 4 1 (dk_at dksX0_placeIn_3 12 rfl rfl)
theorem dX0_placeIn_84 : decode cX0_placeIn 84 = .ok (.goto (-49), 3) := dk_167 255 207 (dk_at dksX0_placeIn_3 15 rfl rfl)
theorem dX0_placeIn_87 : decode cX0_placeIn 87 = .ok (.iload_n 3, 1) := dk_29 (dk_at dksX0_placeIn_3 18 rfl rfl)
theorem dX0_placeIn_88 : decode cX0_placeIn 88 = .ok (.ifCond .eq 5, 3) := dk_153 0 5 (dk_at dksX0_placeIn_3 19 rfl rfl)
theorem dX0_placeIn_91 : decode cX0_placeIn 91 = .ok (.iload_n 2, 1) := dk_28 (dk_at dksX0_placeIn_3 22 rfl rfl)
theorem dX0_placeIn_92 : decode cX0_placeIn 92 = .ok (.ireturn, 1) := dk_172 (dk_at dksX0_placeIn_3 23 rfl rfl)
theorem dX0_placeIn_93 : decode cX0_placeIn 93 = .ok (.iinc 2 1, 3) := dk_132 2 1 (dk_at dksX0_placeIn_4 0 rfl rfl)
theorem dX0_placeIn_96 : decode cX0_placeIn 96 = .ok (.goto (-94), 3) := dk_167 255 162 (dk_at dksX0_placeIn_4 3 rfl rfl)
theorem dX0_placeIn_99 : decode cX0_placeIn 99 = .ok (.iconst (-1), 1) := dk_2 (dk_at dksX0_placeIn_4 6 rfl rfl)
theorem dX0_placeIn_100 : decode cX0_placeIn 100 = .ok (.ireturn, 1) := dk_172 (dk_at dksX0_placeIn_4 7 rfl rfl)
abbrev cX0_isDigit : ByteArray := prog_1_method_21_code
def yX0_isDigit : MethodName := ⟨RX0, "isDigit", "(I)Z"⟩
def dkwX0_isDigit_0 : List UInt8 := [26, 133, 20, 0, 131, 20, 0, 133, 184, 0, 14, 172]
abbrev dktX0_isDigit_0 : List UInt8 := dkwX0_isDigit_0 ++ []
theorem dksX0_isDigit_0 : cX0_isDigit.data.toList.drop 0 = dktX0_isDigit_0 := by decide +kernel
theorem dX0_isDigit_0 : decode cX0_isDigit 0 = .ok (.iload_n 0, 1) := dk_26 (dk_at dksX0_isDigit_0 0 rfl rfl)
theorem dX0_isDigit_1 : decode cX0_isDigit 1 = .ok (.i2l, 1) := dk_133 (dk_at dksX0_isDigit_0 1 rfl rfl)
theorem dX0_isDigit_2 : decode cX0_isDigit 2 = .ok (.ldc2_w 131, 3) := dk_20 0 131 (dk_at dksX0_isDigit_0 2 rfl rfl)
theorem dX0_isDigit_5 : decode cX0_isDigit 5 = .ok (.ldc2_w 133, 3) := dk_20 0 133 (dk_at dksX0_isDigit_0 5 rfl rfl)
theorem dX0_isDigit_8 : decode cX0_isDigit 8 = .ok (.invokestatic 14, 3) := dk_184 0 14 (dk_at dksX0_isDigit_0 8 rfl rfl)
theorem dX0_isDigit_11 : decode cX0_isDigit 11 = .ok (.ireturn, 1) := dk_172 (dk_at dksX0_isDigit_0 11 rfl rfl)
abbrev cX0_digits : ByteArray := prog_1_method_25_code
def yX0_digits : MethodName := ⟨RX0, "digits", "()V"⟩
def dkwX0_digits_4 : List UInt8 := [180, 0, 169, 191, 177]
abbrev dktX0_digits_4 : List UInt8 := dkwX0_digits_4 ++ []
def dkwX0_digits_3 : List UInt8 := [167, 255, 189, 42, 6, 181, 0, 144, 42, 180, 0, 135, 42, 180, 0, 141, 100, 7, 164, 0, 8, 42]
abbrev dktX0_digits_3 : List UInt8 := dkwX0_digits_3 ++ dktX0_digits_4
def dkwX0_digits_2 : List UInt8 := [96, 16, 48, 100, 167, 0, 7, 42, 180, 0, 159, 181, 0, 159, 42, 89, 180, 0, 135, 4, 96, 181, 0, 135]
abbrev dktX0_digits_2 : List UInt8 := dkwX0_digits_2 ++ dktX0_digits_3
def dkwX0_digits_1 : List UInt8 := [42, 180, 0, 141, 100, 7, 162, 0, 25, 16, 10, 42, 180, 0, 159, 104, 42, 42, 180, 0, 135, 182, 0, 138]
abbrev dktX0_digits_1 : List UInt8 := dkwX0_digits_1 ++ dktX0_digits_2
def dkwX0_digits_0 : List UInt8 := [42, 3, 181, 0, 159, 42, 42, 180, 0, 135, 182, 0, 138, 184, 0, 153, 153, 0, 59, 42, 42, 180, 0, 135]
abbrev dktX0_digits_0 : List UInt8 := dkwX0_digits_0 ++ dktX0_digits_1
theorem dksX0_digits_0 : cX0_digits.data.toList.drop 0 = dktX0_digits_0 := by decide +kernel
theorem dksX0_digits_1 : cX0_digits.data.toList.drop 24 = dktX0_digits_1 := dk_seg dksX0_digits_0 24 rfl rfl
theorem dksX0_digits_2 : cX0_digits.data.toList.drop 48 = dktX0_digits_2 := dk_seg dksX0_digits_1 24 rfl rfl
theorem dksX0_digits_3 : cX0_digits.data.toList.drop 72 = dktX0_digits_3 := dk_seg dksX0_digits_2 24 rfl rfl
theorem dksX0_digits_4 : cX0_digits.data.toList.drop 94 = dktX0_digits_4 := dk_seg dksX0_digits_3 22 rfl rfl
theorem dX0_digits_0 : decode cX0_digits 0 = .ok (.aload_n 0, 1) := dk_42 (dk_at dksX0_digits_0 0 rfl rfl)
theorem dX0_digits_1 : decode cX0_digits 1 = .ok (.iconst 0, 1) := dk_3 (dk_at dksX0_digits_0 1 rfl rfl)
theorem dX0_digits_2 : decode cX0_digits 2 = .ok (.putfield 159, 3) := dk_181 0 159 (dk_at dksX0_digits_0 2 rfl rfl)
theorem dX0_digits_5 : decode cX0_digits 5 = .ok (.aload_n 0, 1) := dk_42 (dk_at dksX0_digits_0 5 rfl rfl)
theorem dX0_digits_6 : decode cX0_digits 6 = .ok (.aload_n 0, 1) := dk_42 (dk_at dksX0_digits_0 6 rfl rfl)
theorem dX0_digits_7 : decode cX0_digits 7 = .ok (.getfield 135, 3) := dk_180 0 135 (dk_at dksX0_digits_0 7 rfl rfl)
theorem dX0_digits_10 : decode cX0_digits 10 = .ok (.invokevirtual 138, 3) := dk_182 0 138 (dk_at dksX0_digits_0 10 rfl rfl)
theorem dX0_digits_13 : decode cX0_digits 13 = .ok (.invokestatic 153, 3) := dk_184 0 153 (dk_at dksX0_digits_0 13 rfl rfl)
theorem dX0_digits_16 : decode cX0_digits 16 = .ok (.ifCond .eq 59, 3) := dk_153 0 59 (dk_at dksX0_digits_0 16 rfl rfl)
theorem dX0_digits_19 : decode cX0_digits 19 = .ok (.aload_n 0, 1) := dk_42 (dk_at dksX0_digits_0 19 rfl rfl)
theorem dX0_digits_20 : decode cX0_digits 20 = .ok (.aload_n 0, 1) := dk_42 (dk_at dksX0_digits_0 20 rfl rfl)
theorem dX0_digits_21 : decode cX0_digits 21 = .ok (.getfield 135, 3) := dk_180 0 135 (dk_at dksX0_digits_0 21 rfl rfl)
theorem dX0_digits_24 : decode cX0_digits 24 = .ok (.aload_n 0, 1) := dk_42 (dk_at dksX0_digits_1 0 rfl rfl)
theorem dX0_digits_25 : decode cX0_digits 25 = .ok (.getfield 141, 3) := dk_180 0 141 (dk_at dksX0_digits_1 1 rfl rfl)
theorem dX0_digits_28 : decode cX0_digits 28 = .ok (.isub, 1) := dk_100 (dk_at dksX0_digits_1 4 rfl rfl)
theorem dX0_digits_29 : decode cX0_digits 29 = .ok (.iconst 4, 1) := dk_7 (dk_at dksX0_digits_1 5 rfl rfl)
theorem dX0_digits_30 : decode cX0_digits 30 = .ok (.if_icmp .ge 25, 3) := dk_162 0 25 (dk_at dksX0_digits_1 6 rfl rfl)
theorem dX0_digits_33 : decode cX0_digits 33 = .ok (.bipush 10, 2) := dk_16 10 (dk_at dksX0_digits_1 9 rfl rfl)
theorem dX0_digits_35 : decode cX0_digits 35 = .ok (.aload_n 0, 1) := dk_42 (dk_at dksX0_digits_1 11 rfl rfl)
theorem dX0_digits_36 : decode cX0_digits 36 = .ok (.getfield 159, 3) := dk_180 0 159 (dk_at dksX0_digits_1 12 rfl rfl)
theorem dX0_digits_39 : decode cX0_digits 39 = .ok (.imul, 1) := dk_104 (dk_at dksX0_digits_1 15 rfl rfl)
theorem dX0_digits_40 : decode cX0_digits 40 = .ok (.aload_n 0, 1) := dk_42 (dk_at dksX0_digits_1 16 rfl rfl)
theorem dX0_digits_41 : decode cX0_digits 41 = .ok (.aload_n 0, 1) := dk_42 (dk_at dksX0_digits_1 17 rfl rfl)
theorem dX0_digits_42 : decode cX0_digits 42 = .ok (.getfield 135, 3) := dk_180 0 135 (dk_at dksX0_digits_1 18 rfl rfl)
theorem dX0_digits_45 : decode cX0_digits 45 = .ok (.invokevirtual 138, 3) := dk_182 0 138 (dk_at dksX0_digits_1 21 rfl rfl)
theorem dX0_digits_48 : decode cX0_digits 48 = .ok (.iadd, 1) := dk_96 (dk_at dksX0_digits_2 0 rfl rfl)
theorem dX0_digits_49 : decode cX0_digits 49 = .ok (.bipush 48, 2) := dk_16 48 (dk_at dksX0_digits_2 1 rfl rfl)
theorem dX0_digits_51 : decode cX0_digits 51 = .ok (.isub, 1) := dk_100 (dk_at dksX0_digits_2 3 rfl rfl)
theorem dX0_digits_52 : decode cX0_digits 52 = .ok (.goto 7, 3) := dk_167 0 7 (dk_at dksX0_digits_2 4 rfl rfl)
theorem dX0_digits_55 : decode cX0_digits 55 = .ok (.aload_n 0, 1) := dk_42 (dk_at dksX0_digits_2 7 rfl rfl)
theorem dX0_digits_56 : decode cX0_digits 56 = .ok (.getfield 159, 3) := dk_180 0 159 (dk_at dksX0_digits_2 8 rfl rfl)
theorem dX0_digits_59 : decode cX0_digits 59 = .ok (.putfield 159, 3) := dk_181 0 159 (dk_at dksX0_digits_2 11 rfl rfl)
theorem dX0_digits_62 : decode cX0_digits 62 = .ok (.aload_n 0, 1) := dk_42 (dk_at dksX0_digits_2 14 rfl rfl)
theorem dX0_digits_63 : decode cX0_digits 63 = .ok (.dup, 1) := dk_89 (dk_at dksX0_digits_2 15 rfl rfl)
theorem dX0_digits_64 : decode cX0_digits 64 = .ok (.getfield 135, 3) := dk_180 0 135 (dk_at dksX0_digits_2 16 rfl rfl)
theorem dX0_digits_67 : decode cX0_digits 67 = .ok (.iconst 1, 1) := dk_4 (dk_at dksX0_digits_2 19 rfl rfl)
theorem dX0_digits_68 : decode cX0_digits 68 = .ok (.iadd, 1) := dk_96 (dk_at dksX0_digits_2 20 rfl rfl)
theorem dX0_digits_69 : decode cX0_digits 69 = .ok (.putfield 135, 3) := dk_181 0 135 (dk_at dksX0_digits_2 21 rfl rfl)
theorem dX0_digits_72 : decode cX0_digits 72 = .ok (.goto (-67), 3) := dk_167 255 189 (dk_at dksX0_digits_3 0 rfl rfl)
theorem dX0_digits_75 : decode cX0_digits 75 = .ok (.aload_n 0, 1) := dk_42 (dk_at dksX0_digits_3 3 rfl rfl)
theorem dX0_digits_76 : decode cX0_digits 76 = .ok (.iconst 3, 1) := dk_6 (dk_at dksX0_digits_3 4 rfl rfl)
theorem dX0_digits_77 : decode cX0_digits 77 = .ok (.putfield 144, 3) := dk_181 0 144 (dk_at dksX0_digits_3 5 rfl rfl)
theorem dX0_digits_80 : decode cX0_digits 80 = .ok (.aload_n 0, 1) := dk_42 (dk_at dksX0_digits_3 8 rfl rfl)
theorem dX0_digits_81 : decode cX0_digits 81 = .ok (.getfield 135, 3) := dk_180 0 135 (dk_at dksX0_digits_3 9 rfl rfl)
theorem dX0_digits_84 : decode cX0_digits 84 = .ok (.aload_n 0, 1) := dk_42 (dk_at dksX0_digits_3 12 rfl rfl)
theorem dX0_digits_85 : decode cX0_digits 85 = .ok (.getfield 141, 3) := dk_180 0 141 (dk_at dksX0_digits_3 13 rfl rfl)
theorem dX0_digits_88 : decode cX0_digits 88 = .ok (.isub, 1) := dk_100 (dk_at dksX0_digits_3 16 rfl rfl)
theorem dX0_digits_89 : decode cX0_digits 89 = .ok (.iconst 4, 1) := dk_7 (dk_at dksX0_digits_3 17 rfl rfl)
theorem dX0_digits_90 : decode cX0_digits 90 = .ok (.if_icmp .le 8, 3) := dk_164 0 8 (dk_at dksX0_digits_3 18 rfl rfl)
theorem dX0_digits_93 : decode cX0_digits 93 = .ok (.aload_n 0, 1) := dk_42 (dk_at dksX0_digits_3 21 rfl rfl)
theorem dX0_digits_94 : decode cX0_digits 94 = .ok (.getfield 169, 3) := dk_180 0 169 (dk_at dksX0_digits_4 0 rfl rfl)
theorem dX0_digits_97 : decode cX0_digits 97 = .ok (.athrow, 1) := dk_191 (dk_at dksX0_digits_4 3 rfl rfl)
theorem dX0_digits_98 : decode cX0_digits 98 = .ok (.return_, 1) := dk_177 (dk_at dksX0_digits_4 4 rfl rfl)
abbrev cX0_isKey : ByteArray := prog_1_method_27_code
def yX0_isKey : MethodName := ⟨RX0, "isKey", "(I)Z"⟩
def dkwX0_isKey_0 : List UInt8 := [42, 180, 0, 144, 4, 160, 0, 15, 42, 180, 0, 159, 27, 160, 0, 7, 4, 167, 0, 4, 3, 172]
abbrev dktX0_isKey_0 : List UInt8 := dkwX0_isKey_0 ++ []
theorem dksX0_isKey_0 : cX0_isKey.data.toList.drop 0 = dktX0_isKey_0 := by decide +kernel
theorem dX0_isKey_0 : decode cX0_isKey 0 = .ok (.aload_n 0, 1) := dk_42 (dk_at dksX0_isKey_0 0 rfl rfl)
theorem dX0_isKey_1 : decode cX0_isKey 1 = .ok (.getfield 144, 3) := dk_180 0 144 (dk_at dksX0_isKey_0 1 rfl rfl)
theorem dX0_isKey_4 : decode cX0_isKey 4 = .ok (.iconst 1, 1) := dk_4 (dk_at dksX0_isKey_0 4 rfl rfl)
theorem dX0_isKey_5 : decode cX0_isKey 5 = .ok (.if_icmp .ne 15, 3) := dk_160 0 15 (dk_at dksX0_isKey_0 5 rfl rfl)
theorem dX0_isKey_8 : decode cX0_isKey 8 = .ok (.aload_n 0, 1) := dk_42 (dk_at dksX0_isKey_0 8 rfl rfl)
theorem dX0_isKey_9 : decode cX0_isKey 9 = .ok (.getfield 159, 3) := dk_180 0 159 (dk_at dksX0_isKey_0 9 rfl rfl)
theorem dX0_isKey_12 : decode cX0_isKey 12 = .ok (.iload_n 1, 1) := dk_27 (dk_at dksX0_isKey_0 12 rfl rfl)
theorem dX0_isKey_13 : decode cX0_isKey 13 = .ok (.if_icmp .ne 7, 3) := dk_160 0 7 (dk_at dksX0_isKey_0 13 rfl rfl)
theorem dX0_isKey_16 : decode cX0_isKey 16 = .ok (.iconst 1, 1) := dk_4 (dk_at dksX0_isKey_0 16 rfl rfl)
theorem dX0_isKey_17 : decode cX0_isKey 17 = .ok (.goto 4, 3) := dk_167 0 4 (dk_at dksX0_isKey_0 17 rfl rfl)
theorem dX0_isKey_20 : decode cX0_isKey 20 = .ok (.iconst 0, 1) := dk_3 (dk_at dksX0_isKey_0 20 rfl rfl)
theorem dX0_isKey_21 : decode cX0_isKey 21 = .ok (.ireturn, 1) := dk_172 (dk_at dksX0_isKey_0 21 rfl rfl)
abbrev cX0_need : ByteArray := prog_1_method_28_code
def yX0_need : MethodName := ⟨RX0, "need", "(Z)V"⟩
def dkwX0_need_0 : List UInt8 := [27, 154, 0, 8, 42, 180, 0, 169, 191, 42, 182, 0, 190, 177]
abbrev dktX0_need_0 : List UInt8 := dkwX0_need_0 ++ []
theorem dksX0_need_0 : cX0_need.data.toList.drop 0 = dktX0_need_0 := by decide +kernel
theorem dX0_need_0 : decode cX0_need 0 = .ok (.iload_n 1, 1) := dk_27 (dk_at dksX0_need_0 0 rfl rfl)
theorem dX0_need_1 : decode cX0_need 1 = .ok (.ifCond .ne 8, 3) := dk_154 0 8 (dk_at dksX0_need_0 1 rfl rfl)
theorem dX0_need_4 : decode cX0_need 4 = .ok (.aload_n 0, 1) := dk_42 (dk_at dksX0_need_0 4 rfl rfl)
theorem dX0_need_5 : decode cX0_need 5 = .ok (.getfield 169, 3) := dk_180 0 169 (dk_at dksX0_need_0 5 rfl rfl)
theorem dX0_need_8 : decode cX0_need 8 = .ok (.athrow, 1) := dk_191 (dk_at dksX0_need_0 8 rfl rfl)
theorem dX0_need_9 : decode cX0_need 9 = .ok (.aload_n 0, 1) := dk_42 (dk_at dksX0_need_0 9 rfl rfl)
theorem dX0_need_10 : decode cX0_need 10 = .ok (.invokevirtual 190, 3) := dk_182 0 190 (dk_at dksX0_need_0 10 rfl rfl)
theorem dX0_need_13 : decode cX0_need 13 = .ok (.return_, 1) := dk_177 (dk_at dksX0_need_0 13 rfl rfl)
abbrev cX0_either : ByteArray := prog_1_method_30_code
def yX0_either : MethodName := ⟨RX0, "either", "()LTandemKeepsAPlace$Node;"⟩
def dkwX0_either_1 : List UInt8 := [42, 182, 0, 200, 183, 0, 209, 76, 167, 255, 229, 43, 176]
abbrev dktX0_either_1 : List UInt8 := dkwX0_either_1 ++ []
def dkwX0_either_0 : List UInt8 := [42, 182, 0, 200, 76, 42, 6, 182, 0, 204, 153, 0, 25, 42, 182, 0, 190, 187, 0, 207, 89, 16, 124, 43]
abbrev dktX0_either_0 : List UInt8 := dkwX0_either_0 ++ dktX0_either_1
theorem dksX0_either_0 : cX0_either.data.toList.drop 0 = dktX0_either_0 := by decide +kernel
theorem dksX0_either_1 : cX0_either.data.toList.drop 24 = dktX0_either_1 := dk_seg dksX0_either_0 24 rfl rfl
theorem dX0_either_0 : decode cX0_either 0 = .ok (.aload_n 0, 1) := dk_42 (dk_at dksX0_either_0 0 rfl rfl)
theorem dX0_either_1 : decode cX0_either 1 = .ok (.invokevirtual 200, 3) := dk_182 0 200 (dk_at dksX0_either_0 1 rfl rfl)
theorem dX0_either_4 : decode cX0_either 4 = .ok (.astore_n 1, 1) := dk_76 (dk_at dksX0_either_0 4 rfl rfl)
theorem dX0_either_5 : decode cX0_either 5 = .ok (.aload_n 0, 1) := dk_42 (dk_at dksX0_either_0 5 rfl rfl)
theorem dX0_either_6 : decode cX0_either 6 = .ok (.iconst 3, 1) := dk_6 (dk_at dksX0_either_0 6 rfl rfl)
theorem dX0_either_7 : decode cX0_either 7 = .ok (.invokevirtual 204, 3) := dk_182 0 204 (dk_at dksX0_either_0 7 rfl rfl)
theorem dX0_either_10 : decode cX0_either 10 = .ok (.ifCond .eq 25, 3) := dk_153 0 25 (dk_at dksX0_either_0 10 rfl rfl)
theorem dX0_either_13 : decode cX0_either 13 = .ok (.aload_n 0, 1) := dk_42 (dk_at dksX0_either_0 13 rfl rfl)
theorem dX0_either_14 : decode cX0_either 14 = .ok (.invokevirtual 190, 3) := dk_182 0 190 (dk_at dksX0_either_0 14 rfl rfl)
theorem dX0_either_17 : decode cX0_either 17 = .ok (.new 207, 3) := dk_187 0 207 (dk_at dksX0_either_0 17 rfl rfl)
theorem dX0_either_20 : decode cX0_either 20 = .ok (.dup, 1) := dk_89 (dk_at dksX0_either_0 20 rfl rfl)
theorem dX0_either_21 : decode cX0_either 21 = .ok (.bipush 124, 2) := dk_16 124 (dk_at dksX0_either_0 21 rfl rfl)
theorem dX0_either_23 : decode cX0_either 23 = .ok (.aload_n 1, 1) := dk_43 (dk_at dksX0_either_0 23 rfl rfl)
theorem dX0_either_24 : decode cX0_either 24 = .ok (.aload_n 0, 1) := dk_42 (dk_at dksX0_either_1 0 rfl rfl)
theorem dX0_either_25 : decode cX0_either 25 = .ok (.invokevirtual 200, 3) := dk_182 0 200 (dk_at dksX0_either_1 1 rfl rfl)
theorem dX0_either_28 : decode cX0_either 28 = .ok (.invokespecial 209, 3) := dk_183 0 209 (dk_at dksX0_either_1 4 rfl rfl)
theorem dX0_either_31 : decode cX0_either 31 = .ok (.astore_n 1, 1) := dk_76 (dk_at dksX0_either_1 7 rfl rfl)
theorem dX0_either_32 : decode cX0_either 32 = .ok (.goto (-27), 3) := dk_167 255 229 (dk_at dksX0_either_1 8 rfl rfl)
theorem dX0_either_35 : decode cX0_either 35 = .ok (.aload_n 1, 1) := dk_43 (dk_at dksX0_either_1 11 rfl rfl)
theorem dX0_either_36 : decode cX0_either 36 = .ok (.areturn, 1) := dk_176 (dk_at dksX0_either_1 12 rfl rfl)
abbrev cX0_both : ByteArray := prog_1_method_31_code
def yX0_both : MethodName := ⟨RX0, "both", "()LTandemKeepsAPlace$Node;"⟩
def dkwX0_both_1 : List UInt8 := [42, 182, 0, 212, 183, 0, 209, 76, 167, 255, 229, 43, 176]
abbrev dktX0_both_1 : List UInt8 := dkwX0_both_1 ++ []
def dkwX0_both_0 : List UInt8 := [42, 182, 0, 212, 76, 42, 7, 182, 0, 204, 153, 0, 25, 42, 182, 0, 190, 187, 0, 207, 89, 16, 38, 43]
abbrev dktX0_both_0 : List UInt8 := dkwX0_both_0 ++ dktX0_both_1
theorem dksX0_both_0 : cX0_both.data.toList.drop 0 = dktX0_both_0 := by decide +kernel
theorem dksX0_both_1 : cX0_both.data.toList.drop 24 = dktX0_both_1 := dk_seg dksX0_both_0 24 rfl rfl
theorem dX0_both_0 : decode cX0_both 0 = .ok (.aload_n 0, 1) := dk_42 (dk_at dksX0_both_0 0 rfl rfl)
theorem dX0_both_1 : decode cX0_both 1 = .ok (.invokevirtual 212, 3) := dk_182 0 212 (dk_at dksX0_both_0 1 rfl rfl)
theorem dX0_both_4 : decode cX0_both 4 = .ok (.astore_n 1, 1) := dk_76 (dk_at dksX0_both_0 4 rfl rfl)
theorem dX0_both_5 : decode cX0_both 5 = .ok (.aload_n 0, 1) := dk_42 (dk_at dksX0_both_0 5 rfl rfl)
theorem dX0_both_6 : decode cX0_both 6 = .ok (.iconst 4, 1) := dk_7 (dk_at dksX0_both_0 6 rfl rfl)
theorem dX0_both_7 : decode cX0_both 7 = .ok (.invokevirtual 204, 3) := dk_182 0 204 (dk_at dksX0_both_0 7 rfl rfl)
theorem dX0_both_10 : decode cX0_both 10 = .ok (.ifCond .eq 25, 3) := dk_153 0 25 (dk_at dksX0_both_0 10 rfl rfl)
theorem dX0_both_13 : decode cX0_both 13 = .ok (.aload_n 0, 1) := dk_42 (dk_at dksX0_both_0 13 rfl rfl)
theorem dX0_both_14 : decode cX0_both 14 = .ok (.invokevirtual 190, 3) := dk_182 0 190 (dk_at dksX0_both_0 14 rfl rfl)
theorem dX0_both_17 : decode cX0_both 17 = .ok (.new 207, 3) := dk_187 0 207 (dk_at dksX0_both_0 17 rfl rfl)
theorem dX0_both_20 : decode cX0_both 20 = .ok (.dup, 1) := dk_89 (dk_at dksX0_both_0 20 rfl rfl)
theorem dX0_both_21 : decode cX0_both 21 = .ok (.bipush 38, 2) := dk_16 38 (dk_at dksX0_both_0 21 rfl rfl)
theorem dX0_both_23 : decode cX0_both 23 = .ok (.aload_n 1, 1) := dk_43 (dk_at dksX0_both_0 23 rfl rfl)
theorem dX0_both_24 : decode cX0_both 24 = .ok (.aload_n 0, 1) := dk_42 (dk_at dksX0_both_1 0 rfl rfl)
theorem dX0_both_25 : decode cX0_both 25 = .ok (.invokevirtual 212, 3) := dk_182 0 212 (dk_at dksX0_both_1 1 rfl rfl)
theorem dX0_both_28 : decode cX0_both 28 = .ok (.invokespecial 209, 3) := dk_183 0 209 (dk_at dksX0_both_1 4 rfl rfl)
theorem dX0_both_31 : decode cX0_both 31 = .ok (.astore_n 1, 1) := dk_76 (dk_at dksX0_both_1 7 rfl rfl)
theorem dX0_both_32 : decode cX0_both 32 = .ok (.goto (-27), 3) := dk_167 255 229 (dk_at dksX0_both_1 8 rfl rfl)
theorem dX0_both_35 : decode cX0_both 35 = .ok (.aload_n 1, 1) := dk_43 (dk_at dksX0_both_1 11 rfl rfl)
theorem dX0_both_36 : decode cX0_both 36 = .ok (.areturn, 1) := dk_176 (dk_at dksX0_both_1 12 rfl rfl)
abbrev cX0_not : ByteArray := prog_1_method_32_code
def yX0_not : MethodName := ⟨RX0, "not", "()LTandemKeepsAPlace$Node;"⟩
def dkwX0_not_3 : List UInt8 := [89, 28, 43, 42, 182, 0, 223, 183, 0, 209, 76, 43, 176]
abbrev dktX0_not_3 : List UInt8 := dkwX0_not_3 ++ []
def dkwX0_not_2 : List UInt8 := [154, 0, 12, 42, 16, 61, 182, 0, 226, 153, 0, 26, 42, 180, 0, 159, 61, 42, 182, 0, 190, 187, 0, 207]
abbrev dktX0_not_2 : List UInt8 := dkwX0_not_2 ++ dktX0_not_3
def dkwX0_not_1 : List UInt8 := [181, 0, 193, 187, 0, 218, 89, 43, 3, 183, 0, 220, 176, 42, 182, 0, 223, 76, 42, 16, 60, 182, 0, 226]
abbrev dktX0_not_1 : List UInt8 := dkwX0_not_1 ++ dktX0_not_2
def dkwX0_not_0 : List UInt8 := [42, 8, 182, 0, 204, 153, 0, 32, 42, 182, 0, 215, 42, 182, 0, 212, 76, 42, 89, 180, 0, 193, 4, 100]
abbrev dktX0_not_0 : List UInt8 := dkwX0_not_0 ++ dktX0_not_1
theorem dksX0_not_0 : cX0_not.data.toList.drop 0 = dktX0_not_0 := by decide +kernel
theorem dksX0_not_1 : cX0_not.data.toList.drop 24 = dktX0_not_1 := dk_seg dksX0_not_0 24 rfl rfl
theorem dksX0_not_2 : cX0_not.data.toList.drop 48 = dktX0_not_2 := dk_seg dksX0_not_1 24 rfl rfl
theorem dksX0_not_3 : cX0_not.data.toList.drop 72 = dktX0_not_3 := dk_seg dksX0_not_2 24 rfl rfl
theorem dX0_not_0 : decode cX0_not 0 = .ok (.aload_n 0, 1) := dk_42 (dk_at dksX0_not_0 0 rfl rfl)
theorem dX0_not_1 : decode cX0_not 1 = .ok (.iconst 5, 1) := dk_8 (dk_at dksX0_not_0 1 rfl rfl)
theorem dX0_not_2 : decode cX0_not 2 = .ok (.invokevirtual 204, 3) := dk_182 0 204 (dk_at dksX0_not_0 2 rfl rfl)
theorem dX0_not_5 : decode cX0_not 5 = .ok (.ifCond .eq 32, 3) := dk_153 0 32 (dk_at dksX0_not_0 5 rfl rfl)
theorem dX0_not_8 : decode cX0_not 8 = .ok (.aload_n 0, 1) := dk_42 (dk_at dksX0_not_0 8 rfl rfl)
theorem dX0_not_9 : decode cX0_not 9 = .ok (.invokevirtual 215, 3) := dk_182 0 215 (dk_at dksX0_not_0 9 rfl rfl)
theorem dX0_not_12 : decode cX0_not 12 = .ok (.aload_n 0, 1) := dk_42 (dk_at dksX0_not_0 12 rfl rfl)
theorem dX0_not_13 : decode cX0_not 13 = .ok (.invokevirtual 212, 3) := dk_182 0 212 (dk_at dksX0_not_0 13 rfl rfl)
theorem dX0_not_16 : decode cX0_not 16 = .ok (.astore_n 1, 1) := dk_76 (dk_at dksX0_not_0 16 rfl rfl)
theorem dX0_not_17 : decode cX0_not 17 = .ok (.aload_n 0, 1) := dk_42 (dk_at dksX0_not_0 17 rfl rfl)
theorem dX0_not_18 : decode cX0_not 18 = .ok (.dup, 1) := dk_89 (dk_at dksX0_not_0 18 rfl rfl)
theorem dX0_not_19 : decode cX0_not 19 = .ok (.getfield 193, 3) := dk_180 0 193 (dk_at dksX0_not_0 19 rfl rfl)
theorem dX0_not_22 : decode cX0_not 22 = .ok (.iconst 1, 1) := dk_4 (dk_at dksX0_not_0 22 rfl rfl)
theorem dX0_not_23 : decode cX0_not 23 = .ok (.isub, 1) := dk_100 (dk_at dksX0_not_0 23 rfl rfl)
theorem dX0_not_24 : decode cX0_not 24 = .ok (.putfield 193, 3) := dk_181 0 193 (dk_at dksX0_not_1 0 rfl rfl)
theorem dX0_not_27 : decode cX0_not 27 = .ok (.new 218, 3) := dk_187 0 218 (dk_at dksX0_not_1 3 rfl rfl)
theorem dX0_not_30 : decode cX0_not 30 = .ok (.dup, 1) := dk_89 (dk_at dksX0_not_1 6 rfl rfl)
theorem dX0_not_31 : decode cX0_not 31 = .ok (.aload_n 1, 1) := dk_43 (dk_at dksX0_not_1 7 rfl rfl)
theorem dX0_not_32 : decode cX0_not 32 = .ok (.iconst 0, 1) := dk_3 (dk_at dksX0_not_1 8 rfl rfl)
theorem dX0_not_33 : decode cX0_not 33 = .ok (.invokespecial 220, 3) := dk_183 0 220 (dk_at dksX0_not_1 9 rfl rfl)
theorem dX0_not_36 : decode cX0_not 36 = .ok (.areturn, 1) := dk_176 (dk_at dksX0_not_1 12 rfl rfl)
theorem dX0_not_37 : decode cX0_not 37 = .ok (.aload_n 0, 1) := dk_42 (dk_at dksX0_not_1 13 rfl rfl)
theorem dX0_not_38 : decode cX0_not 38 = .ok (.invokevirtual 223, 3) := dk_182 0 223 (dk_at dksX0_not_1 14 rfl rfl)
theorem dX0_not_41 : decode cX0_not 41 = .ok (.astore_n 1, 1) := dk_76 (dk_at dksX0_not_1 17 rfl rfl)
theorem dX0_not_42 : decode cX0_not 42 = .ok (.aload_n 0, 1) := dk_42 (dk_at dksX0_not_1 18 rfl rfl)
theorem dX0_not_43 : decode cX0_not 43 = .ok (.bipush 60, 2) := dk_16 60 (dk_at dksX0_not_1 19 rfl rfl)
theorem dX0_not_45 : decode cX0_not 45 = .ok (.invokevirtual 226, 3) := dk_182 0 226 (dk_at dksX0_not_1 21 rfl rfl)
theorem dX0_not_48 : decode cX0_not 48 = .ok (.ifCond .ne 12, 3) := dk_154 0 12 (dk_at dksX0_not_2 0 rfl rfl)
theorem dX0_not_51 : decode cX0_not 51 = .ok (.aload_n 0, 1) := dk_42 (dk_at dksX0_not_2 3 rfl rfl)
theorem dX0_not_52 : decode cX0_not 52 = .ok (.bipush 61, 2) := dk_16 61 (dk_at dksX0_not_2 4 rfl rfl)
theorem dX0_not_54 : decode cX0_not 54 = .ok (.invokevirtual 226, 3) := dk_182 0 226 (dk_at dksX0_not_2 6 rfl rfl)
theorem dX0_not_57 : decode cX0_not 57 = .ok (.ifCond .eq 26, 3) := dk_153 0 26 (dk_at dksX0_not_2 9 rfl rfl)
theorem dX0_not_60 : decode cX0_not 60 = .ok (.aload_n 0, 1) := dk_42 (dk_at dksX0_not_2 12 rfl rfl)
theorem dX0_not_61 : decode cX0_not 61 = .ok (.getfield 159, 3) := dk_180 0 159 (dk_at dksX0_not_2 13 rfl rfl)
theorem dX0_not_64 : decode cX0_not 64 = .ok (.istore_n 2, 1) := dk_61 (dk_at dksX0_not_2 16 rfl rfl)
theorem dX0_not_65 : decode cX0_not 65 = .ok (.aload_n 0, 1) := dk_42 (dk_at dksX0_not_2 17 rfl rfl)
theorem dX0_not_66 : decode cX0_not 66 = .ok (.invokevirtual 190, 3) := dk_182 0 190 (dk_at dksX0_not_2 18 rfl rfl)
theorem dX0_not_69 : decode cX0_not 69 = .ok (.new 207, 3) := dk_187 0 207 (dk_at dksX0_not_2 21 rfl rfl)
theorem dX0_not_72 : decode cX0_not 72 = .ok (.dup, 1) := dk_89 (dk_at dksX0_not_3 0 rfl rfl)
theorem dX0_not_73 : decode cX0_not 73 = .ok (.iload_n 2, 1) := dk_28 (dk_at dksX0_not_3 1 rfl rfl)
theorem dX0_not_74 : decode cX0_not 74 = .ok (.aload_n 1, 1) := dk_43 (dk_at dksX0_not_3 2 rfl rfl)
theorem dX0_not_75 : decode cX0_not 75 = .ok (.aload_n 0, 1) := dk_42 (dk_at dksX0_not_3 3 rfl rfl)
theorem dX0_not_76 : decode cX0_not 76 = .ok (.invokevirtual 223, 3) := dk_182 0 223 (dk_at dksX0_not_3 4 rfl rfl)
theorem dX0_not_79 : decode cX0_not 79 = .ok (.invokespecial 209, 3) := dk_183 0 209 (dk_at dksX0_not_3 7 rfl rfl)
theorem dX0_not_82 : decode cX0_not 82 = .ok (.astore_n 1, 1) := dk_76 (dk_at dksX0_not_3 10 rfl rfl)
theorem dX0_not_83 : decode cX0_not 83 = .ok (.aload_n 1, 1) := dk_43 (dk_at dksX0_not_3 11 rfl rfl)
theorem dX0_not_84 : decode cX0_not 84 = .ok (.areturn, 1) := dk_176 (dk_at dksX0_not_3 12 rfl rfl)
abbrev cX0_openOne : ByteArray := prog_1_method_29_code
def yX0_openOne : MethodName := ⟨RX0, "openOne", "()V"⟩
def dkwX0_openOne_1 : List UInt8 := [181, 0, 193, 177]
abbrev dktX0_openOne_1 : List UInt8 := dkwX0_openOne_1 ++ []
def dkwX0_openOne_0 : List UInt8 := [42, 42, 180, 0, 193, 8, 162, 0, 7, 4, 167, 0, 4, 3, 182, 0, 196, 42, 89, 180, 0, 193, 4, 96]
abbrev dktX0_openOne_0 : List UInt8 := dkwX0_openOne_0 ++ dktX0_openOne_1
theorem dksX0_openOne_0 : cX0_openOne.data.toList.drop 0 = dktX0_openOne_0 := by decide +kernel
theorem dksX0_openOne_1 : cX0_openOne.data.toList.drop 24 = dktX0_openOne_1 := dk_seg dksX0_openOne_0 24 rfl rfl
theorem dX0_openOne_0 : decode cX0_openOne 0 = .ok (.aload_n 0, 1) := dk_42 (dk_at dksX0_openOne_0 0 rfl rfl)
theorem dX0_openOne_1 : decode cX0_openOne 1 = .ok (.aload_n 0, 1) := dk_42 (dk_at dksX0_openOne_0 1 rfl rfl)
theorem dX0_openOne_2 : decode cX0_openOne 2 = .ok (.getfield 193, 3) := dk_180 0 193 (dk_at dksX0_openOne_0 2 rfl rfl)
theorem dX0_openOne_5 : decode cX0_openOne 5 = .ok (.iconst 5, 1) := dk_8 (dk_at dksX0_openOne_0 5 rfl rfl)
theorem dX0_openOne_6 : decode cX0_openOne 6 = .ok (.if_icmp .ge 7, 3) := dk_162 0 7 (dk_at dksX0_openOne_0 6 rfl rfl)
theorem dX0_openOne_9 : decode cX0_openOne 9 = .ok (.iconst 1, 1) := dk_4 (dk_at dksX0_openOne_0 9 rfl rfl)
theorem dX0_openOne_10 : decode cX0_openOne 10 = .ok (.goto 4, 3) := dk_167 0 4 (dk_at dksX0_openOne_0 10 rfl rfl)
theorem dX0_openOne_13 : decode cX0_openOne 13 = .ok (.iconst 0, 1) := dk_3 (dk_at dksX0_openOne_0 13 rfl rfl)
theorem dX0_openOne_14 : decode cX0_openOne 14 = .ok (.invokevirtual 196, 3) := dk_182 0 196 (dk_at dksX0_openOne_0 14 rfl rfl)
theorem dX0_openOne_17 : decode cX0_openOne 17 = .ok (.aload_n 0, 1) := dk_42 (dk_at dksX0_openOne_0 17 rfl rfl)
theorem dX0_openOne_18 : decode cX0_openOne 18 = .ok (.dup, 1) := dk_89 (dk_at dksX0_openOne_0 18 rfl rfl)
theorem dX0_openOne_19 : decode cX0_openOne 19 = .ok (.getfield 193, 3) := dk_180 0 193 (dk_at dksX0_openOne_0 19 rfl rfl)
theorem dX0_openOne_22 : decode cX0_openOne 22 = .ok (.iconst 1, 1) := dk_4 (dk_at dksX0_openOne_0 22 rfl rfl)
theorem dX0_openOne_23 : decode cX0_openOne 23 = .ok (.iadd, 1) := dk_96 (dk_at dksX0_openOne_0 23 rfl rfl)
theorem dX0_openOne_24 : decode cX0_openOne 24 = .ok (.putfield 193, 3) := dk_181 0 193 (dk_at dksX0_openOne_1 0 rfl rfl)
theorem dX0_openOne_27 : decode cX0_openOne 27 = .ok (.return_, 1) := dk_177 (dk_at dksX0_openOne_1 3 rfl rfl)
abbrev cX0_plus : ByteArray := prog_1_method_33_code
def yX0_plus : MethodName := ⟨RX0, "plus", "()LTandemKeepsAPlace$Node;"⟩
def dkwX0_plus_2 : List UInt8 := [167, 255, 215, 43, 176]
abbrev dktX0_plus_2 : List UInt8 := dkwX0_plus_2 ++ []
def dkwX0_plus_1 : List UInt8 := [180, 0, 159, 61, 42, 182, 0, 190, 187, 0, 207, 89, 28, 43, 42, 182, 0, 229, 183, 0, 209, 76]
abbrev dktX0_plus_1 : List UInt8 := dkwX0_plus_1 ++ dktX0_plus_2
def dkwX0_plus_0 : List UInt8 := [42, 182, 0, 229, 76, 42, 16, 43, 182, 0, 226, 154, 0, 12, 42, 16, 45, 182, 0, 226, 153, 0, 29, 42]
abbrev dktX0_plus_0 : List UInt8 := dkwX0_plus_0 ++ dktX0_plus_1
theorem dksX0_plus_0 : cX0_plus.data.toList.drop 0 = dktX0_plus_0 := by decide +kernel
theorem dksX0_plus_1 : cX0_plus.data.toList.drop 24 = dktX0_plus_1 := dk_seg dksX0_plus_0 24 rfl rfl
theorem dksX0_plus_2 : cX0_plus.data.toList.drop 46 = dktX0_plus_2 := dk_seg dksX0_plus_1 22 rfl rfl
theorem dX0_plus_0 : decode cX0_plus 0 = .ok (.aload_n 0, 1) := dk_42 (dk_at dksX0_plus_0 0 rfl rfl)
theorem dX0_plus_1 : decode cX0_plus 1 = .ok (.invokevirtual 229, 3) := dk_182 0 229 (dk_at dksX0_plus_0 1 rfl rfl)
theorem dX0_plus_4 : decode cX0_plus 4 = .ok (.astore_n 1, 1) := dk_76 (dk_at dksX0_plus_0 4 rfl rfl)
theorem dX0_plus_5 : decode cX0_plus 5 = .ok (.aload_n 0, 1) := dk_42 (dk_at dksX0_plus_0 5 rfl rfl)
theorem dX0_plus_6 : decode cX0_plus 6 = .ok (.bipush 43, 2) := dk_16 43 (dk_at dksX0_plus_0 6 rfl rfl)
theorem dX0_plus_8 : decode cX0_plus 8 = .ok (.invokevirtual 226, 3) := dk_182 0 226 (dk_at dksX0_plus_0 8 rfl rfl)
theorem dX0_plus_11 : decode cX0_plus 11 = .ok (.ifCond .ne 12, 3) := dk_154 0 12 (dk_at dksX0_plus_0 11 rfl rfl)
theorem dX0_plus_14 : decode cX0_plus 14 = .ok (.aload_n 0, 1) := dk_42 (dk_at dksX0_plus_0 14 rfl rfl)
theorem dX0_plus_15 : decode cX0_plus 15 = .ok (.bipush 45, 2) := dk_16 45 (dk_at dksX0_plus_0 15 rfl rfl)
theorem dX0_plus_17 : decode cX0_plus 17 = .ok (.invokevirtual 226, 3) := dk_182 0 226 (dk_at dksX0_plus_0 17 rfl rfl)
theorem dX0_plus_20 : decode cX0_plus 20 = .ok (.ifCond .eq 29, 3) := dk_153 0 29 (dk_at dksX0_plus_0 20 rfl rfl)
theorem dX0_plus_23 : decode cX0_plus 23 = .ok (.aload_n 0, 1) := dk_42 (dk_at dksX0_plus_0 23 rfl rfl)
theorem dX0_plus_24 : decode cX0_plus 24 = .ok (.getfield 159, 3) := dk_180 0 159 (dk_at dksX0_plus_1 0 rfl rfl)
theorem dX0_plus_27 : decode cX0_plus 27 = .ok (.istore_n 2, 1) := dk_61 (dk_at dksX0_plus_1 3 rfl rfl)
theorem dX0_plus_28 : decode cX0_plus 28 = .ok (.aload_n 0, 1) := dk_42 (dk_at dksX0_plus_1 4 rfl rfl)
theorem dX0_plus_29 : decode cX0_plus 29 = .ok (.invokevirtual 190, 3) := dk_182 0 190 (dk_at dksX0_plus_1 5 rfl rfl)
theorem dX0_plus_32 : decode cX0_plus 32 = .ok (.new 207, 3) := dk_187 0 207 (dk_at dksX0_plus_1 8 rfl rfl)
theorem dX0_plus_35 : decode cX0_plus 35 = .ok (.dup, 1) := dk_89 (dk_at dksX0_plus_1 11 rfl rfl)
theorem dX0_plus_36 : decode cX0_plus 36 = .ok (.iload_n 2, 1) := dk_28 (dk_at dksX0_plus_1 12 rfl rfl)
theorem dX0_plus_37 : decode cX0_plus 37 = .ok (.aload_n 1, 1) := dk_43 (dk_at dksX0_plus_1 13 rfl rfl)
theorem dX0_plus_38 : decode cX0_plus 38 = .ok (.aload_n 0, 1) := dk_42 (dk_at dksX0_plus_1 14 rfl rfl)
theorem dX0_plus_39 : decode cX0_plus 39 = .ok (.invokevirtual 229, 3) := dk_182 0 229 (dk_at dksX0_plus_1 15 rfl rfl)
theorem dX0_plus_42 : decode cX0_plus 42 = .ok (.invokespecial 209, 3) := dk_183 0 209 (dk_at dksX0_plus_1 18 rfl rfl)
theorem dX0_plus_45 : decode cX0_plus 45 = .ok (.astore_n 1, 1) := dk_76 (dk_at dksX0_plus_1 21 rfl rfl)
theorem dX0_plus_46 : decode cX0_plus 46 = .ok (.goto (-41), 3) := dk_167 255 215 (dk_at dksX0_plus_2 0 rfl rfl)
theorem dX0_plus_49 : decode cX0_plus 49 = .ok (.aload_n 1, 1) := dk_43 (dk_at dksX0_plus_2 3 rfl rfl)
theorem dX0_plus_50 : decode cX0_plus 50 = .ok (.areturn, 1) := dk_176 (dk_at dksX0_plus_2 4 rfl rfl)
abbrev cX0_times : ByteArray := prog_1_method_34_code
def yX0_times : MethodName := ⟨RX0, "times", "()LTandemKeepsAPlace$Node;"⟩
def dkwX0_times_1 : List UInt8 := [43, 42, 182, 0, 232, 183, 0, 209, 76, 167, 255, 228, 43, 176]
abbrev dktX0_times_1 : List UInt8 := dkwX0_times_1 ++ []
def dkwX0_times_0 : List UInt8 := [42, 182, 0, 232, 76, 42, 16, 42, 182, 0, 226, 153, 0, 25, 42, 182, 0, 190, 187, 0, 207, 89, 16, 42]
abbrev dktX0_times_0 : List UInt8 := dkwX0_times_0 ++ dktX0_times_1
theorem dksX0_times_0 : cX0_times.data.toList.drop 0 = dktX0_times_0 := by decide +kernel
theorem dksX0_times_1 : cX0_times.data.toList.drop 24 = dktX0_times_1 := dk_seg dksX0_times_0 24 rfl rfl
theorem dX0_times_0 : decode cX0_times 0 = .ok (.aload_n 0, 1) := dk_42 (dk_at dksX0_times_0 0 rfl rfl)
theorem dX0_times_1 : decode cX0_times 1 = .ok (.invokevirtual 232, 3) := dk_182 0 232 (dk_at dksX0_times_0 1 rfl rfl)
theorem dX0_times_4 : decode cX0_times 4 = .ok (.astore_n 1, 1) := dk_76 (dk_at dksX0_times_0 4 rfl rfl)
theorem dX0_times_5 : decode cX0_times 5 = .ok (.aload_n 0, 1) := dk_42 (dk_at dksX0_times_0 5 rfl rfl)
theorem dX0_times_6 : decode cX0_times 6 = .ok (.bipush 42, 2) := dk_16 42 (dk_at dksX0_times_0 6 rfl rfl)
theorem dX0_times_8 : decode cX0_times 8 = .ok (.invokevirtual 226, 3) := dk_182 0 226 (dk_at dksX0_times_0 8 rfl rfl)
theorem dX0_times_11 : decode cX0_times 11 = .ok (.ifCond .eq 25, 3) := dk_153 0 25 (dk_at dksX0_times_0 11 rfl rfl)
theorem dX0_times_14 : decode cX0_times 14 = .ok (.aload_n 0, 1) := dk_42 (dk_at dksX0_times_0 14 rfl rfl)
theorem dX0_times_15 : decode cX0_times 15 = .ok (.invokevirtual 190, 3) := dk_182 0 190 (dk_at dksX0_times_0 15 rfl rfl)
theorem dX0_times_18 : decode cX0_times 18 = .ok (.new 207, 3) := dk_187 0 207 (dk_at dksX0_times_0 18 rfl rfl)
theorem dX0_times_21 : decode cX0_times 21 = .ok (.dup, 1) := dk_89 (dk_at dksX0_times_0 21 rfl rfl)
theorem dX0_times_22 : decode cX0_times 22 = .ok (.bipush 42, 2) := dk_16 42 (dk_at dksX0_times_0 22 rfl rfl)
theorem dX0_times_24 : decode cX0_times 24 = .ok (.aload_n 1, 1) := dk_43 (dk_at dksX0_times_1 0 rfl rfl)
theorem dX0_times_25 : decode cX0_times 25 = .ok (.aload_n 0, 1) := dk_42 (dk_at dksX0_times_1 1 rfl rfl)
theorem dX0_times_26 : decode cX0_times 26 = .ok (.invokevirtual 232, 3) := dk_182 0 232 (dk_at dksX0_times_1 2 rfl rfl)
theorem dX0_times_29 : decode cX0_times 29 = .ok (.invokespecial 209, 3) := dk_183 0 209 (dk_at dksX0_times_1 5 rfl rfl)
theorem dX0_times_32 : decode cX0_times 32 = .ok (.astore_n 1, 1) := dk_76 (dk_at dksX0_times_1 8 rfl rfl)
theorem dX0_times_33 : decode cX0_times 33 = .ok (.goto (-28), 3) := dk_167 255 228 (dk_at dksX0_times_1 9 rfl rfl)
theorem dX0_times_36 : decode cX0_times 36 = .ok (.aload_n 1, 1) := dk_43 (dk_at dksX0_times_1 12 rfl rfl)
theorem dX0_times_37 : decode cX0_times 37 = .ok (.areturn, 1) := dk_176 (dk_at dksX0_times_1 13 rfl rfl)
abbrev cX0_one : ByteArray := prog_1_method_35_code
def yX0_one : MethodName := ⟨RX0, "one", "()LTandemKeepsAPlace$Node;"⟩
def dkwX0_one_5 : List UInt8 := [154, 0, 8, 42, 180, 0, 169, 191, 42, 89, 180, 0, 193, 4, 100, 181, 0, 193, 42, 182, 0, 190, 44, 176]
abbrev dktX0_one_5 : List UInt8 := dkwX0_one_5 ++ []
def dkwX0_one_4 : List UInt8 := [154, 0, 8, 42, 180, 0, 169, 191, 42, 182, 0, 215, 42, 182, 0, 245, 77, 42, 16, 41, 182, 0, 226]
abbrev dktX0_one_4 : List UInt8 := dkwX0_one_4 ++ dktX0_one_5
def dkwX0_one_3 : List UInt8 := [180, 0, 193, 4, 100, 181, 0, 193, 187, 0, 218, 89, 44, 4, 183, 0, 220, 176, 42, 16, 40, 182, 0, 226]
abbrev dktX0_one_3 : List UInt8 := dkwX0_one_3 ++ dktX0_one_4
def dkwX0_one_2 : List UInt8 := [183, 0, 242, 176, 42, 16, 45, 182, 0, 226, 153, 0, 32, 42, 182, 0, 215, 42, 182, 0, 232, 77, 42, 89]
abbrev dktX0_one_2 : List UInt8 := dkwX0_one_2 ++ dktX0_one_3
def dkwX0_one_1 : List UInt8 := [183, 0, 237, 176, 42, 180, 0, 144, 5, 160, 0, 17, 42, 182, 0, 190, 187, 0, 240, 89, 42, 27]
abbrev dktX0_one_1 : List UInt8 := dkwX0_one_1 ++ dktX0_one_2
def dkwX0_one_0 : List UInt8 := [42, 180, 0, 159, 60, 42, 180, 0, 144, 6, 160, 0, 16, 42, 182, 0, 190, 187, 0, 235, 89, 27]
abbrev dktX0_one_0 : List UInt8 := dkwX0_one_0 ++ dktX0_one_1
theorem dksX0_one_0 : cX0_one.data.toList.drop 0 = dktX0_one_0 := by decide +kernel
theorem dksX0_one_1 : cX0_one.data.toList.drop 22 = dktX0_one_1 := dk_seg dksX0_one_0 22 rfl rfl
theorem dksX0_one_2 : cX0_one.data.toList.drop 44 = dktX0_one_2 := dk_seg dksX0_one_1 22 rfl rfl
theorem dksX0_one_3 : cX0_one.data.toList.drop 68 = dktX0_one_3 := dk_seg dksX0_one_2 24 rfl rfl
theorem dksX0_one_4 : cX0_one.data.toList.drop 92 = dktX0_one_4 := dk_seg dksX0_one_3 24 rfl rfl
theorem dksX0_one_5 : cX0_one.data.toList.drop 115 = dktX0_one_5 := dk_seg dksX0_one_4 23 rfl rfl
theorem dX0_one_0 : decode cX0_one 0 = .ok (.aload_n 0, 1) := dk_42 (dk_at dksX0_one_0 0 rfl rfl)
theorem dX0_one_1 : decode cX0_one 1 = .ok (.getfield 159, 3) := dk_180 0 159 (dk_at dksX0_one_0 1 rfl rfl)
theorem dX0_one_4 : decode cX0_one 4 = .ok (.istore_n 1, 1) := dk_60 (dk_at dksX0_one_0 4 rfl rfl)
theorem dX0_one_5 : decode cX0_one 5 = .ok (.aload_n 0, 1) := dk_42 (dk_at dksX0_one_0 5 rfl rfl)
theorem dX0_one_6 : decode cX0_one 6 = .ok (.getfield 144, 3) := dk_180 0 144 (dk_at dksX0_one_0 6 rfl rfl)
theorem dX0_one_9 : decode cX0_one 9 = .ok (.iconst 3, 1) := dk_6 (dk_at dksX0_one_0 9 rfl rfl)
theorem dX0_one_10 : decode cX0_one 10 = .ok (.if_icmp .ne 16, 3) := dk_160 0 16 (dk_at dksX0_one_0 10 rfl rfl)
theorem dX0_one_13 : decode cX0_one 13 = .ok (.aload_n 0, 1) := dk_42 (dk_at dksX0_one_0 13 rfl rfl)
theorem dX0_one_14 : decode cX0_one 14 = .ok (.invokevirtual 190, 3) := dk_182 0 190 (dk_at dksX0_one_0 14 rfl rfl)
theorem dX0_one_17 : decode cX0_one 17 = .ok (.new 235, 3) := dk_187 0 235 (dk_at dksX0_one_0 17 rfl rfl)
theorem dX0_one_20 : decode cX0_one 20 = .ok (.dup, 1) := dk_89 (dk_at dksX0_one_0 20 rfl rfl)
theorem dX0_one_21 : decode cX0_one 21 = .ok (.iload_n 1, 1) := dk_27 (dk_at dksX0_one_0 21 rfl rfl)
theorem dX0_one_22 : decode cX0_one 22 = .ok (.invokespecial 237, 3) := dk_183 0 237 (dk_at dksX0_one_1 0 rfl rfl)
theorem dX0_one_25 : decode cX0_one 25 = .ok (.areturn, 1) := dk_176 (dk_at dksX0_one_1 3 rfl rfl)
theorem dX0_one_26 : decode cX0_one 26 = .ok (.aload_n 0, 1) := dk_42 (dk_at dksX0_one_1 4 rfl rfl)
theorem dX0_one_27 : decode cX0_one 27 = .ok (.getfield 144, 3) := dk_180 0 144 (dk_at dksX0_one_1 5 rfl rfl)
theorem dX0_one_30 : decode cX0_one 30 = .ok (.iconst 2, 1) := dk_5 (dk_at dksX0_one_1 8 rfl rfl)
theorem dX0_one_31 : decode cX0_one 31 = .ok (.if_icmp .ne 17, 3) := dk_160 0 17 (dk_at dksX0_one_1 9 rfl rfl)
theorem dX0_one_34 : decode cX0_one 34 = .ok (.aload_n 0, 1) := dk_42 (dk_at dksX0_one_1 12 rfl rfl)
theorem dX0_one_35 : decode cX0_one 35 = .ok (.invokevirtual 190, 3) := dk_182 0 190 (dk_at dksX0_one_1 13 rfl rfl)
theorem dX0_one_38 : decode cX0_one 38 = .ok (.new 240, 3) := dk_187 0 240 (dk_at dksX0_one_1 16 rfl rfl)
theorem dX0_one_41 : decode cX0_one 41 = .ok (.dup, 1) := dk_89 (dk_at dksX0_one_1 19 rfl rfl)
theorem dX0_one_42 : decode cX0_one 42 = .ok (.aload_n 0, 1) := dk_42 (dk_at dksX0_one_1 20 rfl rfl)
theorem dX0_one_43 : decode cX0_one 43 = .ok (.iload_n 1, 1) := dk_27 (dk_at dksX0_one_1 21 rfl rfl)
theorem dX0_one_44 : decode cX0_one 44 = .ok (.invokespecial 242, 3) := dk_183 0 242 (dk_at dksX0_one_2 0 rfl rfl)
theorem dX0_one_47 : decode cX0_one 47 = .ok (.areturn, 1) := dk_176 (dk_at dksX0_one_2 3 rfl rfl)
theorem dX0_one_48 : decode cX0_one 48 = .ok (.aload_n 0, 1) := dk_42 (dk_at dksX0_one_2 4 rfl rfl)
theorem dX0_one_49 : decode cX0_one 49 = .ok (.bipush 45, 2) := dk_16 45 (dk_at dksX0_one_2 5 rfl rfl)
theorem dX0_one_51 : decode cX0_one 51 = .ok (.invokevirtual 226, 3) := dk_182 0 226 (dk_at dksX0_one_2 7 rfl rfl)
theorem dX0_one_54 : decode cX0_one 54 = .ok (.ifCond .eq 32, 3) := dk_153 0 32 (dk_at dksX0_one_2 10 rfl rfl)
theorem dX0_one_57 : decode cX0_one 57 = .ok (.aload_n 0, 1) := dk_42 (dk_at dksX0_one_2 13 rfl rfl)
theorem dX0_one_58 : decode cX0_one 58 = .ok (.invokevirtual 215, 3) := dk_182 0 215 (dk_at dksX0_one_2 14 rfl rfl)
theorem dX0_one_61 : decode cX0_one 61 = .ok (.aload_n 0, 1) := dk_42 (dk_at dksX0_one_2 17 rfl rfl)
theorem dX0_one_62 : decode cX0_one 62 = .ok (.invokevirtual 232, 3) := dk_182 0 232 (dk_at dksX0_one_2 18 rfl rfl)
theorem dX0_one_65 : decode cX0_one 65 = .ok (.astore_n 2, 1) := dk_77 (dk_at dksX0_one_2 21 rfl rfl)
theorem dX0_one_66 : decode cX0_one 66 = .ok (.aload_n 0, 1) := dk_42 (dk_at dksX0_one_2 22 rfl rfl)
theorem dX0_one_67 : decode cX0_one 67 = .ok (.dup, 1) := dk_89 (dk_at dksX0_one_2 23 rfl rfl)
theorem dX0_one_68 : decode cX0_one 68 = .ok (.getfield 193, 3) := dk_180 0 193 (dk_at dksX0_one_3 0 rfl rfl)
theorem dX0_one_71 : decode cX0_one 71 = .ok (.iconst 1, 1) := dk_4 (dk_at dksX0_one_3 3 rfl rfl)
theorem dX0_one_72 : decode cX0_one 72 = .ok (.isub, 1) := dk_100 (dk_at dksX0_one_3 4 rfl rfl)
theorem dX0_one_73 : decode cX0_one 73 = .ok (.putfield 193, 3) := dk_181 0 193 (dk_at dksX0_one_3 5 rfl rfl)
theorem dX0_one_76 : decode cX0_one 76 = .ok (.new 218, 3) := dk_187 0 218 (dk_at dksX0_one_3 8 rfl rfl)
theorem dX0_one_79 : decode cX0_one 79 = .ok (.dup, 1) := dk_89 (dk_at dksX0_one_3 11 rfl rfl)
theorem dX0_one_80 : decode cX0_one 80 = .ok (.aload_n 2, 1) := dk_44 (dk_at dksX0_one_3 12 rfl rfl)
theorem dX0_one_81 : decode cX0_one 81 = .ok (.iconst 1, 1) := dk_4 (dk_at dksX0_one_3 13 rfl rfl)
theorem dX0_one_82 : decode cX0_one 82 = .ok (.invokespecial 220, 3) := dk_183 0 220 (dk_at dksX0_one_3 14 rfl rfl)
theorem dX0_one_85 : decode cX0_one 85 = .ok (.areturn, 1) := dk_176 (dk_at dksX0_one_3 17 rfl rfl)
theorem dX0_one_86 : decode cX0_one 86 = .ok (.aload_n 0, 1) := dk_42 (dk_at dksX0_one_3 18 rfl rfl)
theorem dX0_one_87 : decode cX0_one 87 = .ok (.bipush 40, 2) := dk_16 40 (dk_at dksX0_one_3 19 rfl rfl)
theorem dX0_one_89 : decode cX0_one 89 = .ok (.invokevirtual 226, 3) := dk_182 0 226 (dk_at dksX0_one_3 21 rfl rfl)
theorem dX0_one_92 : decode cX0_one 92 = .ok (.ifCond .ne 8, 3) := dk_154 0 8 (dk_at dksX0_one_4 0 rfl rfl)
theorem dX0_one_95 : decode cX0_one 95 = .ok (.aload_n 0, 1) := dk_42 (dk_at dksX0_one_4 3 rfl rfl)
theorem dX0_one_96 : decode cX0_one 96 = .ok (.getfield 169, 3) := dk_180 0 169 (dk_at dksX0_one_4 4 rfl rfl)
theorem dX0_one_99 : decode cX0_one 99 = .ok (.athrow, 1) := dk_191 (dk_at dksX0_one_4 7 rfl rfl)
theorem dX0_one_100 : decode cX0_one 100 = .ok (.aload_n 0, 1) := dk_42 (dk_at dksX0_one_4 8 rfl rfl)
theorem dX0_one_101 : decode cX0_one 101 = .ok (.invokevirtual 215, 3) := dk_182 0 215 (dk_at dksX0_one_4 9 rfl rfl)
theorem dX0_one_104 : decode cX0_one 104 = .ok (.aload_n 0, 1) := dk_42 (dk_at dksX0_one_4 12 rfl rfl)
theorem dX0_one_105 : decode cX0_one 105 = .ok (.invokevirtual 245, 3) := dk_182 0 245 (dk_at dksX0_one_4 13 rfl rfl)
theorem dX0_one_108 : decode cX0_one 108 = .ok (.astore_n 2, 1) := dk_77 (dk_at dksX0_one_4 16 rfl rfl)
theorem dX0_one_109 : decode cX0_one 109 = .ok (.aload_n 0, 1) := dk_42 (dk_at dksX0_one_4 17 rfl rfl)
theorem dX0_one_110 : decode cX0_one 110 = .ok (.bipush 41, 2) := dk_16 41 (dk_at dksX0_one_4 18 rfl rfl)
theorem dX0_one_112 : decode cX0_one 112 = .ok (.invokevirtual 226, 3) := dk_182 0 226 (dk_at dksX0_one_4 20 rfl rfl)
theorem dX0_one_115 : decode cX0_one 115 = .ok (.ifCond .ne 8, 3) := dk_154 0 8 (dk_at dksX0_one_5 0 rfl rfl)
theorem dX0_one_118 : decode cX0_one 118 = .ok (.aload_n 0, 1) := dk_42 (dk_at dksX0_one_5 3 rfl rfl)
theorem dX0_one_119 : decode cX0_one 119 = .ok (.getfield 169, 3) := dk_180 0 169 (dk_at dksX0_one_5 4 rfl rfl)
theorem dX0_one_122 : decode cX0_one 122 = .ok (.athrow, 1) := dk_191 (dk_at dksX0_one_5 7 rfl rfl)
theorem dX0_one_123 : decode cX0_one 123 = .ok (.aload_n 0, 1) := dk_42 (dk_at dksX0_one_5 8 rfl rfl)
theorem dX0_one_124 : decode cX0_one 124 = .ok (.dup, 1) := dk_89 (dk_at dksX0_one_5 9 rfl rfl)
theorem dX0_one_125 : decode cX0_one 125 = .ok (.getfield 193, 3) := dk_180 0 193 (dk_at dksX0_one_5 10 rfl rfl)
theorem dX0_one_128 : decode cX0_one 128 = .ok (.iconst 1, 1) := dk_4 (dk_at dksX0_one_5 13 rfl rfl)
theorem dX0_one_129 : decode cX0_one 129 = .ok (.isub, 1) := dk_100 (dk_at dksX0_one_5 14 rfl rfl)
theorem dX0_one_130 : decode cX0_one 130 = .ok (.putfield 193, 3) := dk_181 0 193 (dk_at dksX0_one_5 15 rfl rfl)
theorem dX0_one_133 : decode cX0_one 133 = .ok (.aload_n 0, 1) := dk_42 (dk_at dksX0_one_5 18 rfl rfl)
theorem dX0_one_134 : decode cX0_one 134 = .ok (.invokevirtual 190, 3) := dk_182 0 190 (dk_at dksX0_one_5 19 rfl rfl)
theorem dX0_one_137 : decode cX0_one 137 = .ok (.aload_n 2, 1) := dk_44 (dk_at dksX0_one_5 22 rfl rfl)
theorem dX0_one_138 : decode cX0_one 138 = .ok (.areturn, 1) := dk_176 (dk_at dksX0_one_5 23 rfl rfl)
abbrev cX0_isSign : ByteArray := prog_1_method_26_code
def yX0_isSign : MethodName := ⟨RX0, "isSign", "(I)Z"⟩
def dkwX0_isSign_0 : List UInt8 := [42, 180, 0, 144, 7, 160, 0, 15, 42, 180, 0, 159, 27, 160, 0, 7, 4, 167, 0, 4, 3, 172]
abbrev dktX0_isSign_0 : List UInt8 := dkwX0_isSign_0 ++ []
theorem dksX0_isSign_0 : cX0_isSign.data.toList.drop 0 = dktX0_isSign_0 := by decide +kernel
theorem dX0_isSign_0 : decode cX0_isSign 0 = .ok (.aload_n 0, 1) := dk_42 (dk_at dksX0_isSign_0 0 rfl rfl)
theorem dX0_isSign_1 : decode cX0_isSign 1 = .ok (.getfield 144, 3) := dk_180 0 144 (dk_at dksX0_isSign_0 1 rfl rfl)
theorem dX0_isSign_4 : decode cX0_isSign 4 = .ok (.iconst 4, 1) := dk_7 (dk_at dksX0_isSign_0 4 rfl rfl)
theorem dX0_isSign_5 : decode cX0_isSign 5 = .ok (.if_icmp .ne 15, 3) := dk_160 0 15 (dk_at dksX0_isSign_0 5 rfl rfl)
theorem dX0_isSign_8 : decode cX0_isSign 8 = .ok (.aload_n 0, 1) := dk_42 (dk_at dksX0_isSign_0 8 rfl rfl)
theorem dX0_isSign_9 : decode cX0_isSign 9 = .ok (.getfield 159, 3) := dk_180 0 159 (dk_at dksX0_isSign_0 9 rfl rfl)
theorem dX0_isSign_12 : decode cX0_isSign 12 = .ok (.iload_n 1, 1) := dk_27 (dk_at dksX0_isSign_0 12 rfl rfl)
theorem dX0_isSign_13 : decode cX0_isSign 13 = .ok (.if_icmp .ne 7, 3) := dk_160 0 7 (dk_at dksX0_isSign_0 13 rfl rfl)
theorem dX0_isSign_16 : decode cX0_isSign 16 = .ok (.iconst 1, 1) := dk_4 (dk_at dksX0_isSign_0 16 rfl rfl)
theorem dX0_isSign_17 : decode cX0_isSign 17 = .ok (.goto 4, 3) := dk_167 0 4 (dk_at dksX0_isSign_0 17 rfl rfl)
theorem dX0_isSign_20 : decode cX0_isSign 20 = .ok (.iconst 0, 1) := dk_3 (dk_at dksX0_isSign_0 20 rfl rfl)
theorem dX0_isSign_21 : decode cX0_isSign 21 = .ok (.ireturn, 1) := dk_172 (dk_at dksX0_isSign_0 21 rfl rfl)
abbrev cX0_init : ByteArray := prog_1_method_41_code
def yX0_init : MethodName := ⟨RX0, "<init>", "()V"⟩
def dkwX0_init_11 : List UInt8 := [42, 182, 0, 75, 177]
abbrev dktX0_init_11 : List UInt8 := dkwX0_init_11 ++ []
def dkwX0_init_10 : List UInt8 := [183, 1, 58, 83, 89, 6, 187, 1, 56, 89, 183, 1, 58, 83, 181, 1, 59, 42, 19, 1, 63, 182, 1, 65]
abbrev dktX0_init_10 : List UInt8 := dkwX0_init_10 ++ dktX0_init_11
def dkwX0_init_9 : List UInt8 := [187, 1, 56, 89, 183, 1, 58, 83, 89, 4, 187, 1, 56, 89, 183, 1, 58, 83, 89, 5, 187, 1, 56, 89]
abbrev dktX0_init_9 : List UInt8 := dkwX0_init_9 ++ dktX0_init_10
def dkwX0_init_8 : List UInt8 := [6, 16, 6, 197, 1, 15, 2, 181, 1, 50, 42, 6, 188, 10, 181, 1, 53, 42, 7, 189, 1, 56, 89, 3]
abbrev dktX0_init_8 : List UInt8 := dkwX0_init_8 ++ dktX0_init_9
def dkwX0_init_7 : List UInt8 := [181, 1, 40, 42, 16, 6, 188, 10, 181, 1, 44, 42, 16, 8, 16, 8, 197, 1, 15, 2, 181, 1, 47, 42]
abbrev dktX0_init_7 : List UInt8 := dkwX0_init_7 ++ dktX0_init_8
def dkwX0_init_6 : List UInt8 := [83, 89, 8, 19, 1, 38, 83, 181, 0, 187, 42, 17, 0, 160, 188, 8, 181, 0, 123, 42, 16, 41, 188, 10]
abbrev dktX0_init_6 : List UInt8 := dkwX0_init_6 ++ dktX0_init_7
def dkwX0_init_5 : List UInt8 := [83, 89, 4, 19, 1, 32, 83, 89, 5, 19, 1, 33, 83, 89, 6, 19, 1, 35, 83, 89, 7, 19, 1, 36]
abbrev dktX0_init_5 : List UInt8 := dkwX0_init_5 ++ dktX0_init_6
def dkwX0_init_4 : List UInt8 := [19, 1, 27, 83, 89, 8, 19, 1, 29, 83, 181, 0, 179, 42, 16, 6, 189, 0, 165, 89, 3, 19, 1, 30]
abbrev dktX0_init_4 : List UInt8 := dkwX0_init_4 ++ dktX0_init_5
def dkwX0_init_3 : List UInt8 := [19, 1, 19, 83, 89, 4, 19, 1, 21, 83, 89, 5, 19, 1, 23, 83, 89, 6, 19, 1, 25, 83, 89, 7]
abbrev dktX0_init_3 : List UInt8 := dkwX0_init_3 ++ dktX0_init_4
def dkwX0_init_2 : List UInt8 := [183, 1, 16, 181, 0, 169, 42, 16, 6, 189, 1, 17, 181, 0, 255, 42, 16, 6, 189, 0, 165, 89, 3]
abbrev dktX0_init_2 : List UInt8 := dkwX0_init_2 ++ dktX0_init_3
def dkwX0_init_1 : List UInt8 := [197, 1, 15, 2, 181, 0, 72, 42, 16, 8, 16, 8, 197, 1, 15, 2, 181, 0, 68, 42, 187, 0, 253, 89]
abbrev dktX0_init_1 : List UInt8 := dkwX0_init_1 ++ dktX0_init_2
def dkwX0_init_0 : List UInt8 := [42, 183, 1, 11, 42, 16, 6, 189, 0, 50, 181, 0, 60, 42, 16, 9, 181, 0, 87, 42, 16, 8, 16, 8]
abbrev dktX0_init_0 : List UInt8 := dkwX0_init_0 ++ dktX0_init_1
theorem dksX0_init_0 : cX0_init.data.toList.drop 0 = dktX0_init_0 := by decide +kernel
theorem dksX0_init_1 : cX0_init.data.toList.drop 24 = dktX0_init_1 := dk_seg dksX0_init_0 24 rfl rfl
theorem dksX0_init_2 : cX0_init.data.toList.drop 48 = dktX0_init_2 := dk_seg dksX0_init_1 24 rfl rfl
theorem dksX0_init_3 : cX0_init.data.toList.drop 71 = dktX0_init_3 := dk_seg dksX0_init_2 23 rfl rfl
theorem dksX0_init_4 : cX0_init.data.toList.drop 95 = dktX0_init_4 := dk_seg dksX0_init_3 24 rfl rfl
theorem dksX0_init_5 : cX0_init.data.toList.drop 119 = dktX0_init_5 := dk_seg dksX0_init_4 24 rfl rfl
theorem dksX0_init_6 : cX0_init.data.toList.drop 143 = dktX0_init_6 := dk_seg dksX0_init_5 24 rfl rfl
theorem dksX0_init_7 : cX0_init.data.toList.drop 167 = dktX0_init_7 := dk_seg dksX0_init_6 24 rfl rfl
theorem dksX0_init_8 : cX0_init.data.toList.drop 191 = dktX0_init_8 := dk_seg dksX0_init_7 24 rfl rfl
theorem dksX0_init_9 : cX0_init.data.toList.drop 215 = dktX0_init_9 := dk_seg dksX0_init_8 24 rfl rfl
theorem dksX0_init_10 : cX0_init.data.toList.drop 239 = dktX0_init_10 := dk_seg dksX0_init_9 24 rfl rfl
theorem dksX0_init_11 : cX0_init.data.toList.drop 263 = dktX0_init_11 := dk_seg dksX0_init_10 24 rfl rfl
theorem dX0_init_0 : decode cX0_init 0 = .ok (.aload_n 0, 1) := dk_42 (dk_at dksX0_init_0 0 rfl rfl)
theorem dX0_init_1 : decode cX0_init 1 = .ok (.invokespecial 267, 3) := dk_183 1 11 (dk_at dksX0_init_0 1 rfl rfl)
theorem dX0_init_4 : decode cX0_init 4 = .ok (.aload_n 0, 1) := dk_42 (dk_at dksX0_init_0 4 rfl rfl)
theorem dX0_init_5 : decode cX0_init 5 = .ok (.bipush 6, 2) := dk_16 6 (dk_at dksX0_init_0 5 rfl rfl)
theorem dX0_init_7 : decode cX0_init 7 = .ok (.anewarray 50, 3) := dk_189 0 50 (dk_at dksX0_init_0 7 rfl rfl)
theorem dX0_init_10 : decode cX0_init 10 = .ok (.putfield 60, 3) := dk_181 0 60 (dk_at dksX0_init_0 10 rfl rfl)
theorem dX0_init_13 : decode cX0_init 13 = .ok (.aload_n 0, 1) := dk_42 (dk_at dksX0_init_0 13 rfl rfl)
theorem dX0_init_14 : decode cX0_init 14 = .ok (.bipush 9, 2) := dk_16 9 (dk_at dksX0_init_0 14 rfl rfl)
theorem dX0_init_16 : decode cX0_init 16 = .ok (.putfield 87, 3) := dk_181 0 87 (dk_at dksX0_init_0 16 rfl rfl)
theorem dX0_init_19 : decode cX0_init 19 = .ok (.aload_n 0, 1) := dk_42 (dk_at dksX0_init_0 19 rfl rfl)
theorem dX0_init_20 : decode cX0_init 20 = .ok (.bipush 8, 2) := dk_16 8 (dk_at dksX0_init_0 20 rfl rfl)
theorem dX0_init_22 : decode cX0_init 22 = .ok (.bipush 8, 2) := dk_16 8 (dk_at dksX0_init_0 22 rfl rfl)
theorem dX0_init_24 : decode cX0_init 24 = .ok (.multianewarray 271 2, 4) := by decide +kernel
theorem dX0_init_28 : decode cX0_init 28 = .ok (.putfield 72, 3) := dk_181 0 72 (dk_at dksX0_init_1 4 rfl rfl)
theorem dX0_init_31 : decode cX0_init 31 = .ok (.aload_n 0, 1) := dk_42 (dk_at dksX0_init_1 7 rfl rfl)
theorem dX0_init_32 : decode cX0_init 32 = .ok (.bipush 8, 2) := dk_16 8 (dk_at dksX0_init_1 8 rfl rfl)
theorem dX0_init_34 : decode cX0_init 34 = .ok (.bipush 8, 2) := dk_16 8 (dk_at dksX0_init_1 10 rfl rfl)
theorem dX0_init_36 : decode cX0_init 36 = .ok (.multianewarray 271 2, 4) := by decide +kernel
theorem dX0_init_40 : decode cX0_init 40 = .ok (.putfield 68, 3) := dk_181 0 68 (dk_at dksX0_init_1 16 rfl rfl)
theorem dX0_init_43 : decode cX0_init 43 = .ok (.aload_n 0, 1) := dk_42 (dk_at dksX0_init_1 19 rfl rfl)
theorem dX0_init_44 : decode cX0_init 44 = .ok (.new 253, 3) := dk_187 0 253 (dk_at dksX0_init_1 20 rfl rfl)
theorem dX0_init_47 : decode cX0_init 47 = .ok (.dup, 1) := dk_89 (dk_at dksX0_init_1 23 rfl rfl)
theorem dX0_init_48 : decode cX0_init 48 = .ok (.invokespecial 272, 3) := dk_183 1 16 (dk_at dksX0_init_2 0 rfl rfl)
theorem dX0_init_51 : decode cX0_init 51 = .ok (.putfield 169, 3) := dk_181 0 169 (dk_at dksX0_init_2 3 rfl rfl)
theorem dX0_init_54 : decode cX0_init 54 = .ok (.aload_n 0, 1) := dk_42 (dk_at dksX0_init_2 6 rfl rfl)
theorem dX0_init_55 : decode cX0_init 55 = .ok (.bipush 6, 2) := dk_16 6 (dk_at dksX0_init_2 7 rfl rfl)
theorem dX0_init_57 : decode cX0_init 57 = .ok (.anewarray 273, 3) := dk_189 1 17 (dk_at dksX0_init_2 9 rfl rfl)
theorem dX0_init_60 : decode cX0_init 60 = .ok (.putfield 255, 3) := dk_181 0 255 (dk_at dksX0_init_2 12 rfl rfl)
theorem dX0_init_63 : decode cX0_init 63 = .ok (.aload_n 0, 1) := dk_42 (dk_at dksX0_init_2 15 rfl rfl)
theorem dX0_init_64 : decode cX0_init 64 = .ok (.bipush 6, 2) := dk_16 6 (dk_at dksX0_init_2 16 rfl rfl)
theorem dX0_init_66 : decode cX0_init 66 = .ok (.anewarray 165, 3) := dk_189 0 165 (dk_at dksX0_init_2 18 rfl rfl)
theorem dX0_init_69 : decode cX0_init 69 = .ok (.dup, 1) := dk_89 (dk_at dksX0_init_2 21 rfl rfl)
theorem dX0_init_70 : decode cX0_init 70 = .ok (.iconst 0, 1) := dk_3 (dk_at dksX0_init_2 22 rfl rfl)
theorem dX0_init_71 : decode cX0_init 71 = .ok (.ldc_w 275, 3) := dk_19 1 19 (dk_at dksX0_init_3 0 rfl rfl)
theorem dX0_init_74 : decode cX0_init 74 = .ok (.aastore, 1) := dk_83 (dk_at dksX0_init_3 3 rfl rfl)
theorem dX0_init_75 : decode cX0_init 75 = .ok (.dup, 1) := dk_89 (dk_at dksX0_init_3 4 rfl rfl)
theorem dX0_init_76 : decode cX0_init 76 = .ok (.iconst 1, 1) := dk_4 (dk_at dksX0_init_3 5 rfl rfl)
theorem dX0_init_77 : decode cX0_init 77 = .ok (.ldc_w 277, 3) := dk_19 1 21 (dk_at dksX0_init_3 6 rfl rfl)
theorem dX0_init_80 : decode cX0_init 80 = .ok (.aastore, 1) := dk_83 (dk_at dksX0_init_3 9 rfl rfl)
theorem dX0_init_81 : decode cX0_init 81 = .ok (.dup, 1) := dk_89 (dk_at dksX0_init_3 10 rfl rfl)
theorem dX0_init_82 : decode cX0_init 82 = .ok (.iconst 2, 1) := dk_5 (dk_at dksX0_init_3 11 rfl rfl)
theorem dX0_init_83 : decode cX0_init 83 = .ok (.ldc_w 279, 3) := dk_19 1 23 (dk_at dksX0_init_3 12 rfl rfl)
theorem dX0_init_86 : decode cX0_init 86 = .ok (.aastore, 1) := dk_83 (dk_at dksX0_init_3 15 rfl rfl)
theorem dX0_init_87 : decode cX0_init 87 = .ok (.dup, 1) := dk_89 (dk_at dksX0_init_3 16 rfl rfl)
theorem dX0_init_88 : decode cX0_init 88 = .ok (.iconst 3, 1) := dk_6 (dk_at dksX0_init_3 17 rfl rfl)
theorem dX0_init_89 : decode cX0_init 89 = .ok (.ldc_w 281, 3) := dk_19 1 25 (dk_at dksX0_init_3 18 rfl rfl)
theorem dX0_init_92 : decode cX0_init 92 = .ok (.aastore, 1) := dk_83 (dk_at dksX0_init_3 21 rfl rfl)
theorem dX0_init_93 : decode cX0_init 93 = .ok (.dup, 1) := dk_89 (dk_at dksX0_init_3 22 rfl rfl)
theorem dX0_init_94 : decode cX0_init 94 = .ok (.iconst 4, 1) := dk_7 (dk_at dksX0_init_3 23 rfl rfl)
theorem dX0_init_95 : decode cX0_init 95 = .ok (.ldc_w 283, 3) := dk_19 1 27 (dk_at dksX0_init_4 0 rfl rfl)
theorem dX0_init_98 : decode cX0_init 98 = .ok (.aastore, 1) := dk_83 (dk_at dksX0_init_4 3 rfl rfl)
theorem dX0_init_99 : decode cX0_init 99 = .ok (.dup, 1) := dk_89 (dk_at dksX0_init_4 4 rfl rfl)
theorem dX0_init_100 : decode cX0_init 100 = .ok (.iconst 5, 1) := dk_8 (dk_at dksX0_init_4 5 rfl rfl)
theorem dX0_init_101 : decode cX0_init 101 = .ok (.ldc_w 285, 3) := dk_19 1 29 (dk_at dksX0_init_4 6 rfl rfl)
theorem dX0_init_104 : decode cX0_init 104 = .ok (.aastore, 1) := dk_83 (dk_at dksX0_init_4 9 rfl rfl)
theorem dX0_init_105 : decode cX0_init 105 = .ok (.putfield 179, 3) := dk_181 0 179 (dk_at dksX0_init_4 10 rfl rfl)
theorem dX0_init_108 : decode cX0_init 108 = .ok (.aload_n 0, 1) := dk_42 (dk_at dksX0_init_4 13 rfl rfl)
theorem dX0_init_109 : decode cX0_init 109 = .ok (.bipush 6, 2) := dk_16 6 (dk_at dksX0_init_4 14 rfl rfl)
theorem dX0_init_111 : decode cX0_init 111 = .ok (.anewarray 165, 3) := dk_189 0 165 (dk_at dksX0_init_4 16 rfl rfl)
theorem dX0_init_114 : decode cX0_init 114 = .ok (.dup, 1) := dk_89 (dk_at dksX0_init_4 19 rfl rfl)
theorem dX0_init_115 : decode cX0_init 115 = .ok (.iconst 0, 1) := dk_3 (dk_at dksX0_init_4 20 rfl rfl)
theorem dX0_init_116 : decode cX0_init 116 = .ok (.ldc_w 286, 3) := dk_19 1 30 (dk_at dksX0_init_4 21 rfl rfl)
theorem dX0_init_119 : decode cX0_init 119 = .ok (.aastore, 1) := dk_83 (dk_at dksX0_init_5 0 rfl rfl)
theorem dX0_init_120 : decode cX0_init 120 = .ok (.dup, 1) := dk_89 (dk_at dksX0_init_5 1 rfl rfl)
theorem dX0_init_121 : decode cX0_init 121 = .ok (.iconst 1, 1) := dk_4 (dk_at dksX0_init_5 2 rfl rfl)
theorem dX0_init_122 : decode cX0_init 122 = .ok (.ldc_w 288, 3) := dk_19 1 32 (dk_at dksX0_init_5 3 rfl rfl)
theorem dX0_init_125 : decode cX0_init 125 = .ok (.aastore, 1) := dk_83 (dk_at dksX0_init_5 6 rfl rfl)
theorem dX0_init_126 : decode cX0_init 126 = .ok (.dup, 1) := dk_89 (dk_at dksX0_init_5 7 rfl rfl)
theorem dX0_init_127 : decode cX0_init 127 = .ok (.iconst 2, 1) := dk_5 (dk_at dksX0_init_5 8 rfl rfl)
theorem dX0_init_128 : decode cX0_init 128 = .ok (.ldc_w 289, 3) := dk_19 1 33 (dk_at dksX0_init_5 9 rfl rfl)
theorem dX0_init_131 : decode cX0_init 131 = .ok (.aastore, 1) := dk_83 (dk_at dksX0_init_5 12 rfl rfl)
theorem dX0_init_132 : decode cX0_init 132 = .ok (.dup, 1) := dk_89 (dk_at dksX0_init_5 13 rfl rfl)
theorem dX0_init_133 : decode cX0_init 133 = .ok (.iconst 3, 1) := dk_6 (dk_at dksX0_init_5 14 rfl rfl)
theorem dX0_init_134 : decode cX0_init 134 = .ok (.ldc_w 291, 3) := dk_19 1 35 (dk_at dksX0_init_5 15 rfl rfl)
theorem dX0_init_137 : decode cX0_init 137 = .ok (.aastore, 1) := dk_83 (dk_at dksX0_init_5 18 rfl rfl)
theorem dX0_init_138 : decode cX0_init 138 = .ok (.dup, 1) := dk_89 (dk_at dksX0_init_5 19 rfl rfl)
theorem dX0_init_139 : decode cX0_init 139 = .ok (.iconst 4, 1) := dk_7 (dk_at dksX0_init_5 20 rfl rfl)
theorem dX0_init_140 : decode cX0_init 140 = .ok (.ldc_w 292, 3) := dk_19 1 36 (dk_at dksX0_init_5 21 rfl rfl)
theorem dX0_init_143 : decode cX0_init 143 = .ok (.aastore, 1) := dk_83 (dk_at dksX0_init_6 0 rfl rfl)
theorem dX0_init_144 : decode cX0_init 144 = .ok (.dup, 1) := dk_89 (dk_at dksX0_init_6 1 rfl rfl)
theorem dX0_init_145 : decode cX0_init 145 = .ok (.iconst 5, 1) := dk_8 (dk_at dksX0_init_6 2 rfl rfl)
theorem dX0_init_146 : decode cX0_init 146 = .ok (.ldc_w 294, 3) := dk_19 1 38 (dk_at dksX0_init_6 3 rfl rfl)
theorem dX0_init_149 : decode cX0_init 149 = .ok (.aastore, 1) := dk_83 (dk_at dksX0_init_6 6 rfl rfl)
theorem dX0_init_150 : decode cX0_init 150 = .ok (.putfield 187, 3) := dk_181 0 187 (dk_at dksX0_init_6 7 rfl rfl)
theorem dX0_init_153 : decode cX0_init 153 = .ok (.aload_n 0, 1) := dk_42 (dk_at dksX0_init_6 10 rfl rfl)
theorem dX0_init_154 : decode cX0_init 154 = .ok (.sipush 160, 3) := dk_17 0 160 (dk_at dksX0_init_6 11 rfl rfl)
theorem dX0_init_157 : decode cX0_init 157 = .ok (.newarray .byte, 2) := dk_188_8 (dk_at dksX0_init_6 14 rfl rfl)
theorem dX0_init_159 : decode cX0_init 159 = .ok (.putfield 123, 3) := dk_181 0 123 (dk_at dksX0_init_6 16 rfl rfl)
theorem dX0_init_162 : decode cX0_init 162 = .ok (.aload_n 0, 1) := dk_42 (dk_at dksX0_init_6 19 rfl rfl)
theorem dX0_init_163 : decode cX0_init 163 = .ok (.bipush 41, 2) := dk_16 41 (dk_at dksX0_init_6 20 rfl rfl)
theorem dX0_init_165 : decode cX0_init 165 = .ok (.newarray .int, 2) := dk_188_10 (dk_at dksX0_init_6 22 rfl rfl)
theorem dX0_init_167 : decode cX0_init 167 = .ok (.putfield 296, 3) := dk_181 1 40 (dk_at dksX0_init_7 0 rfl rfl)
theorem dX0_init_170 : decode cX0_init 170 = .ok (.aload_n 0, 1) := dk_42 (dk_at dksX0_init_7 3 rfl rfl)
theorem dX0_init_171 : decode cX0_init 171 = .ok (.bipush 6, 2) := dk_16 6 (dk_at dksX0_init_7 4 rfl rfl)
theorem dX0_init_173 : decode cX0_init 173 = .ok (.newarray .int, 2) := dk_188_10 (dk_at dksX0_init_7 6 rfl rfl)
theorem dX0_init_175 : decode cX0_init 175 = .ok (.putfield 300, 3) := dk_181 1 44 (dk_at dksX0_init_7 8 rfl rfl)
theorem dX0_init_178 : decode cX0_init 178 = .ok (.aload_n 0, 1) := dk_42 (dk_at dksX0_init_7 11 rfl rfl)
theorem dX0_init_179 : decode cX0_init 179 = .ok (.bipush 8, 2) := dk_16 8 (dk_at dksX0_init_7 12 rfl rfl)
theorem dX0_init_181 : decode cX0_init 181 = .ok (.bipush 8, 2) := dk_16 8 (dk_at dksX0_init_7 14 rfl rfl)
theorem dX0_init_183 : decode cX0_init 183 = .ok (.multianewarray 271 2, 4) := by decide +kernel
theorem dX0_init_187 : decode cX0_init 187 = .ok (.putfield 303, 3) := dk_181 1 47 (dk_at dksX0_init_7 20 rfl rfl)
theorem dX0_init_190 : decode cX0_init 190 = .ok (.aload_n 0, 1) := dk_42 (dk_at dksX0_init_7 23 rfl rfl)
theorem dX0_init_191 : decode cX0_init 191 = .ok (.iconst 3, 1) := dk_6 (dk_at dksX0_init_8 0 rfl rfl)
theorem dX0_init_192 : decode cX0_init 192 = .ok (.bipush 6, 2) := dk_16 6 (dk_at dksX0_init_8 1 rfl rfl)
theorem dX0_init_194 : decode cX0_init 194 = .ok (.multianewarray 271 2, 4) := by decide +kernel
theorem dX0_init_198 : decode cX0_init 198 = .ok (.putfield 306, 3) := dk_181 1 50 (dk_at dksX0_init_8 7 rfl rfl)
theorem dX0_init_201 : decode cX0_init 201 = .ok (.aload_n 0, 1) := dk_42 (dk_at dksX0_init_8 10 rfl rfl)
theorem dX0_init_202 : decode cX0_init 202 = .ok (.iconst 3, 1) := dk_6 (dk_at dksX0_init_8 11 rfl rfl)
theorem dX0_init_203 : decode cX0_init 203 = .ok (.newarray .int, 2) := dk_188_10 (dk_at dksX0_init_8 12 rfl rfl)
theorem dX0_init_205 : decode cX0_init 205 = .ok (.putfield 309, 3) := dk_181 1 53 (dk_at dksX0_init_8 14 rfl rfl)
theorem dX0_init_208 : decode cX0_init 208 = .ok (.aload_n 0, 1) := dk_42 (dk_at dksX0_init_8 17 rfl rfl)
theorem dX0_init_209 : decode cX0_init 209 = .ok (.iconst 4, 1) := dk_7 (dk_at dksX0_init_8 18 rfl rfl)
theorem dX0_init_210 : decode cX0_init 210 = .ok (.anewarray 312, 3) := dk_189 1 56 (dk_at dksX0_init_8 19 rfl rfl)
theorem dX0_init_213 : decode cX0_init 213 = .ok (.dup, 1) := dk_89 (dk_at dksX0_init_8 22 rfl rfl)
theorem dX0_init_214 : decode cX0_init 214 = .ok (.iconst 0, 1) := dk_3 (dk_at dksX0_init_8 23 rfl rfl)
theorem dX0_init_215 : decode cX0_init 215 = .ok (.new 312, 3) := dk_187 1 56 (dk_at dksX0_init_9 0 rfl rfl)
theorem dX0_init_218 : decode cX0_init 218 = .ok (.dup, 1) := dk_89 (dk_at dksX0_init_9 3 rfl rfl)
theorem dX0_init_219 : decode cX0_init 219 = .ok (.invokespecial 314, 3) := dk_183 1 58 (dk_at dksX0_init_9 4 rfl rfl)
theorem dX0_init_222 : decode cX0_init 222 = .ok (.aastore, 1) := dk_83 (dk_at dksX0_init_9 7 rfl rfl)
theorem dX0_init_223 : decode cX0_init 223 = .ok (.dup, 1) := dk_89 (dk_at dksX0_init_9 8 rfl rfl)
theorem dX0_init_224 : decode cX0_init 224 = .ok (.iconst 1, 1) := dk_4 (dk_at dksX0_init_9 9 rfl rfl)
theorem dX0_init_225 : decode cX0_init 225 = .ok (.new 312, 3) := dk_187 1 56 (dk_at dksX0_init_9 10 rfl rfl)
theorem dX0_init_228 : decode cX0_init 228 = .ok (.dup, 1) := dk_89 (dk_at dksX0_init_9 13 rfl rfl)
theorem dX0_init_229 : decode cX0_init 229 = .ok (.invokespecial 314, 3) := dk_183 1 58 (dk_at dksX0_init_9 14 rfl rfl)
theorem dX0_init_232 : decode cX0_init 232 = .ok (.aastore, 1) := dk_83 (dk_at dksX0_init_9 17 rfl rfl)
theorem dX0_init_233 : decode cX0_init 233 = .ok (.dup, 1) := dk_89 (dk_at dksX0_init_9 18 rfl rfl)
theorem dX0_init_234 : decode cX0_init 234 = .ok (.iconst 2, 1) := dk_5 (dk_at dksX0_init_9 19 rfl rfl)
theorem dX0_init_235 : decode cX0_init 235 = .ok (.new 312, 3) := dk_187 1 56 (dk_at dksX0_init_9 20 rfl rfl)
theorem dX0_init_238 : decode cX0_init 238 = .ok (.dup, 1) := dk_89 (dk_at dksX0_init_9 23 rfl rfl)
theorem dX0_init_239 : decode cX0_init 239 = .ok (.invokespecial 314, 3) := dk_183 1 58 (dk_at dksX0_init_10 0 rfl rfl)
theorem dX0_init_242 : decode cX0_init 242 = .ok (.aastore, 1) := dk_83 (dk_at dksX0_init_10 3 rfl rfl)
theorem dX0_init_243 : decode cX0_init 243 = .ok (.dup, 1) := dk_89 (dk_at dksX0_init_10 4 rfl rfl)
theorem dX0_init_244 : decode cX0_init 244 = .ok (.iconst 3, 1) := dk_6 (dk_at dksX0_init_10 5 rfl rfl)
theorem dX0_init_245 : decode cX0_init 245 = .ok (.new 312, 3) := dk_187 1 56 (dk_at dksX0_init_10 6 rfl rfl)
theorem dX0_init_248 : decode cX0_init 248 = .ok (.dup, 1) := dk_89 (dk_at dksX0_init_10 9 rfl rfl)
theorem dX0_init_249 : decode cX0_init 249 = .ok (.invokespecial 314, 3) := dk_183 1 58 (dk_at dksX0_init_10 10 rfl rfl)
theorem dX0_init_252 : decode cX0_init 252 = .ok (.aastore, 1) := dk_83 (dk_at dksX0_init_10 13 rfl rfl)
theorem dX0_init_253 : decode cX0_init 253 = .ok (.putfield 315, 3) := dk_181 1 59 (dk_at dksX0_init_10 14 rfl rfl)
theorem dX0_init_256 : decode cX0_init 256 = .ok (.aload_n 0, 1) := dk_42 (dk_at dksX0_init_10 17 rfl rfl)
theorem dX0_init_257 : decode cX0_init 257 = .ok (.ldc_w 319, 3) := dk_19 1 63 (dk_at dksX0_init_10 18 rfl rfl)
theorem dX0_init_260 : decode cX0_init 260 = .ok (.invokevirtual 321, 3) := dk_182 1 65 (dk_at dksX0_init_10 21 rfl rfl)
theorem dX0_init_263 : decode cX0_init 263 = .ok (.aload_n 0, 1) := dk_42 (dk_at dksX0_init_11 0 rfl rfl)
theorem dX0_init_264 : decode cX0_init 264 = .ok (.invokevirtual 75, 3) := dk_182 0 75 (dk_at dksX0_init_11 1 rfl rfl)
theorem dX0_init_267 : decode cX0_init 267 = .ok (.return_, 1) := dk_177 (dk_at dksX0_init_11 4 rfl rfl)
abbrev cX0_firstText : ByteArray := prog_1_method_37_code
def yX0_firstText : MethodName := ⟨RX0, "firstText", "(Ljava/lang/String;)V"⟩
def dkwX0_firstText_1 : List UInt8 := [132, 2, 1, 167, 255, 233, 42, 43, 182, 0, 173, 181, 0, 248, 42, 182, 1, 6, 61, 177]
abbrev dktX0_firstText_1 : List UInt8 := dkwX0_firstText_1 ++ []
def dkwX0_firstText_0 : List UInt8 := [3, 61, 28, 43, 182, 0, 173, 162, 0, 21, 42, 180, 0, 123, 28, 43, 28, 182, 0, 175, 145, 84]
abbrev dktX0_firstText_0 : List UInt8 := dkwX0_firstText_0 ++ dktX0_firstText_1
theorem dksX0_firstText_0 : cX0_firstText.data.toList.drop 0 = dktX0_firstText_0 := by decide +kernel
theorem dksX0_firstText_1 : cX0_firstText.data.toList.drop 22 = dktX0_firstText_1 := dk_seg dksX0_firstText_0 22 rfl rfl
theorem dX0_firstText_0 : decode cX0_firstText 0 = .ok (.iconst 0, 1) := dk_3 (dk_at dksX0_firstText_0 0 rfl rfl)
theorem dX0_firstText_1 : decode cX0_firstText 1 = .ok (.istore_n 2, 1) := dk_61 (dk_at dksX0_firstText_0 1 rfl rfl)
theorem dX0_firstText_2 : decode cX0_firstText 2 = .ok (.iload_n 2, 1) := dk_28 (dk_at dksX0_firstText_0 2 rfl rfl)
theorem dX0_firstText_3 : decode cX0_firstText 3 = .ok (.aload_n 1, 1) := dk_43 (dk_at dksX0_firstText_0 3 rfl rfl)
theorem dX0_firstText_4 : decode cX0_firstText 4 = .ok (.invokevirtual 173, 3) := dk_182 0 173 (dk_at dksX0_firstText_0 4 rfl rfl)
theorem dX0_firstText_7 : decode cX0_firstText 7 = .ok (.if_icmp .ge 21, 3) := dk_162 0 21 (dk_at dksX0_firstText_0 7 rfl rfl)
theorem dX0_firstText_10 : decode cX0_firstText 10 = .ok (.aload_n 0, 1) := dk_42 (dk_at dksX0_firstText_0 10 rfl rfl)
theorem dX0_firstText_11 : decode cX0_firstText 11 = .ok (.getfield 123, 3) := dk_180 0 123 (dk_at dksX0_firstText_0 11 rfl rfl)
theorem dX0_firstText_14 : decode cX0_firstText 14 = .ok (.iload_n 2, 1) := dk_28 (dk_at dksX0_firstText_0 14 rfl rfl)
theorem dX0_firstText_15 : decode cX0_firstText 15 = .ok (.aload_n 1, 1) := dk_43 (dk_at dksX0_firstText_0 15 rfl rfl)
theorem dX0_firstText_16 : decode cX0_firstText 16 = .ok (.iload_n 2, 1) := dk_28 (dk_at dksX0_firstText_0 16 rfl rfl)
theorem dX0_firstText_17 : decode cX0_firstText 17 = .ok (.invokevirtual 175, 3) := dk_182 0 175 (dk_at dksX0_firstText_0 17 rfl rfl)
theorem dX0_firstText_20 : decode cX0_firstText 20 = .ok (.i2b, 1) := dk_145 (dk_at dksX0_firstText_0 20 rfl rfl)
theorem dX0_firstText_21 : decode cX0_firstText 21 = .ok (.bastore, 1) := dk_84 (dk_at dksX0_firstText_0 21 rfl rfl)
theorem dX0_firstText_22 : decode cX0_firstText 22 = .ok (.iinc 2 1, 3) := dk_132 2 1 (dk_at dksX0_firstText_1 0 rfl rfl)
theorem dX0_firstText_25 : decode cX0_firstText 25 = .ok (.goto (-23), 3) := dk_167 255 233 (dk_at dksX0_firstText_1 3 rfl rfl)
theorem dX0_firstText_28 : decode cX0_firstText 28 = .ok (.aload_n 0, 1) := dk_42 (dk_at dksX0_firstText_1 6 rfl rfl)
theorem dX0_firstText_29 : decode cX0_firstText 29 = .ok (.aload_n 1, 1) := dk_43 (dk_at dksX0_firstText_1 7 rfl rfl)
theorem dX0_firstText_30 : decode cX0_firstText 30 = .ok (.invokevirtual 173, 3) := dk_182 0 173 (dk_at dksX0_firstText_1 8 rfl rfl)
theorem dX0_firstText_33 : decode cX0_firstText 33 = .ok (.putfield 248, 3) := dk_181 0 248 (dk_at dksX0_firstText_1 11 rfl rfl)
theorem dX0_firstText_36 : decode cX0_firstText 36 = .ok (.aload_n 0, 1) := dk_42 (dk_at dksX0_firstText_1 14 rfl rfl)
theorem dX0_firstText_37 : decode cX0_firstText 37 = .ok (.invokevirtual 262, 3) := dk_182 1 6 (dk_at dksX0_firstText_1 15 rfl rfl)
theorem dX0_firstText_40 : decode cX0_firstText 40 = .ok (.istore_n 2, 1) := dk_61 (dk_at dksX0_firstText_1 18 rfl rfl)
theorem dX0_firstText_41 : decode cX0_firstText 41 = .ok (.return_, 1) := dk_177 (dk_at dksX0_firstText_1 19 rfl rfl)
abbrev cX0_force : ByteArray := prog_1_method_42_code
def yX0_force : MethodName := ⟨RX0, "force", "(I)I"⟩
def dkwX0_force_0 : List UInt8 := [42, 27, 182, 1, 69, 154, 0, 6, 16, 254, 172, 42, 180, 1, 72, 61, 42, 27, 181, 1, 72, 28, 172]
abbrev dktX0_force_0 : List UInt8 := dkwX0_force_0 ++ []
theorem dksX0_force_0 : cX0_force.data.toList.drop 0 = dktX0_force_0 := by decide +kernel
theorem dX0_force_0 : decode cX0_force 0 = .ok (.aload_n 0, 1) := dk_42 (dk_at dksX0_force_0 0 rfl rfl)
theorem dX0_force_1 : decode cX0_force 1 = .ok (.iload_n 1, 1) := dk_27 (dk_at dksX0_force_0 1 rfl rfl)
theorem dX0_force_2 : decode cX0_force 2 = .ok (.invokevirtual 325, 3) := dk_182 1 69 (dk_at dksX0_force_0 2 rfl rfl)
theorem dX0_force_5 : decode cX0_force 5 = .ok (.ifCond .ne 6, 3) := dk_154 0 6 (dk_at dksX0_force_0 5 rfl rfl)
theorem dX0_force_8 : decode cX0_force 8 = .ok (.bipush (-2), 2) := dk_16 254 (dk_at dksX0_force_0 8 rfl rfl)
theorem dX0_force_10 : decode cX0_force 10 = .ok (.ireturn, 1) := dk_172 (dk_at dksX0_force_0 10 rfl rfl)
theorem dX0_force_11 : decode cX0_force 11 = .ok (.aload_n 0, 1) := dk_42 (dk_at dksX0_force_0 11 rfl rfl)
theorem dX0_force_12 : decode cX0_force 12 = .ok (.getfield 328, 3) := dk_180 1 72 (dk_at dksX0_force_0 12 rfl rfl)
theorem dX0_force_15 : decode cX0_force 15 = .ok (.istore_n 2, 1) := dk_61 (dk_at dksX0_force_0 15 rfl rfl)
theorem dX0_force_16 : decode cX0_force 16 = .ok (.aload_n 0, 1) := dk_42 (dk_at dksX0_force_0 16 rfl rfl)
theorem dX0_force_17 : decode cX0_force 17 = .ok (.iload_n 1, 1) := dk_27 (dk_at dksX0_force_0 17 rfl rfl)
theorem dX0_force_18 : decode cX0_force 18 = .ok (.putfield 328, 3) := dk_181 1 72 (dk_at dksX0_force_0 18 rfl rfl)
theorem dX0_force_21 : decode cX0_force 21 = .ok (.iload_n 2, 1) := dk_28 (dk_at dksX0_force_0 21 rfl rfl)
theorem dX0_force_22 : decode cX0_force 22 = .ok (.ireturn, 1) := dk_172 (dk_at dksX0_force_0 22 rfl rfl)
abbrev cX0_isText : ByteArray := prog_1_method_40_code
def yX0_isText : MethodName := ⟨RX0, "isText", "(I)Z"⟩
def dkwX0_isText_0 : List UInt8 := [27, 133, 9, 42, 180, 1, 3, 4, 100, 133, 184, 0, 14, 172]
abbrev dktX0_isText_0 : List UInt8 := dkwX0_isText_0 ++ []
theorem dksX0_isText_0 : cX0_isText.data.toList.drop 0 = dktX0_isText_0 := by decide +kernel
theorem dX0_isText_0 : decode cX0_isText 0 = .ok (.iload_n 1, 1) := dk_27 (dk_at dksX0_isText_0 0 rfl rfl)
theorem dX0_isText_1 : decode cX0_isText 1 = .ok (.i2l, 1) := dk_133 (dk_at dksX0_isText_0 1 rfl rfl)
theorem dX0_isText_2 : decode cX0_isText 2 = .ok (.lconst 0, 1) := dk_9 (dk_at dksX0_isText_0 2 rfl rfl)
theorem dX0_isText_3 : decode cX0_isText 3 = .ok (.aload_n 0, 1) := dk_42 (dk_at dksX0_isText_0 3 rfl rfl)
theorem dX0_isText_4 : decode cX0_isText 4 = .ok (.getfield 259, 3) := dk_180 1 3 (dk_at dksX0_isText_0 4 rfl rfl)
theorem dX0_isText_7 : decode cX0_isText 7 = .ok (.iconst 1, 1) := dk_4 (dk_at dksX0_isText_0 7 rfl rfl)
theorem dX0_isText_8 : decode cX0_isText 8 = .ok (.isub, 1) := dk_100 (dk_at dksX0_isText_0 8 rfl rfl)
theorem dX0_isText_9 : decode cX0_isText 9 = .ok (.i2l, 1) := dk_133 (dk_at dksX0_isText_0 9 rfl rfl)
theorem dX0_isText_10 : decode cX0_isText 10 = .ok (.invokestatic 14, 3) := dk_184 0 14 (dk_at dksX0_isText_0 10 rfl rfl)
theorem dX0_isText_13 : decode cX0_isText 13 = .ok (.ireturn, 1) := dk_172 (dk_at dksX0_isText_0 13 rfl rfl)
abbrev cX0_asks : ByteArray := prog_1_method_49_code
def yX0_asks : MethodName := ⟨RX0, "asks", "(IIIII)I"⟩
def dkwX0_asks_5 : List UInt8 := [42, 28, 27, 3, 182, 1, 112, 172, 42, 27, 28, 182, 1, 123, 172, 42, 27, 28, 182, 1, 126, 172]
abbrev dktX0_asks_5 : List UInt8 := dkwX0_asks_5 ++ []
def dkwX0_asks_4 : List UInt8 := [42, 27, 28, 4, 182, 1, 108, 172, 42, 28, 27, 3, 182, 1, 108, 172, 42, 27, 28, 4, 182, 1, 112, 172]
abbrev dktX0_asks_4 : List UInt8 := dkwX0_asks_4 ++ dktX0_asks_5
def dkwX0_asks_3 : List UInt8 := [170, 0, 0, 0, 0, 73, 0, 0, 0, 0, 0, 0, 0, 4, 0, 0, 0, 34, 0, 0, 0, 42, 0, 0, 0, 50, 0, 0, 0, 58, 0, 0, 0, 66]
abbrev dktX0_asks_3 : List UInt8 := dkwX0_asks_3 ++ dktX0_asks_4
def dkwX0_asks_2 : List UInt8 := [181, 1, 120, 42, 21, 4, 181, 1, 101, 21, 5]
abbrev dktX0_asks_2 : List UInt8 := dkwX0_asks_2 ++ dktX0_asks_3
def dkwX0_asks_1 : List UInt8 := [184, 0, 14, 153, 0, 16, 21, 5, 133, 9, 20, 0, 53, 184, 0, 14, 154, 0, 6, 16, 254, 172, 42, 29]
abbrev dktX0_asks_1 : List UInt8 := dkwX0_asks_1 ++ dktX0_asks_2
def dkwX0_asks_0 : List UInt8 := [42, 27, 28, 182, 0, 28, 153, 0, 36, 29, 184, 0, 57, 153, 0, 29, 21, 4, 133, 9, 20, 1, 118]
abbrev dktX0_asks_0 : List UInt8 := dkwX0_asks_0 ++ dktX0_asks_1
theorem dksX0_asks_0 : cX0_asks.data.toList.drop 0 = dktX0_asks_0 := by decide +kernel
theorem dksX0_asks_1 : cX0_asks.data.toList.drop 23 = dktX0_asks_1 := dk_seg dksX0_asks_0 23 rfl rfl
theorem dksX0_asks_2 : cX0_asks.data.toList.drop 47 = dktX0_asks_2 := dk_seg dksX0_asks_1 24 rfl rfl
theorem dksX0_asks_3 : cX0_asks.data.toList.drop 58 = dktX0_asks_3 := dk_seg dksX0_asks_2 11 rfl rfl
theorem dksX0_asks_4 : cX0_asks.data.toList.drop 92 = dktX0_asks_4 := dk_seg dksX0_asks_3 34 rfl rfl
theorem dksX0_asks_5 : cX0_asks.data.toList.drop 116 = dktX0_asks_5 := dk_seg dksX0_asks_4 24 rfl rfl
theorem dX0_asks_0 : decode cX0_asks 0 = .ok (.aload_n 0, 1) := dk_42 (dk_at dksX0_asks_0 0 rfl rfl)
theorem dX0_asks_1 : decode cX0_asks 1 = .ok (.iload_n 1, 1) := dk_27 (dk_at dksX0_asks_0 1 rfl rfl)
theorem dX0_asks_2 : decode cX0_asks 2 = .ok (.iload_n 2, 1) := dk_28 (dk_at dksX0_asks_0 2 rfl rfl)
theorem dX0_asks_3 : decode cX0_asks 3 = .ok (.invokevirtual 28, 3) := dk_182 0 28 (dk_at dksX0_asks_0 3 rfl rfl)
theorem dX0_asks_6 : decode cX0_asks 6 = .ok (.ifCond .eq 36, 3) := dk_153 0 36 (dk_at dksX0_asks_0 6 rfl rfl)
theorem dX0_asks_9 : decode cX0_asks 9 = .ok (.iload_n 3, 1) := dk_29 (dk_at dksX0_asks_0 9 rfl rfl)
theorem dX0_asks_10 : decode cX0_asks 10 = .ok (.invokestatic 57, 3) := dk_184 0 57 (dk_at dksX0_asks_0 10 rfl rfl)
theorem dX0_asks_13 : decode cX0_asks 13 = .ok (.ifCond .eq 29, 3) := dk_153 0 29 (dk_at dksX0_asks_0 13 rfl rfl)
theorem dX0_asks_16 : decode cX0_asks 16 = .ok (.iload 4, 2) := dk_21 4 (dk_at dksX0_asks_0 16 rfl rfl)
theorem dX0_asks_18 : decode cX0_asks 18 = .ok (.i2l, 1) := dk_133 (dk_at dksX0_asks_0 18 rfl rfl)
theorem dX0_asks_19 : decode cX0_asks 19 = .ok (.lconst 0, 1) := dk_9 (dk_at dksX0_asks_0 19 rfl rfl)
theorem dX0_asks_20 : decode cX0_asks 20 = .ok (.ldc2_w 374, 3) := dk_20 1 118 (dk_at dksX0_asks_0 20 rfl rfl)
theorem dX0_asks_23 : decode cX0_asks 23 = .ok (.invokestatic 14, 3) := dk_184 0 14 (dk_at dksX0_asks_1 0 rfl rfl)
theorem dX0_asks_26 : decode cX0_asks 26 = .ok (.ifCond .eq 16, 3) := dk_153 0 16 (dk_at dksX0_asks_1 3 rfl rfl)
theorem dX0_asks_29 : decode cX0_asks 29 = .ok (.iload 5, 2) := dk_21 5 (dk_at dksX0_asks_1 6 rfl rfl)
theorem dX0_asks_31 : decode cX0_asks 31 = .ok (.i2l, 1) := dk_133 (dk_at dksX0_asks_1 8 rfl rfl)
theorem dX0_asks_32 : decode cX0_asks 32 = .ok (.lconst 0, 1) := dk_9 (dk_at dksX0_asks_1 9 rfl rfl)
theorem dX0_asks_33 : decode cX0_asks 33 = .ok (.ldc2_w 53, 3) := dk_20 0 53 (dk_at dksX0_asks_1 10 rfl rfl)
theorem dX0_asks_36 : decode cX0_asks 36 = .ok (.invokestatic 14, 3) := dk_184 0 14 (dk_at dksX0_asks_1 13 rfl rfl)
theorem dX0_asks_39 : decode cX0_asks 39 = .ok (.ifCond .ne 6, 3) := dk_154 0 6 (dk_at dksX0_asks_1 16 rfl rfl)
theorem dX0_asks_42 : decode cX0_asks 42 = .ok (.bipush (-2), 2) := dk_16 254 (dk_at dksX0_asks_1 19 rfl rfl)
theorem dX0_asks_44 : decode cX0_asks 44 = .ok (.ireturn, 1) := dk_172 (dk_at dksX0_asks_1 21 rfl rfl)
theorem dX0_asks_45 : decode cX0_asks 45 = .ok (.aload_n 0, 1) := dk_42 (dk_at dksX0_asks_1 22 rfl rfl)
theorem dX0_asks_46 : decode cX0_asks 46 = .ok (.iload_n 3, 1) := dk_29 (dk_at dksX0_asks_1 23 rfl rfl)
theorem dX0_asks_47 : decode cX0_asks 47 = .ok (.putfield 376, 3) := dk_181 1 120 (dk_at dksX0_asks_2 0 rfl rfl)
theorem dX0_asks_50 : decode cX0_asks 50 = .ok (.aload_n 0, 1) := dk_42 (dk_at dksX0_asks_2 3 rfl rfl)
theorem dX0_asks_51 : decode cX0_asks 51 = .ok (.iload 4, 2) := dk_21 4 (dk_at dksX0_asks_2 4 rfl rfl)
theorem dX0_asks_53 : decode cX0_asks 53 = .ok (.putfield 357, 3) := dk_181 1 101 (dk_at dksX0_asks_2 6 rfl rfl)
theorem dX0_asks_56 : decode cX0_asks 56 = .ok (.iload 5, 2) := dk_21 5 (dk_at dksX0_asks_2 9 rfl rfl)
theorem dX0_asks_58 : decode cX0_asks 58 = .ok (.tableswitch 73 0 4 #[34, 42, 50, 58, 66], 34) := by decide +kernel
theorem dX0_asks_92 : decode cX0_asks 92 = .ok (.aload_n 0, 1) := dk_42 (dk_at dksX0_asks_4 0 rfl rfl)
theorem dX0_asks_93 : decode cX0_asks 93 = .ok (.iload_n 1, 1) := dk_27 (dk_at dksX0_asks_4 1 rfl rfl)
theorem dX0_asks_94 : decode cX0_asks 94 = .ok (.iload_n 2, 1) := dk_28 (dk_at dksX0_asks_4 2 rfl rfl)
theorem dX0_asks_95 : decode cX0_asks 95 = .ok (.iconst 1, 1) := dk_4 (dk_at dksX0_asks_4 3 rfl rfl)
theorem dX0_asks_96 : decode cX0_asks 96 = .ok (.invokevirtual 364, 3) := dk_182 1 108 (dk_at dksX0_asks_4 4 rfl rfl)
theorem dX0_asks_99 : decode cX0_asks 99 = .ok (.ireturn, 1) := dk_172 (dk_at dksX0_asks_4 7 rfl rfl)
theorem dX0_asks_100 : decode cX0_asks 100 = .ok (.aload_n 0, 1) := dk_42 (dk_at dksX0_asks_4 8 rfl rfl)
theorem dX0_asks_101 : decode cX0_asks 101 = .ok (.iload_n 2, 1) := dk_28 (dk_at dksX0_asks_4 9 rfl rfl)
theorem dX0_asks_102 : decode cX0_asks 102 = .ok (.iload_n 1, 1) := dk_27 (dk_at dksX0_asks_4 10 rfl rfl)
theorem dX0_asks_103 : decode cX0_asks 103 = .ok (.iconst 0, 1) := dk_3 (dk_at dksX0_asks_4 11 rfl rfl)
theorem dX0_asks_104 : decode cX0_asks 104 = .ok (.invokevirtual 364, 3) := dk_182 1 108 (dk_at dksX0_asks_4 12 rfl rfl)
theorem dX0_asks_107 : decode cX0_asks 107 = .ok (.ireturn, 1) := dk_172 (dk_at dksX0_asks_4 15 rfl rfl)
theorem dX0_asks_108 : decode cX0_asks 108 = .ok (.aload_n 0, 1) := dk_42 (dk_at dksX0_asks_4 16 rfl rfl)
theorem dX0_asks_109 : decode cX0_asks 109 = .ok (.iload_n 1, 1) := dk_27 (dk_at dksX0_asks_4 17 rfl rfl)
theorem dX0_asks_110 : decode cX0_asks 110 = .ok (.iload_n 2, 1) := dk_28 (dk_at dksX0_asks_4 18 rfl rfl)
theorem dX0_asks_111 : decode cX0_asks 111 = .ok (.iconst 1, 1) := dk_4 (dk_at dksX0_asks_4 19 rfl rfl)
theorem dX0_asks_112 : decode cX0_asks 112 = .ok (.invokevirtual 368, 3) := dk_182 1 112 (dk_at dksX0_asks_4 20 rfl rfl)
theorem dX0_asks_115 : decode cX0_asks 115 = .ok (.ireturn, 1) := dk_172 (dk_at dksX0_asks_4 23 rfl rfl)
theorem dX0_asks_116 : decode cX0_asks 116 = .ok (.aload_n 0, 1) := dk_42 (dk_at dksX0_asks_5 0 rfl rfl)
theorem dX0_asks_117 : decode cX0_asks 117 = .ok (.iload_n 2, 1) := dk_28 (dk_at dksX0_asks_5 1 rfl rfl)
theorem dX0_asks_118 : decode cX0_asks 118 = .ok (.iload_n 1, 1) := dk_27 (dk_at dksX0_asks_5 2 rfl rfl)
theorem dX0_asks_119 : decode cX0_asks 119 = .ok (.iconst 0, 1) := dk_3 (dk_at dksX0_asks_5 3 rfl rfl)
theorem dX0_asks_120 : decode cX0_asks 120 = .ok (.invokevirtual 368, 3) := dk_182 1 112 (dk_at dksX0_asks_5 4 rfl rfl)
theorem dX0_asks_123 : decode cX0_asks 123 = .ok (.ireturn, 1) := dk_172 (dk_at dksX0_asks_5 7 rfl rfl)
theorem dX0_asks_124 : decode cX0_asks 124 = .ok (.aload_n 0, 1) := dk_42 (dk_at dksX0_asks_5 8 rfl rfl)
theorem dX0_asks_125 : decode cX0_asks 125 = .ok (.iload_n 1, 1) := dk_27 (dk_at dksX0_asks_5 9 rfl rfl)
theorem dX0_asks_126 : decode cX0_asks 126 = .ok (.iload_n 2, 1) := dk_28 (dk_at dksX0_asks_5 10 rfl rfl)
theorem dX0_asks_127 : decode cX0_asks 127 = .ok (.invokevirtual 379, 3) := dk_182 1 123 (dk_at dksX0_asks_5 11 rfl rfl)
theorem dX0_asks_130 : decode cX0_asks 130 = .ok (.ireturn, 1) := dk_172 (dk_at dksX0_asks_5 14 rfl rfl)
theorem dX0_asks_131 : decode cX0_asks 131 = .ok (.aload_n 0, 1) := dk_42 (dk_at dksX0_asks_5 15 rfl rfl)
theorem dX0_asks_132 : decode cX0_asks 132 = .ok (.iload_n 1, 1) := dk_27 (dk_at dksX0_asks_5 16 rfl rfl)
theorem dX0_asks_133 : decode cX0_asks 133 = .ok (.iload_n 2, 1) := dk_28 (dk_at dksX0_asks_5 17 rfl rfl)
theorem dX0_asks_134 : decode cX0_asks 134 = .ok (.invokevirtual 382, 3) := dk_182 1 126 (dk_at dksX0_asks_5 18 rfl rfl)
theorem dX0_asks_137 : decode cX0_asks 137 = .ok (.ireturn, 1) := dk_172 (dk_at dksX0_asks_5 21 rfl rfl)
abbrev cX0_areTwo : ByteArray := prog_1_method_6_code
def yX0_areTwo : MethodName := ⟨RX0, "areTwo", "(II)Z"⟩
def dkwX0_areTwo_1 : List UInt8 := [167, 0, 4, 3, 172]
abbrev dktX0_areTwo_1 : List UInt8 := dkwX0_areTwo_1 ++ []
def dkwX0_areTwo_0 : List UInt8 := [42, 27, 182, 0, 22, 153, 0, 20, 42, 28, 182, 0, 22, 153, 0, 12, 27, 28, 159, 0, 7, 4]
abbrev dktX0_areTwo_0 : List UInt8 := dkwX0_areTwo_0 ++ dktX0_areTwo_1
theorem dksX0_areTwo_0 : cX0_areTwo.data.toList.drop 0 = dktX0_areTwo_0 := by decide +kernel
theorem dksX0_areTwo_1 : cX0_areTwo.data.toList.drop 22 = dktX0_areTwo_1 := dk_seg dksX0_areTwo_0 22 rfl rfl
theorem dX0_areTwo_0 : decode cX0_areTwo 0 = .ok (.aload_n 0, 1) := dk_42 (dk_at dksX0_areTwo_0 0 rfl rfl)
theorem dX0_areTwo_1 : decode cX0_areTwo 1 = .ok (.iload_n 1, 1) := dk_27 (dk_at dksX0_areTwo_0 1 rfl rfl)
theorem dX0_areTwo_2 : decode cX0_areTwo 2 = .ok (.invokevirtual 22, 3) := dk_182 0 22 (dk_at dksX0_areTwo_0 2 rfl rfl)
theorem dX0_areTwo_5 : decode cX0_areTwo 5 = .ok (.ifCond .eq 20, 3) := dk_153 0 20 (dk_at dksX0_areTwo_0 5 rfl rfl)
theorem dX0_areTwo_8 : decode cX0_areTwo 8 = .ok (.aload_n 0, 1) := dk_42 (dk_at dksX0_areTwo_0 8 rfl rfl)
theorem dX0_areTwo_9 : decode cX0_areTwo 9 = .ok (.iload_n 2, 1) := dk_28 (dk_at dksX0_areTwo_0 9 rfl rfl)
theorem dX0_areTwo_10 : decode cX0_areTwo 10 = .ok (.invokevirtual 22, 3) := dk_182 0 22 (dk_at dksX0_areTwo_0 10 rfl rfl)
theorem dX0_areTwo_13 : decode cX0_areTwo 13 = .ok (.ifCond .eq 12, 3) := dk_153 0 12 (dk_at dksX0_areTwo_0 13 rfl rfl)
theorem dX0_areTwo_16 : decode cX0_areTwo 16 = .ok (.iload_n 1, 1) := dk_27 (dk_at dksX0_areTwo_0 16 rfl rfl)
theorem dX0_areTwo_17 : decode cX0_areTwo 17 = .ok (.iload_n 2, 1) := dk_28 (dk_at dksX0_areTwo_0 17 rfl rfl)
theorem dX0_areTwo_18 : decode cX0_areTwo 18 = .ok (.if_icmp .eq 7, 3) := dk_159 0 7 (dk_at dksX0_areTwo_0 18 rfl rfl)
theorem dX0_areTwo_21 : decode cX0_areTwo 21 = .ok (.iconst 1, 1) := dk_4 (dk_at dksX0_areTwo_0 21 rfl rfl)
theorem dX0_areTwo_22 : decode cX0_areTwo 22 = .ok (.goto 4, 3) := dk_167 0 4 (dk_at dksX0_areTwo_1 0 rfl rfl)
theorem dX0_areTwo_25 : decode cX0_areTwo 25 = .ok (.iconst 0, 1) := dk_3 (dk_at dksX0_areTwo_1 3 rfl rfl)
theorem dX0_areTwo_26 : decode cX0_areTwo 26 = .ok (.ireturn, 1) := dk_172 (dk_at dksX0_areTwo_1 4 rfl rfl)
abbrev cX0_enoughBits : ByteArray := prog_1_method_48_code
def yX0_enoughBits : MethodName := ⟨RX0, "enoughBits", "(II)I"⟩
def dkwX0_enoughBits_1 : List UInt8 := [153, 0, 7, 5, 167, 0, 4, 3, 96, 172]
abbrev dktX0_enoughBits_1 : List UInt8 := dkwX0_enoughBits_1 ++ []
def dkwX0_enoughBits_0 : List UInt8 := [42, 27, 28, 4, 182, 1, 115, 153, 0, 7, 4, 167, 0, 4, 3, 42, 28, 27, 3, 182, 1, 115]
abbrev dktX0_enoughBits_0 : List UInt8 := dkwX0_enoughBits_0 ++ dktX0_enoughBits_1
theorem dksX0_enoughBits_0 : cX0_enoughBits.data.toList.drop 0 = dktX0_enoughBits_0 := by decide +kernel
theorem dksX0_enoughBits_1 : cX0_enoughBits.data.toList.drop 22 = dktX0_enoughBits_1 := dk_seg dksX0_enoughBits_0 22 rfl rfl
theorem dX0_enoughBits_0 : decode cX0_enoughBits 0 = .ok (.aload_n 0, 1) := dk_42 (dk_at dksX0_enoughBits_0 0 rfl rfl)
theorem dX0_enoughBits_1 : decode cX0_enoughBits 1 = .ok (.iload_n 1, 1) := dk_27 (dk_at dksX0_enoughBits_0 1 rfl rfl)
theorem dX0_enoughBits_2 : decode cX0_enoughBits 2 = .ok (.iload_n 2, 1) := dk_28 (dk_at dksX0_enoughBits_0 2 rfl rfl)
theorem dX0_enoughBits_3 : decode cX0_enoughBits 3 = .ok (.iconst 1, 1) := dk_4 (dk_at dksX0_enoughBits_0 3 rfl rfl)
theorem dX0_enoughBits_4 : decode cX0_enoughBits 4 = .ok (.invokevirtual 371, 3) := dk_182 1 115 (dk_at dksX0_enoughBits_0 4 rfl rfl)
theorem dX0_enoughBits_7 : decode cX0_enoughBits 7 = .ok (.ifCond .eq 7, 3) := dk_153 0 7 (dk_at dksX0_enoughBits_0 7 rfl rfl)
theorem dX0_enoughBits_10 : decode cX0_enoughBits 10 = .ok (.iconst 1, 1) := dk_4 (dk_at dksX0_enoughBits_0 10 rfl rfl)
theorem dX0_enoughBits_11 : decode cX0_enoughBits 11 = .ok (.goto 4, 3) := dk_167 0 4 (dk_at dksX0_enoughBits_0 11 rfl rfl)
theorem dX0_enoughBits_14 : decode cX0_enoughBits 14 = .ok (.iconst 0, 1) := dk_3 (dk_at dksX0_enoughBits_0 14 rfl rfl)
theorem dX0_enoughBits_15 : decode cX0_enoughBits 15 = .ok (.aload_n 0, 1) := dk_42 (dk_at dksX0_enoughBits_0 15 rfl rfl)
theorem dX0_enoughBits_16 : decode cX0_enoughBits 16 = .ok (.iload_n 2, 1) := dk_28 (dk_at dksX0_enoughBits_0 16 rfl rfl)
theorem dX0_enoughBits_17 : decode cX0_enoughBits 17 = .ok (.iload_n 1, 1) := dk_27 (dk_at dksX0_enoughBits_0 17 rfl rfl)
theorem dX0_enoughBits_18 : decode cX0_enoughBits 18 = .ok (.iconst 0, 1) := dk_3 (dk_at dksX0_enoughBits_0 18 rfl rfl)
theorem dX0_enoughBits_19 : decode cX0_enoughBits 19 = .ok (.invokevirtual 371, 3) := dk_182 1 115 (dk_at dksX0_enoughBits_0 19 rfl rfl)
theorem dX0_enoughBits_22 : decode cX0_enoughBits 22 = .ok (.ifCond .eq 7, 3) := dk_153 0 7 (dk_at dksX0_enoughBits_1 0 rfl rfl)
theorem dX0_enoughBits_25 : decode cX0_enoughBits 25 = .ok (.iconst 2, 1) := dk_5 (dk_at dksX0_enoughBits_1 3 rfl rfl)
theorem dX0_enoughBits_26 : decode cX0_enoughBits 26 = .ok (.goto 4, 3) := dk_167 0 4 (dk_at dksX0_enoughBits_1 4 rfl rfl)
theorem dX0_enoughBits_29 : decode cX0_enoughBits 29 = .ok (.iconst 0, 1) := dk_3 (dk_at dksX0_enoughBits_1 7 rfl rfl)
theorem dX0_enoughBits_30 : decode cX0_enoughBits 30 = .ok (.iadd, 1) := dk_96 (dk_at dksX0_enoughBits_1 8 rfl rfl)
theorem dX0_enoughBits_31 : decode cX0_enoughBits 31 = .ok (.ireturn, 1) := dk_172 (dk_at dksX0_enoughBits_1 9 rfl rfl)
abbrev cX0_hasEnough : ByteArray := prog_1_method_46_code
def yX0_hasEnough : MethodName := ⟨RX0, "hasEnough", "(IIZ)Z"⟩
def dkwX0_hasEnough_1 : List UInt8 := [180, 1, 101, 182, 1, 104, 172]
abbrev dktX0_hasEnough_1 : List UInt8 := dkwX0_hasEnough_1 ++ []
def dkwX0_hasEnough_0 : List UInt8 := [42, 180, 0, 60, 27, 50, 42, 5, 27, 28, 29, 182, 1, 90, 153, 0, 7, 4, 167, 0, 4, 3, 42]
abbrev dktX0_hasEnough_0 : List UInt8 := dkwX0_hasEnough_0 ++ dktX0_hasEnough_1
theorem dksX0_hasEnough_0 : cX0_hasEnough.data.toList.drop 0 = dktX0_hasEnough_0 := by decide +kernel
theorem dksX0_hasEnough_1 : cX0_hasEnough.data.toList.drop 23 = dktX0_hasEnough_1 := dk_seg dksX0_hasEnough_0 23 rfl rfl
theorem dX0_hasEnough_0 : decode cX0_hasEnough 0 = .ok (.aload_n 0, 1) := dk_42 (dk_at dksX0_hasEnough_0 0 rfl rfl)
theorem dX0_hasEnough_1 : decode cX0_hasEnough 1 = .ok (.getfield 60, 3) := dk_180 0 60 (dk_at dksX0_hasEnough_0 1 rfl rfl)
theorem dX0_hasEnough_4 : decode cX0_hasEnough 4 = .ok (.iload_n 1, 1) := dk_27 (dk_at dksX0_hasEnough_0 4 rfl rfl)
theorem dX0_hasEnough_5 : decode cX0_hasEnough 5 = .ok (.aaload, 1) := dk_50 (dk_at dksX0_hasEnough_0 5 rfl rfl)
theorem dX0_hasEnough_6 : decode cX0_hasEnough 6 = .ok (.aload_n 0, 1) := dk_42 (dk_at dksX0_hasEnough_0 6 rfl rfl)
theorem dX0_hasEnough_7 : decode cX0_hasEnough 7 = .ok (.iconst 2, 1) := dk_5 (dk_at dksX0_hasEnough_0 7 rfl rfl)
theorem dX0_hasEnough_8 : decode cX0_hasEnough 8 = .ok (.iload_n 1, 1) := dk_27 (dk_at dksX0_hasEnough_0 8 rfl rfl)
theorem dX0_hasEnough_9 : decode cX0_hasEnough 9 = .ok (.iload_n 2, 1) := dk_28 (dk_at dksX0_hasEnough_0 9 rfl rfl)
theorem dX0_hasEnough_10 : decode cX0_hasEnough 10 = .ok (.iload_n 3, 1) := dk_29 (dk_at dksX0_hasEnough_0 10 rfl rfl)
theorem dX0_hasEnough_11 : decode cX0_hasEnough 11 = .ok (.invokevirtual 346, 3) := dk_182 1 90 (dk_at dksX0_hasEnough_0 11 rfl rfl)
theorem dX0_hasEnough_14 : decode cX0_hasEnough 14 = .ok (.ifCond .eq 7, 3) := dk_153 0 7 (dk_at dksX0_hasEnough_0 14 rfl rfl)
theorem dX0_hasEnough_17 : decode cX0_hasEnough 17 = .ok (.iconst 1, 1) := dk_4 (dk_at dksX0_hasEnough_0 17 rfl rfl)
theorem dX0_hasEnough_18 : decode cX0_hasEnough 18 = .ok (.goto 4, 3) := dk_167 0 4 (dk_at dksX0_hasEnough_0 18 rfl rfl)
theorem dX0_hasEnough_21 : decode cX0_hasEnough 21 = .ok (.iconst 0, 1) := dk_3 (dk_at dksX0_hasEnough_0 21 rfl rfl)
theorem dX0_hasEnough_22 : decode cX0_hasEnough 22 = .ok (.aload_n 0, 1) := dk_42 (dk_at dksX0_hasEnough_0 22 rfl rfl)
theorem dX0_hasEnough_23 : decode cX0_hasEnough 23 = .ok (.getfield 357, 3) := dk_180 1 101 (dk_at dksX0_hasEnough_1 0 rfl rfl)
theorem dX0_hasEnough_26 : decode cX0_hasEnough 26 = .ok (.invokevirtual 360, 3) := dk_182 1 104 (dk_at dksX0_hasEnough_1 3 rfl rfl)
theorem dX0_hasEnough_29 : decode cX0_hasEnough 29 = .ok (.ireturn, 1) := dk_172 (dk_at dksX0_hasEnough_1 6 rfl rfl)
abbrev cX0_ride : ByteArray := prog_1_method_54_code
def yX0_ride : MethodName := ⟨RX0, "ride", "(IIII)I"⟩
def dkwX0_ride_2 : List UInt8 := [42, 27, 28, 29, 182, 1, 151, 42, 21, 4, 182, 1, 154, 172]
abbrev dktX0_ride_2 : List UInt8 := dkwX0_ride_2 ++ []
def dkwX0_ride_1 : List UInt8 := [184, 0, 14, 154, 0, 21, 21, 4, 133, 20, 1, 147, 20, 1, 149, 184, 0, 14, 154, 0, 6, 16, 254, 172]
abbrev dktX0_ride_1 : List UInt8 := dkwX0_ride_1 ++ dktX0_ride_2
def dkwX0_ride_0 : List UInt8 := [42, 27, 28, 182, 0, 28, 153, 0, 38, 29, 184, 0, 57, 153, 0, 31, 21, 4, 133, 9, 20, 0, 53]
abbrev dktX0_ride_0 : List UInt8 := dkwX0_ride_0 ++ dktX0_ride_1
theorem dksX0_ride_0 : cX0_ride.data.toList.drop 0 = dktX0_ride_0 := by decide +kernel
theorem dksX0_ride_1 : cX0_ride.data.toList.drop 23 = dktX0_ride_1 := dk_seg dksX0_ride_0 23 rfl rfl
theorem dksX0_ride_2 : cX0_ride.data.toList.drop 47 = dktX0_ride_2 := dk_seg dksX0_ride_1 24 rfl rfl
theorem dX0_ride_0 : decode cX0_ride 0 = .ok (.aload_n 0, 1) := dk_42 (dk_at dksX0_ride_0 0 rfl rfl)
theorem dX0_ride_1 : decode cX0_ride 1 = .ok (.iload_n 1, 1) := dk_27 (dk_at dksX0_ride_0 1 rfl rfl)
theorem dX0_ride_2 : decode cX0_ride 2 = .ok (.iload_n 2, 1) := dk_28 (dk_at dksX0_ride_0 2 rfl rfl)
theorem dX0_ride_3 : decode cX0_ride 3 = .ok (.invokevirtual 28, 3) := dk_182 0 28 (dk_at dksX0_ride_0 3 rfl rfl)
theorem dX0_ride_6 : decode cX0_ride 6 = .ok (.ifCond .eq 38, 3) := dk_153 0 38 (dk_at dksX0_ride_0 6 rfl rfl)
theorem dX0_ride_9 : decode cX0_ride 9 = .ok (.iload_n 3, 1) := dk_29 (dk_at dksX0_ride_0 9 rfl rfl)
theorem dX0_ride_10 : decode cX0_ride 10 = .ok (.invokestatic 57, 3) := dk_184 0 57 (dk_at dksX0_ride_0 10 rfl rfl)
theorem dX0_ride_13 : decode cX0_ride 13 = .ok (.ifCond .eq 31, 3) := dk_153 0 31 (dk_at dksX0_ride_0 13 rfl rfl)
theorem dX0_ride_16 : decode cX0_ride 16 = .ok (.iload 4, 2) := dk_21 4 (dk_at dksX0_ride_0 16 rfl rfl)
theorem dX0_ride_18 : decode cX0_ride 18 = .ok (.i2l, 1) := dk_133 (dk_at dksX0_ride_0 18 rfl rfl)
theorem dX0_ride_19 : decode cX0_ride 19 = .ok (.lconst 0, 1) := dk_9 (dk_at dksX0_ride_0 19 rfl rfl)
theorem dX0_ride_20 : decode cX0_ride 20 = .ok (.ldc2_w 53, 3) := dk_20 0 53 (dk_at dksX0_ride_0 20 rfl rfl)
theorem dX0_ride_23 : decode cX0_ride 23 = .ok (.invokestatic 14, 3) := dk_184 0 14 (dk_at dksX0_ride_1 0 rfl rfl)
theorem dX0_ride_26 : decode cX0_ride 26 = .ok (.ifCond .ne 21, 3) := dk_154 0 21 (dk_at dksX0_ride_1 3 rfl rfl)
theorem dX0_ride_29 : decode cX0_ride 29 = .ok (.iload 4, 2) := dk_21 4 (dk_at dksX0_ride_1 6 rfl rfl)
theorem dX0_ride_31 : decode cX0_ride 31 = .ok (.i2l, 1) := dk_133 (dk_at dksX0_ride_1 8 rfl rfl)
theorem dX0_ride_32 : decode cX0_ride 32 = .ok (.ldc2_w 403, 3) := dk_20 1 147 (dk_at dksX0_ride_1 9 rfl rfl)
theorem dX0_ride_35 : decode cX0_ride 35 = .ok (.ldc2_w 405, 3) := dk_20 1 149 (dk_at dksX0_ride_1 12 rfl rfl)
theorem dX0_ride_38 : decode cX0_ride 38 = .ok (.invokestatic 14, 3) := dk_184 0 14 (dk_at dksX0_ride_1 15 rfl rfl)
theorem dX0_ride_41 : decode cX0_ride 41 = .ok (.ifCond .ne 6, 3) := dk_154 0 6 (dk_at dksX0_ride_1 18 rfl rfl)
theorem dX0_ride_44 : decode cX0_ride 44 = .ok (.bipush (-2), 2) := dk_16 254 (dk_at dksX0_ride_1 21 rfl rfl)
theorem dX0_ride_46 : decode cX0_ride 46 = .ok (.ireturn, 1) := dk_172 (dk_at dksX0_ride_1 23 rfl rfl)
theorem dX0_ride_47 : decode cX0_ride 47 = .ok (.aload_n 0, 1) := dk_42 (dk_at dksX0_ride_2 0 rfl rfl)
theorem dX0_ride_48 : decode cX0_ride 48 = .ok (.iload_n 1, 1) := dk_27 (dk_at dksX0_ride_2 1 rfl rfl)
theorem dX0_ride_49 : decode cX0_ride 49 = .ok (.iload_n 2, 1) := dk_28 (dk_at dksX0_ride_2 2 rfl rfl)
theorem dX0_ride_50 : decode cX0_ride 50 = .ok (.iload_n 3, 1) := dk_29 (dk_at dksX0_ride_2 3 rfl rfl)
theorem dX0_ride_51 : decode cX0_ride 51 = .ok (.invokevirtual 407, 3) := dk_182 1 151 (dk_at dksX0_ride_2 4 rfl rfl)
theorem dX0_ride_54 : decode cX0_ride 54 = .ok (.aload_n 0, 1) := dk_42 (dk_at dksX0_ride_2 7 rfl rfl)
theorem dX0_ride_55 : decode cX0_ride 55 = .ok (.iload 4, 2) := dk_21 4 (dk_at dksX0_ride_2 8 rfl rfl)
theorem dX0_ride_57 : decode cX0_ride 57 = .ok (.invokevirtual 410, 3) := dk_182 1 154 (dk_at dksX0_ride_2 10 rfl rfl)
theorem dX0_ride_60 : decode cX0_ride 60 = .ok (.ireturn, 1) := dk_172 (dk_at dksX0_ride_2 13 rfl rfl)
abbrev cX0_rides : ByteArray := prog_1_method_51_code
def yX0_rides : MethodName := ⟨RX0, "rides", "(III)V"⟩
def dkwX0_rides_10 : List UInt8 := [21, 5, 42, 180, 1, 40, 42, 180, 1, 129, 46, 79, 132, 5, 1, 167, 255, 230, 177]
abbrev dktX0_rides_10 : List UInt8 := dkwX0_rides_10 ++ []
def dkwX0_rides_9 : List UInt8 := [79, 167, 255, 70, 42, 180, 1, 129, 4, 96, 54, 5, 21, 5, 16, 40, 163, 0, 25, 42, 180, 1, 40]
abbrev dktX0_rides_9 : List UInt8 := dkwX0_rides_9 ++ dktX0_rides_10
def dkwX0_rides_8 : List UInt8 := [96, 181, 1, 133, 42, 89, 180, 1, 129, 4, 96, 181, 1, 129, 42, 180, 1, 40, 42, 180, 1, 129, 21, 7]
abbrev dktX0_rides_8 : List UInt8 := dkwX0_rides_8 ++ dktX0_rides_9
def dkwX0_rides_7 : List UInt8 := [50, 21, 7, 46, 96, 181, 1, 131, 42, 89, 180, 1, 133, 21, 5, 27, 160, 0, 7, 4, 167, 0, 4, 3]
abbrev dktX0_rides_7 : List UInt8 := dkwX0_rides_7 ++ dktX0_rides_8
def dkwX0_rides_6 : List UInt8 := [167, 0, 4, 3, 54, 4, 21, 4, 153, 0, 65, 42, 89, 180, 1, 131, 42, 180, 0, 72, 42, 180, 1, 120]
abbrev dktX0_rides_6 : List UInt8 := dkwX0_rides_6 ++ dktX0_rides_7
def dkwX0_rides_5 : List UInt8 := [42, 180, 0, 60, 21, 5, 50, 180, 0, 93, 182, 1, 136, 54, 7, 21, 7, 2, 159, 0, 7, 4]
abbrev dktX0_rides_5 : List UInt8 := dkwX0_rides_5 ++ dktX0_rides_6
def dkwX0_rides_4 : List UInt8 := [160, 0, 7, 4, 167, 0, 4, 3, 54, 6, 21, 6, 153, 0, 7, 2, 167, 0, 21, 42, 42, 180, 1, 120]
abbrev dktX0_rides_4 : List UInt8 := dkwX0_rides_4 ++ dktX0_rides_5
def dkwX0_rides_3 : List UInt8 := [27, 28, 182, 1, 123, 6, 159, 0, 20, 42, 180, 1, 120, 42, 180, 0, 60, 21, 5, 50, 180, 0, 93]
abbrev dktX0_rides_3 : List UInt8 := dkwX0_rides_3 ++ dktX0_rides_4
def dkwX0_rides_2 : List UInt8 := [180, 1, 129, 46, 181, 1, 120, 42, 42, 180, 1, 129, 181, 1, 101, 42, 27, 28, 182, 1, 126, 54, 5, 42]
abbrev dktX0_rides_2 : List UInt8 := dkwX0_rides_2 ++ dktX0_rides_3
def dkwX0_rides_1 : List UInt8 := [54, 4, 21, 4, 153, 0, 187, 42, 180, 1, 129, 16, 40, 162, 0, 178, 42, 42, 180, 1, 40, 42]
abbrev dktX0_rides_1 : List UInt8 := dkwX0_rides_1 ++ dktX0_rides_2
def dkwX0_rides_0 : List UInt8 := [42, 3, 181, 1, 129, 42, 3, 181, 1, 131, 42, 3, 181, 1, 133, 42, 180, 1, 40, 3, 29, 79, 4]
abbrev dktX0_rides_0 : List UInt8 := dkwX0_rides_0 ++ dktX0_rides_1
theorem dksX0_rides_0 : cX0_rides.data.toList.drop 0 = dktX0_rides_0 := by decide +kernel
theorem dksX0_rides_1 : cX0_rides.data.toList.drop 23 = dktX0_rides_1 := dk_seg dksX0_rides_0 23 rfl rfl
theorem dksX0_rides_2 : cX0_rides.data.toList.drop 45 = dktX0_rides_2 := dk_seg dksX0_rides_1 22 rfl rfl
theorem dksX0_rides_3 : cX0_rides.data.toList.drop 69 = dktX0_rides_3 := dk_seg dksX0_rides_2 24 rfl rfl
theorem dksX0_rides_4 : cX0_rides.data.toList.drop 92 = dktX0_rides_4 := dk_seg dksX0_rides_3 23 rfl rfl
theorem dksX0_rides_5 : cX0_rides.data.toList.drop 116 = dktX0_rides_5 := dk_seg dksX0_rides_4 24 rfl rfl
theorem dksX0_rides_6 : cX0_rides.data.toList.drop 138 = dktX0_rides_6 := dk_seg dksX0_rides_5 22 rfl rfl
theorem dksX0_rides_7 : cX0_rides.data.toList.drop 162 = dktX0_rides_7 := dk_seg dksX0_rides_6 24 rfl rfl
theorem dksX0_rides_8 : cX0_rides.data.toList.drop 186 = dktX0_rides_8 := dk_seg dksX0_rides_7 24 rfl rfl
theorem dksX0_rides_9 : cX0_rides.data.toList.drop 210 = dktX0_rides_9 := dk_seg dksX0_rides_8 24 rfl rfl
theorem dksX0_rides_10 : cX0_rides.data.toList.drop 233 = dktX0_rides_10 := dk_seg dksX0_rides_9 23 rfl rfl
theorem dX0_rides_0 : decode cX0_rides 0 = .ok (.aload_n 0, 1) := dk_42 (dk_at dksX0_rides_0 0 rfl rfl)
theorem dX0_rides_1 : decode cX0_rides 1 = .ok (.iconst 0, 1) := dk_3 (dk_at dksX0_rides_0 1 rfl rfl)
theorem dX0_rides_2 : decode cX0_rides 2 = .ok (.putfield 385, 3) := dk_181 1 129 (dk_at dksX0_rides_0 2 rfl rfl)
theorem dX0_rides_5 : decode cX0_rides 5 = .ok (.aload_n 0, 1) := dk_42 (dk_at dksX0_rides_0 5 rfl rfl)
theorem dX0_rides_6 : decode cX0_rides 6 = .ok (.iconst 0, 1) := dk_3 (dk_at dksX0_rides_0 6 rfl rfl)
theorem dX0_rides_7 : decode cX0_rides 7 = .ok (.putfield 387, 3) := dk_181 1 131 (dk_at dksX0_rides_0 7 rfl rfl)
theorem dX0_rides_10 : decode cX0_rides 10 = .ok (.aload_n 0, 1) := dk_42 (dk_at dksX0_rides_0 10 rfl rfl)
theorem dX0_rides_11 : decode cX0_rides 11 = .ok (.iconst 0, 1) := dk_3 (dk_at dksX0_rides_0 11 rfl rfl)
theorem dX0_rides_12 : decode cX0_rides 12 = .ok (.putfield 389, 3) := dk_181 1 133 (dk_at dksX0_rides_0 12 rfl rfl)
theorem dX0_rides_15 : decode cX0_rides 15 = .ok (.aload_n 0, 1) := dk_42 (dk_at dksX0_rides_0 15 rfl rfl)
theorem dX0_rides_16 : decode cX0_rides 16 = .ok (.getfield 296, 3) := dk_180 1 40 (dk_at dksX0_rides_0 16 rfl rfl)
theorem dX0_rides_19 : decode cX0_rides 19 = .ok (.iconst 0, 1) := dk_3 (dk_at dksX0_rides_0 19 rfl rfl)
theorem dX0_rides_20 : decode cX0_rides 20 = .ok (.iload_n 3, 1) := dk_29 (dk_at dksX0_rides_0 20 rfl rfl)
theorem dX0_rides_21 : decode cX0_rides 21 = .ok (.iastore, 1) := dk_79 (dk_at dksX0_rides_0 21 rfl rfl)
theorem dX0_rides_22 : decode cX0_rides 22 = .ok (.iconst 1, 1) := dk_4 (dk_at dksX0_rides_0 22 rfl rfl)
theorem dX0_rides_23 : decode cX0_rides 23 = .ok (.istore 4, 2) := dk_54 4 (dk_at dksX0_rides_1 0 rfl rfl)
theorem dX0_rides_25 : decode cX0_rides 25 = .ok (.iload 4, 2) := dk_21 4 (dk_at dksX0_rides_1 2 rfl rfl)
theorem dX0_rides_27 : decode cX0_rides 27 = .ok (.ifCond .eq 187, 3) := dk_153 0 187 (dk_at dksX0_rides_1 4 rfl rfl)
theorem dX0_rides_30 : decode cX0_rides 30 = .ok (.aload_n 0, 1) := dk_42 (dk_at dksX0_rides_1 7 rfl rfl)
theorem dX0_rides_31 : decode cX0_rides 31 = .ok (.getfield 385, 3) := dk_180 1 129 (dk_at dksX0_rides_1 8 rfl rfl)
theorem dX0_rides_34 : decode cX0_rides 34 = .ok (.bipush 40, 2) := dk_16 40 (dk_at dksX0_rides_1 11 rfl rfl)
theorem dX0_rides_36 : decode cX0_rides 36 = .ok (.if_icmp .ge 178, 3) := dk_162 0 178 (dk_at dksX0_rides_1 13 rfl rfl)
theorem dX0_rides_39 : decode cX0_rides 39 = .ok (.aload_n 0, 1) := dk_42 (dk_at dksX0_rides_1 16 rfl rfl)
theorem dX0_rides_40 : decode cX0_rides 40 = .ok (.aload_n 0, 1) := dk_42 (dk_at dksX0_rides_1 17 rfl rfl)
theorem dX0_rides_41 : decode cX0_rides 41 = .ok (.getfield 296, 3) := dk_180 1 40 (dk_at dksX0_rides_1 18 rfl rfl)
theorem dX0_rides_44 : decode cX0_rides 44 = .ok (.aload_n 0, 1) := dk_42 (dk_at dksX0_rides_1 21 rfl rfl)
theorem dX0_rides_45 : decode cX0_rides 45 = .ok (.getfield 385, 3) := dk_180 1 129 (dk_at dksX0_rides_2 0 rfl rfl)
theorem dX0_rides_48 : decode cX0_rides 48 = .ok (.iaload, 1) := dk_46 (dk_at dksX0_rides_2 3 rfl rfl)
theorem dX0_rides_49 : decode cX0_rides 49 = .ok (.putfield 376, 3) := dk_181 1 120 (dk_at dksX0_rides_2 4 rfl rfl)
theorem dX0_rides_52 : decode cX0_rides 52 = .ok (.aload_n 0, 1) := dk_42 (dk_at dksX0_rides_2 7 rfl rfl)
theorem dX0_rides_53 : decode cX0_rides 53 = .ok (.aload_n 0, 1) := dk_42 (dk_at dksX0_rides_2 8 rfl rfl)
theorem dX0_rides_54 : decode cX0_rides 54 = .ok (.getfield 385, 3) := dk_180 1 129 (dk_at dksX0_rides_2 9 rfl rfl)
theorem dX0_rides_57 : decode cX0_rides 57 = .ok (.putfield 357, 3) := dk_181 1 101 (dk_at dksX0_rides_2 12 rfl rfl)
theorem dX0_rides_60 : decode cX0_rides 60 = .ok (.aload_n 0, 1) := dk_42 (dk_at dksX0_rides_2 15 rfl rfl)
theorem dX0_rides_61 : decode cX0_rides 61 = .ok (.iload_n 1, 1) := dk_27 (dk_at dksX0_rides_2 16 rfl rfl)
theorem dX0_rides_62 : decode cX0_rides 62 = .ok (.iload_n 2, 1) := dk_28 (dk_at dksX0_rides_2 17 rfl rfl)
theorem dX0_rides_63 : decode cX0_rides 63 = .ok (.invokevirtual 382, 3) := dk_182 1 126 (dk_at dksX0_rides_2 18 rfl rfl)
theorem dX0_rides_66 : decode cX0_rides 66 = .ok (.istore 5, 2) := dk_54 5 (dk_at dksX0_rides_2 21 rfl rfl)
theorem dX0_rides_68 : decode cX0_rides 68 = .ok (.aload_n 0, 1) := dk_42 (dk_at dksX0_rides_2 23 rfl rfl)
theorem dX0_rides_69 : decode cX0_rides 69 = .ok (.iload_n 1, 1) := dk_27 (dk_at dksX0_rides_3 0 rfl rfl)
theorem dX0_rides_70 : decode cX0_rides 70 = .ok (.iload_n 2, 1) := dk_28 (dk_at dksX0_rides_3 1 rfl rfl)
theorem dX0_rides_71 : decode cX0_rides 71 = .ok (.invokevirtual 379, 3) := dk_182 1 123 (dk_at dksX0_rides_3 2 rfl rfl)
theorem dX0_rides_74 : decode cX0_rides 74 = .ok (.iconst 3, 1) := dk_6 (dk_at dksX0_rides_3 5 rfl rfl)
theorem dX0_rides_75 : decode cX0_rides 75 = .ok (.if_icmp .eq 20, 3) := dk_159 0 20 (dk_at dksX0_rides_3 6 rfl rfl)
theorem dX0_rides_78 : decode cX0_rides 78 = .ok (.aload_n 0, 1) := dk_42 (dk_at dksX0_rides_3 9 rfl rfl)
theorem dX0_rides_79 : decode cX0_rides 79 = .ok (.getfield 376, 3) := dk_180 1 120 (dk_at dksX0_rides_3 10 rfl rfl)
theorem dX0_rides_82 : decode cX0_rides 82 = .ok (.aload_n 0, 1) := dk_42 (dk_at dksX0_rides_3 13 rfl rfl)
theorem dX0_rides_83 : decode cX0_rides 83 = .ok (.getfield 60, 3) := dk_180 0 60 (dk_at dksX0_rides_3 14 rfl rfl)
theorem dX0_rides_86 : decode cX0_rides 86 = .ok (.iload 5, 2) := dk_21 5 (dk_at dksX0_rides_3 17 rfl rfl)
theorem dX0_rides_88 : decode cX0_rides 88 = .ok (.aaload, 1) := dk_50 (dk_at dksX0_rides_3 19 rfl rfl)
theorem dX0_rides_89 : decode cX0_rides 89 = .ok (.getfield 93, 3) := dk_180 0 93 (dk_at dksX0_rides_3 20 rfl rfl)
theorem dX0_rides_92 : decode cX0_rides 92 = .ok (.if_icmp .ne 7, 3) := dk_160 0 7 (dk_at dksX0_rides_4 0 rfl rfl)
theorem dX0_rides_95 : decode cX0_rides 95 = .ok (.iconst 1, 1) := dk_4 (dk_at dksX0_rides_4 3 rfl rfl)
theorem dX0_rides_96 : decode cX0_rides 96 = .ok (.goto 4, 3) := dk_167 0 4 (dk_at dksX0_rides_4 4 rfl rfl)
theorem dX0_rides_99 : decode cX0_rides 99 = .ok (.iconst 0, 1) := dk_3 (dk_at dksX0_rides_4 7 rfl rfl)
theorem dX0_rides_100 : decode cX0_rides 100 = .ok (.istore 6, 2) := dk_54 6 (dk_at dksX0_rides_4 8 rfl rfl)
theorem dX0_rides_102 : decode cX0_rides 102 = .ok (.iload 6, 2) := dk_21 6 (dk_at dksX0_rides_4 10 rfl rfl)
theorem dX0_rides_104 : decode cX0_rides 104 = .ok (.ifCond .eq 7, 3) := dk_153 0 7 (dk_at dksX0_rides_4 12 rfl rfl)
theorem dX0_rides_107 : decode cX0_rides 107 = .ok (.iconst (-1), 1) := dk_2 (dk_at dksX0_rides_4 15 rfl rfl)
theorem dX0_rides_108 : decode cX0_rides 108 = .ok (.goto 21, 3) := dk_167 0 21 (dk_at dksX0_rides_4 16 rfl rfl)
theorem dX0_rides_111 : decode cX0_rides 111 = .ok (.aload_n 0, 1) := dk_42 (dk_at dksX0_rides_4 19 rfl rfl)
theorem dX0_rides_112 : decode cX0_rides 112 = .ok (.aload_n 0, 1) := dk_42 (dk_at dksX0_rides_4 20 rfl rfl)
theorem dX0_rides_113 : decode cX0_rides 113 = .ok (.getfield 376, 3) := dk_180 1 120 (dk_at dksX0_rides_4 21 rfl rfl)
theorem dX0_rides_116 : decode cX0_rides 116 = .ok (.aload_n 0, 1) := dk_42 (dk_at dksX0_rides_5 0 rfl rfl)
theorem dX0_rides_117 : decode cX0_rides 117 = .ok (.getfield 60, 3) := dk_180 0 60 (dk_at dksX0_rides_5 1 rfl rfl)
theorem dX0_rides_120 : decode cX0_rides 120 = .ok (.iload 5, 2) := dk_21 5 (dk_at dksX0_rides_5 4 rfl rfl)
theorem dX0_rides_122 : decode cX0_rides 122 = .ok (.aaload, 1) := dk_50 (dk_at dksX0_rides_5 6 rfl rfl)
theorem dX0_rides_123 : decode cX0_rides 123 = .ok (.getfield 93, 3) := dk_180 0 93 (dk_at dksX0_rides_5 7 rfl rfl)
theorem dX0_rides_126 : decode cX0_rides 126 = .ok (.invokevirtual 392, 3) := dk_182 1 136 (dk_at dksX0_rides_5 10 rfl rfl)
theorem dX0_rides_129 : decode cX0_rides 129 = .ok (.istore 7, 2) := dk_54 7 (dk_at dksX0_rides_5 13 rfl rfl)
theorem dX0_rides_131 : decode cX0_rides 131 = .ok (.iload 7, 2) := dk_21 7 (dk_at dksX0_rides_5 15 rfl rfl)
theorem dX0_rides_133 : decode cX0_rides 133 = .ok (.iconst (-1), 1) := dk_2 (dk_at dksX0_rides_5 17 rfl rfl)
theorem dX0_rides_134 : decode cX0_rides 134 = .ok (.if_icmp .eq 7, 3) := dk_159 0 7 (dk_at dksX0_rides_5 18 rfl rfl)
theorem dX0_rides_137 : decode cX0_rides 137 = .ok (.iconst 1, 1) := dk_4 (dk_at dksX0_rides_5 21 rfl rfl)
theorem dX0_rides_138 : decode cX0_rides 138 = .ok (.goto 4, 3) := dk_167 0 4 (dk_at dksX0_rides_6 0 rfl rfl)
theorem dX0_rides_141 : decode cX0_rides 141 = .ok (.iconst 0, 1) := dk_3 (dk_at dksX0_rides_6 3 rfl rfl)
theorem dX0_rides_142 : decode cX0_rides 142 = .ok (.istore 4, 2) := dk_54 4 (dk_at dksX0_rides_6 4 rfl rfl)
theorem dX0_rides_144 : decode cX0_rides 144 = .ok (.iload 4, 2) := dk_21 4 (dk_at dksX0_rides_6 6 rfl rfl)
theorem dX0_rides_146 : decode cX0_rides 146 = .ok (.ifCond .eq 65, 3) := dk_153 0 65 (dk_at dksX0_rides_6 8 rfl rfl)
theorem dX0_rides_149 : decode cX0_rides 149 = .ok (.aload_n 0, 1) := dk_42 (dk_at dksX0_rides_6 11 rfl rfl)
theorem dX0_rides_150 : decode cX0_rides 150 = .ok (.dup, 1) := dk_89 (dk_at dksX0_rides_6 12 rfl rfl)
theorem dX0_rides_151 : decode cX0_rides 151 = .ok (.getfield 387, 3) := dk_180 1 131 (dk_at dksX0_rides_6 13 rfl rfl)
theorem dX0_rides_154 : decode cX0_rides 154 = .ok (.aload_n 0, 1) := dk_42 (dk_at dksX0_rides_6 16 rfl rfl)
theorem dX0_rides_155 : decode cX0_rides 155 = .ok (.getfield 72, 3) := dk_180 0 72 (dk_at dksX0_rides_6 17 rfl rfl)
theorem dX0_rides_158 : decode cX0_rides 158 = .ok (.aload_n 0, 1) := dk_42 (dk_at dksX0_rides_6 20 rfl rfl)
theorem dX0_rides_159 : decode cX0_rides 159 = .ok (.getfield 376, 3) := dk_180 1 120 (dk_at dksX0_rides_6 21 rfl rfl)
theorem dX0_rides_162 : decode cX0_rides 162 = .ok (.aaload, 1) := dk_50 (dk_at dksX0_rides_7 0 rfl rfl)
theorem dX0_rides_163 : decode cX0_rides 163 = .ok (.iload 7, 2) := dk_21 7 (dk_at dksX0_rides_7 1 rfl rfl)
theorem dX0_rides_165 : decode cX0_rides 165 = .ok (.iaload, 1) := dk_46 (dk_at dksX0_rides_7 3 rfl rfl)
theorem dX0_rides_166 : decode cX0_rides 166 = .ok (.iadd, 1) := dk_96 (dk_at dksX0_rides_7 4 rfl rfl)
theorem dX0_rides_167 : decode cX0_rides 167 = .ok (.putfield 387, 3) := dk_181 1 131 (dk_at dksX0_rides_7 5 rfl rfl)
theorem dX0_rides_170 : decode cX0_rides 170 = .ok (.aload_n 0, 1) := dk_42 (dk_at dksX0_rides_7 8 rfl rfl)
theorem dX0_rides_171 : decode cX0_rides 171 = .ok (.dup, 1) := dk_89 (dk_at dksX0_rides_7 9 rfl rfl)
theorem dX0_rides_172 : decode cX0_rides 172 = .ok (.getfield 389, 3) := dk_180 1 133 (dk_at dksX0_rides_7 10 rfl rfl)
theorem dX0_rides_175 : decode cX0_rides 175 = .ok (.iload 5, 2) := dk_21 5 (dk_at dksX0_rides_7 13 rfl rfl)
theorem dX0_rides_177 : decode cX0_rides 177 = .ok (.iload_n 1, 1) := dk_27 (dk_at dksX0_rides_7 15 rfl rfl)
theorem dX0_rides_178 : decode cX0_rides 178 = .ok (.if_icmp .ne 7, 3) := dk_160 0 7 (dk_at dksX0_rides_7 16 rfl rfl)
theorem dX0_rides_181 : decode cX0_rides 181 = .ok (.iconst 1, 1) := dk_4 (dk_at dksX0_rides_7 19 rfl rfl)
theorem dX0_rides_182 : decode cX0_rides 182 = .ok (.goto 4, 3) := dk_167 0 4 (dk_at dksX0_rides_7 20 rfl rfl)
theorem dX0_rides_185 : decode cX0_rides 185 = .ok (.iconst 0, 1) := dk_3 (dk_at dksX0_rides_7 23 rfl rfl)
theorem dX0_rides_186 : decode cX0_rides 186 = .ok (.iadd, 1) := dk_96 (dk_at dksX0_rides_8 0 rfl rfl)
theorem dX0_rides_187 : decode cX0_rides 187 = .ok (.putfield 389, 3) := dk_181 1 133 (dk_at dksX0_rides_8 1 rfl rfl)
theorem dX0_rides_190 : decode cX0_rides 190 = .ok (.aload_n 0, 1) := dk_42 (dk_at dksX0_rides_8 4 rfl rfl)
theorem dX0_rides_191 : decode cX0_rides 191 = .ok (.dup, 1) := dk_89 (dk_at dksX0_rides_8 5 rfl rfl)
theorem dX0_rides_192 : decode cX0_rides 192 = .ok (.getfield 385, 3) := dk_180 1 129 (dk_at dksX0_rides_8 6 rfl rfl)
theorem dX0_rides_195 : decode cX0_rides 195 = .ok (.iconst 1, 1) := dk_4 (dk_at dksX0_rides_8 9 rfl rfl)
theorem dX0_rides_196 : decode cX0_rides 196 = .ok (.iadd, 1) := dk_96 (dk_at dksX0_rides_8 10 rfl rfl)
theorem dX0_rides_197 : decode cX0_rides 197 = .ok (.putfield 385, 3) := dk_181 1 129 (dk_at dksX0_rides_8 11 rfl rfl)
theorem dX0_rides_200 : decode cX0_rides 200 = .ok (.aload_n 0, 1) := dk_42 (dk_at dksX0_rides_8 14 rfl rfl)
theorem dX0_rides_201 : decode cX0_rides 201 = .ok (.getfield 296, 3) := dk_180 1 40 (dk_at dksX0_rides_8 15 rfl rfl)
theorem dX0_rides_204 : decode cX0_rides 204 = .ok (.aload_n 0, 1) := dk_42 (dk_at dksX0_rides_8 18 rfl rfl)
theorem dX0_rides_205 : decode cX0_rides 205 = .ok (.getfield 385, 3) := dk_180 1 129 (dk_at dksX0_rides_8 19 rfl rfl)
theorem dX0_rides_208 : decode cX0_rides 208 = .ok (.iload 7, 2) := dk_21 7 (dk_at dksX0_rides_8 22 rfl rfl)
theorem dX0_rides_210 : decode cX0_rides 210 = .ok (.iastore, 1) := dk_79 (dk_at dksX0_rides_9 0 rfl rfl)
theorem dX0_rides_211 : decode cX0_rides 211 = .ok (.goto (-186), 3) := dk_167 255 70 (dk_at dksX0_rides_9 1 rfl rfl)
theorem dX0_rides_214 : decode cX0_rides 214 = .ok (.aload_n 0, 1) := dk_42 (dk_at dksX0_rides_9 4 rfl rfl)
theorem dX0_rides_215 : decode cX0_rides 215 = .ok (.getfield 385, 3) := dk_180 1 129 (dk_at dksX0_rides_9 5 rfl rfl)
theorem dX0_rides_218 : decode cX0_rides 218 = .ok (.iconst 1, 1) := dk_4 (dk_at dksX0_rides_9 8 rfl rfl)
theorem dX0_rides_219 : decode cX0_rides 219 = .ok (.iadd, 1) := dk_96 (dk_at dksX0_rides_9 9 rfl rfl)
theorem dX0_rides_220 : decode cX0_rides 220 = .ok (.istore 5, 2) := dk_54 5 (dk_at dksX0_rides_9 10 rfl rfl)
theorem dX0_rides_222 : decode cX0_rides 222 = .ok (.iload 5, 2) := dk_21 5 (dk_at dksX0_rides_9 12 rfl rfl)
theorem dX0_rides_224 : decode cX0_rides 224 = .ok (.bipush 40, 2) := dk_16 40 (dk_at dksX0_rides_9 14 rfl rfl)
theorem dX0_rides_226 : decode cX0_rides 226 = .ok (.if_icmp .gt 25, 3) := dk_163 0 25 (dk_at dksX0_rides_9 16 rfl rfl)
theorem dX0_rides_229 : decode cX0_rides 229 = .ok (.aload_n 0, 1) := dk_42 (dk_at dksX0_rides_9 19 rfl rfl)
theorem dX0_rides_230 : decode cX0_rides 230 = .ok (.getfield 296, 3) := dk_180 1 40 (dk_at dksX0_rides_9 20 rfl rfl)
theorem dX0_rides_233 : decode cX0_rides 233 = .ok (.iload 5, 2) := dk_21 5 (dk_at dksX0_rides_10 0 rfl rfl)
theorem dX0_rides_235 : decode cX0_rides 235 = .ok (.aload_n 0, 1) := dk_42 (dk_at dksX0_rides_10 2 rfl rfl)
theorem dX0_rides_236 : decode cX0_rides 236 = .ok (.getfield 296, 3) := dk_180 1 40 (dk_at dksX0_rides_10 3 rfl rfl)
theorem dX0_rides_239 : decode cX0_rides 239 = .ok (.aload_n 0, 1) := dk_42 (dk_at dksX0_rides_10 6 rfl rfl)
theorem dX0_rides_240 : decode cX0_rides 240 = .ok (.getfield 385, 3) := dk_180 1 129 (dk_at dksX0_rides_10 7 rfl rfl)
theorem dX0_rides_243 : decode cX0_rides 243 = .ok (.iaload, 1) := dk_46 (dk_at dksX0_rides_10 10 rfl rfl)
theorem dX0_rides_244 : decode cX0_rides 244 = .ok (.iastore, 1) := dk_79 (dk_at dksX0_rides_10 11 rfl rfl)
theorem dX0_rides_245 : decode cX0_rides 245 = .ok (.iinc 5 1, 3) := dk_132 5 1 (dk_at dksX0_rides_10 12 rfl rfl)
theorem dX0_rides_248 : decode cX0_rides 248 = .ok (.goto (-26), 3) := dk_167 255 230 (dk_at dksX0_rides_10 15 rfl rfl)
theorem dX0_rides_251 : decode cX0_rides 251 = .ok (.return_, 1) := dk_177 (dk_at dksX0_rides_10 18 rfl rfl)
abbrev cX0_nextOf : ByteArray := prog_1_method_50_code
def yX0_nextOf : MethodName := ⟨RX0, "nextOf", "(II)I"⟩
def dkwX0_nextOf_4 : List UInt8 := [21, 4, 167, 0, 4, 29, 62, 132, 4, 1, 167, 255, 156, 29, 172]
abbrev dktX0_nextOf_4 : List UInt8 := dkwX0_nextOf_4 ++ []
def dkwX0_nextOf_3 : List UInt8 := [28, 46, 96, 42, 180, 0, 72, 27, 50, 29, 46, 42, 180, 0, 68, 29, 50, 28, 46, 96, 162, 0, 8]
abbrev dktX0_nextOf_3 : List UInt8 := dkwX0_nextOf_3 ++ dktX0_nextOf_4
def dkwX0_nextOf_2 : List UInt8 := [153, 0, 52, 29, 2, 159, 0, 42, 42, 180, 0, 72, 27, 50, 21, 4, 46, 42, 180, 0, 68, 21, 4, 50]
abbrev dktX0_nextOf_2 : List UInt8 := dkwX0_nextOf_2 ++ dktX0_nextOf_3
def dkwX0_nextOf_1 : List UInt8 := [42, 180, 0, 68, 21, 4, 50, 28, 46, 17, 3, 231, 162, 0, 7, 4, 167, 0, 4, 3, 54, 5, 21, 5]
abbrev dktX0_nextOf_1 : List UInt8 := dkwX0_nextOf_1 ++ dktX0_nextOf_2
def dkwX0_nextOf_0 : List UInt8 := [2, 62, 3, 54, 4, 21, 4, 16, 8, 162, 0, 99, 42, 180, 0, 72, 27, 50, 21, 4, 46, 158, 0, 22]
abbrev dktX0_nextOf_0 : List UInt8 := dkwX0_nextOf_0 ++ dktX0_nextOf_1
theorem dksX0_nextOf_0 : cX0_nextOf.data.toList.drop 0 = dktX0_nextOf_0 := by decide +kernel
theorem dksX0_nextOf_1 : cX0_nextOf.data.toList.drop 24 = dktX0_nextOf_1 := dk_seg dksX0_nextOf_0 24 rfl rfl
theorem dksX0_nextOf_2 : cX0_nextOf.data.toList.drop 48 = dktX0_nextOf_2 := dk_seg dksX0_nextOf_1 24 rfl rfl
theorem dksX0_nextOf_3 : cX0_nextOf.data.toList.drop 72 = dktX0_nextOf_3 := dk_seg dksX0_nextOf_2 24 rfl rfl
theorem dksX0_nextOf_4 : cX0_nextOf.data.toList.drop 95 = dktX0_nextOf_4 := dk_seg dksX0_nextOf_3 23 rfl rfl
theorem dX0_nextOf_0 : decode cX0_nextOf 0 = .ok (.iconst (-1), 1) := dk_2 (dk_at dksX0_nextOf_0 0 rfl rfl)
theorem dX0_nextOf_1 : decode cX0_nextOf 1 = .ok (.istore_n 3, 1) := dk_62 (dk_at dksX0_nextOf_0 1 rfl rfl)
theorem dX0_nextOf_2 : decode cX0_nextOf 2 = .ok (.iconst 0, 1) := dk_3 (dk_at dksX0_nextOf_0 2 rfl rfl)
theorem dX0_nextOf_3 : decode cX0_nextOf 3 = .ok (.istore 4, 2) := dk_54 4 (dk_at dksX0_nextOf_0 3 rfl rfl)
theorem dX0_nextOf_5 : decode cX0_nextOf 5 = .ok (.iload 4, 2) := dk_21 4 (dk_at dksX0_nextOf_0 5 rfl rfl)
theorem dX0_nextOf_7 : decode cX0_nextOf 7 = .ok (.bipush 8, 2) := dk_16 8 (dk_at dksX0_nextOf_0 7 rfl rfl)
theorem dX0_nextOf_9 : decode cX0_nextOf 9 = .ok (.if_icmp .ge 99, 3) := dk_162 0 99 (dk_at dksX0_nextOf_0 9 rfl rfl)
theorem dX0_nextOf_12 : decode cX0_nextOf 12 = .ok (.aload_n 0, 1) := dk_42 (dk_at dksX0_nextOf_0 12 rfl rfl)
theorem dX0_nextOf_13 : decode cX0_nextOf 13 = .ok (.getfield 72, 3) := dk_180 0 72 (dk_at dksX0_nextOf_0 13 rfl rfl)
theorem dX0_nextOf_16 : decode cX0_nextOf 16 = .ok (.iload_n 1, 1) := dk_27 (dk_at dksX0_nextOf_0 16 rfl rfl)
theorem dX0_nextOf_17 : decode cX0_nextOf 17 = .ok (.aaload, 1) := dk_50 (dk_at dksX0_nextOf_0 17 rfl rfl)
theorem dX0_nextOf_18 : decode cX0_nextOf 18 = .ok (.iload 4, 2) := dk_21 4 (dk_at dksX0_nextOf_0 18 rfl rfl)
theorem dX0_nextOf_20 : decode cX0_nextOf 20 = .ok (.iaload, 1) := dk_46 (dk_at dksX0_nextOf_0 20 rfl rfl)
theorem dX0_nextOf_21 : decode cX0_nextOf 21 = .ok (.ifCond .le 22, 3) := dk_158 0 22 (dk_at dksX0_nextOf_0 21 rfl rfl)
theorem dX0_nextOf_24 : decode cX0_nextOf 24 = .ok (.aload_n 0, 1) := dk_42 (dk_at dksX0_nextOf_1 0 rfl rfl)
theorem dX0_nextOf_25 : decode cX0_nextOf 25 = .ok (.getfield 68, 3) := dk_180 0 68 (dk_at dksX0_nextOf_1 1 rfl rfl)
theorem dX0_nextOf_28 : decode cX0_nextOf 28 = .ok (.iload 4, 2) := dk_21 4 (dk_at dksX0_nextOf_1 4 rfl rfl)
theorem dX0_nextOf_30 : decode cX0_nextOf 30 = .ok (.aaload, 1) := dk_50 (dk_at dksX0_nextOf_1 6 rfl rfl)
theorem dX0_nextOf_31 : decode cX0_nextOf 31 = .ok (.iload_n 2, 1) := dk_28 (dk_at dksX0_nextOf_1 7 rfl rfl)
theorem dX0_nextOf_32 : decode cX0_nextOf 32 = .ok (.iaload, 1) := dk_46 (dk_at dksX0_nextOf_1 8 rfl rfl)
theorem dX0_nextOf_33 : decode cX0_nextOf 33 = .ok (.sipush 999, 3) := dk_17 3 231 (dk_at dksX0_nextOf_1 9 rfl rfl)
theorem dX0_nextOf_36 : decode cX0_nextOf 36 = .ok (.if_icmp .ge 7, 3) := dk_162 0 7 (dk_at dksX0_nextOf_1 12 rfl rfl)
theorem dX0_nextOf_39 : decode cX0_nextOf 39 = .ok (.iconst 1, 1) := dk_4 (dk_at dksX0_nextOf_1 15 rfl rfl)
theorem dX0_nextOf_40 : decode cX0_nextOf 40 = .ok (.goto 4, 3) := dk_167 0 4 (dk_at dksX0_nextOf_1 16 rfl rfl)
theorem dX0_nextOf_43 : decode cX0_nextOf 43 = .ok (.iconst 0, 1) := dk_3 (dk_at dksX0_nextOf_1 19 rfl rfl)
theorem dX0_nextOf_44 : decode cX0_nextOf 44 = .ok (.istore 5, 2) := dk_54 5 (dk_at dksX0_nextOf_1 20 rfl rfl)
theorem dX0_nextOf_46 : decode cX0_nextOf 46 = .ok (.iload 5, 2) := dk_21 5 (dk_at dksX0_nextOf_1 22 rfl rfl)
theorem dX0_nextOf_48 : decode cX0_nextOf 48 = .ok (.ifCond .eq 52, 3) := dk_153 0 52 (dk_at dksX0_nextOf_2 0 rfl rfl)
theorem dX0_nextOf_51 : decode cX0_nextOf 51 = .ok (.iload_n 3, 1) := dk_29 (dk_at dksX0_nextOf_2 3 rfl rfl)
theorem dX0_nextOf_52 : decode cX0_nextOf 52 = .ok (.iconst (-1), 1) := dk_2 (dk_at dksX0_nextOf_2 4 rfl rfl)
theorem dX0_nextOf_53 : decode cX0_nextOf 53 = .ok (.if_icmp .eq 42, 3) := dk_159 0 42 (dk_at dksX0_nextOf_2 5 rfl rfl)
theorem dX0_nextOf_56 : decode cX0_nextOf 56 = .ok (.aload_n 0, 1) := dk_42 (dk_at dksX0_nextOf_2 8 rfl rfl)
theorem dX0_nextOf_57 : decode cX0_nextOf 57 = .ok (.getfield 72, 3) := dk_180 0 72 (dk_at dksX0_nextOf_2 9 rfl rfl)
theorem dX0_nextOf_60 : decode cX0_nextOf 60 = .ok (.iload_n 1, 1) := dk_27 (dk_at dksX0_nextOf_2 12 rfl rfl)
theorem dX0_nextOf_61 : decode cX0_nextOf 61 = .ok (.aaload, 1) := dk_50 (dk_at dksX0_nextOf_2 13 rfl rfl)
theorem dX0_nextOf_62 : decode cX0_nextOf 62 = .ok (.iload 4, 2) := dk_21 4 (dk_at dksX0_nextOf_2 14 rfl rfl)
theorem dX0_nextOf_64 : decode cX0_nextOf 64 = .ok (.iaload, 1) := dk_46 (dk_at dksX0_nextOf_2 16 rfl rfl)
theorem dX0_nextOf_65 : decode cX0_nextOf 65 = .ok (.aload_n 0, 1) := dk_42 (dk_at dksX0_nextOf_2 17 rfl rfl)
theorem dX0_nextOf_66 : decode cX0_nextOf 66 = .ok (.getfield 68, 3) := dk_180 0 68 (dk_at dksX0_nextOf_2 18 rfl rfl)
theorem dX0_nextOf_69 : decode cX0_nextOf 69 = .ok (.iload 4, 2) := dk_21 4 (dk_at dksX0_nextOf_2 21 rfl rfl)
theorem dX0_nextOf_71 : decode cX0_nextOf 71 = .ok (.aaload, 1) := dk_50 (dk_at dksX0_nextOf_2 23 rfl rfl)
theorem dX0_nextOf_72 : decode cX0_nextOf 72 = .ok (.iload_n 2, 1) := dk_28 (dk_at dksX0_nextOf_3 0 rfl rfl)
theorem dX0_nextOf_73 : decode cX0_nextOf 73 = .ok (.iaload, 1) := dk_46 (dk_at dksX0_nextOf_3 1 rfl rfl)
theorem dX0_nextOf_74 : decode cX0_nextOf 74 = .ok (.iadd, 1) := dk_96 (dk_at dksX0_nextOf_3 2 rfl rfl)
theorem dX0_nextOf_75 : decode cX0_nextOf 75 = .ok (.aload_n 0, 1) := dk_42 (dk_at dksX0_nextOf_3 3 rfl rfl)
theorem dX0_nextOf_76 : decode cX0_nextOf 76 = .ok (.getfield 72, 3) := dk_180 0 72 (dk_at dksX0_nextOf_3 4 rfl rfl)
theorem dX0_nextOf_79 : decode cX0_nextOf 79 = .ok (.iload_n 1, 1) := dk_27 (dk_at dksX0_nextOf_3 7 rfl rfl)
theorem dX0_nextOf_80 : decode cX0_nextOf 80 = .ok (.aaload, 1) := dk_50 (dk_at dksX0_nextOf_3 8 rfl rfl)
theorem dX0_nextOf_81 : decode cX0_nextOf 81 = .ok (.iload_n 3, 1) := dk_29 (dk_at dksX0_nextOf_3 9 rfl rfl)
theorem dX0_nextOf_82 : decode cX0_nextOf 82 = .ok (.iaload, 1) := dk_46 (dk_at dksX0_nextOf_3 10 rfl rfl)
theorem dX0_nextOf_83 : decode cX0_nextOf 83 = .ok (.aload_n 0, 1) := dk_42 (dk_at dksX0_nextOf_3 11 rfl rfl)
theorem dX0_nextOf_84 : decode cX0_nextOf 84 = .ok (.getfield 68, 3) := dk_180 0 68 (dk_at dksX0_nextOf_3 12 rfl rfl)
theorem dX0_nextOf_87 : decode cX0_nextOf 87 = .ok (.iload_n 3, 1) := dk_29 (dk_at dksX0_nextOf_3 15 rfl rfl)
theorem dX0_nextOf_88 : decode cX0_nextOf 88 = .ok (.aaload, 1) := dk_50 (dk_at dksX0_nextOf_3 16 rfl rfl)
theorem dX0_nextOf_89 : decode cX0_nextOf 89 = .ok (.iload_n 2, 1) := dk_28 (dk_at dksX0_nextOf_3 17 rfl rfl)
theorem dX0_nextOf_90 : decode cX0_nextOf 90 = .ok (.iaload, 1) := dk_46 (dk_at dksX0_nextOf_3 18 rfl rfl)
theorem dX0_nextOf_91 : decode cX0_nextOf 91 = .ok (.iadd, 1) := dk_96 (dk_at dksX0_nextOf_3 19 rfl rfl)
theorem dX0_nextOf_92 : decode cX0_nextOf 92 = .ok (.if_icmp .ge 8, 3) := dk_162 0 8 (dk_at dksX0_nextOf_3 20 rfl rfl)
theorem dX0_nextOf_95 : decode cX0_nextOf 95 = .ok (.iload 4, 2) := dk_21 4 (dk_at dksX0_nextOf_4 0 rfl rfl)
theorem dX0_nextOf_97 : decode cX0_nextOf 97 = .ok (.goto 4, 3) := dk_167 0 4 (dk_at dksX0_nextOf_4 2 rfl rfl)
theorem dX0_nextOf_100 : decode cX0_nextOf 100 = .ok (.iload_n 3, 1) := dk_29 (dk_at dksX0_nextOf_4 5 rfl rfl)
theorem dX0_nextOf_101 : decode cX0_nextOf 101 = .ok (.istore_n 3, 1) := dk_62 (dk_at dksX0_nextOf_4 6 rfl rfl)
theorem dX0_nextOf_102 : decode cX0_nextOf 102 = .ok (.iinc 4 1, 3) := dk_132 4 1 (dk_at dksX0_nextOf_4 7 rfl rfl)
theorem dX0_nextOf_105 : decode cX0_nextOf 105 = .ok (.goto (-100), 3) := dk_167 255 156 (dk_at dksX0_nextOf_4 10 rfl rfl)
theorem dX0_nextOf_108 : decode cX0_nextOf 108 = .ok (.iload_n 3, 1) := dk_29 (dk_at dksX0_nextOf_4 13 rfl rfl)
theorem dX0_nextOf_109 : decode cX0_nextOf 109 = .ok (.ireturn, 1) := dk_172 (dk_at dksX0_nextOf_4 14 rfl rfl)
abbrev cX0_toldRide : ByteArray := prog_1_method_53_code
def yX0_toldRide : MethodName := ⟨RX0, "toldRide", "(I)I"⟩
def dkwX0_toldRide_4 : List UInt8 := [180, 1, 133, 172, 42, 180, 1, 40, 27, 16, 10, 100, 46, 172]
abbrev dktX0_toldRide_4 : List UInt8 := dkwX0_toldRide_4 ++ []
def dkwX0_toldRide_3 : List UInt8 := [184, 1, 142, 42, 180, 1, 129, 163, 0, 7, 4, 167, 0, 4, 3, 172, 42, 182, 1, 139, 172, 42]
abbrev dktX0_toldRide_3 : List UInt8 := dkwX0_toldRide_3 ++ dktX0_toldRide_4
def dkwX0_toldRide_2 : List UInt8 := [42, 180, 1, 40, 42, 180, 1, 129, 46, 172, 42, 180, 1, 129, 172, 42, 180, 1, 131, 172, 42, 182, 1, 139]
abbrev dktX0_toldRide_2 : List UInt8 := dkwX0_toldRide_2 ++ dktX0_toldRide_3
def dkwX0_toldRide_1 : List UInt8 := [170, 0, 0, 0, 0, 0, 89, 0, 0, 0, 0, 0, 0, 0, 5, 0, 0, 0, 39, 0, 0, 0, 49, 0, 0, 0, 54, 0, 0, 0, 59, 0, 0, 0, 79, 0, 0, 0, 84]
abbrev dktX0_toldRide_1 : List UInt8 := dkwX0_toldRide_1 ++ dktX0_toldRide_2
def dkwX0_toldRide_0 : List UInt8 := [27]
abbrev dktX0_toldRide_0 : List UInt8 := dkwX0_toldRide_0 ++ dktX0_toldRide_1
theorem dksX0_toldRide_0 : cX0_toldRide.data.toList.drop 0 = dktX0_toldRide_0 := by decide +kernel
theorem dksX0_toldRide_1 : cX0_toldRide.data.toList.drop 1 = dktX0_toldRide_1 := dk_seg dksX0_toldRide_0 1 rfl rfl
theorem dksX0_toldRide_2 : cX0_toldRide.data.toList.drop 40 = dktX0_toldRide_2 := dk_seg dksX0_toldRide_1 39 rfl rfl
theorem dksX0_toldRide_3 : cX0_toldRide.data.toList.drop 64 = dktX0_toldRide_3 := dk_seg dksX0_toldRide_2 24 rfl rfl
theorem dksX0_toldRide_4 : cX0_toldRide.data.toList.drop 86 = dktX0_toldRide_4 := dk_seg dksX0_toldRide_3 22 rfl rfl
theorem dX0_toldRide_0 : decode cX0_toldRide 0 = .ok (.iload_n 1, 1) := dk_27 (dk_at dksX0_toldRide_0 0 rfl rfl)
theorem dX0_toldRide_1 : decode cX0_toldRide 1 = .ok (.tableswitch 89 0 5 #[39, 49, 54, 59, 79, 84], 39) := by decide +kernel
theorem dX0_toldRide_40 : decode cX0_toldRide 40 = .ok (.aload_n 0, 1) := dk_42 (dk_at dksX0_toldRide_2 0 rfl rfl)
theorem dX0_toldRide_41 : decode cX0_toldRide 41 = .ok (.getfield 296, 3) := dk_180 1 40 (dk_at dksX0_toldRide_2 1 rfl rfl)
theorem dX0_toldRide_44 : decode cX0_toldRide 44 = .ok (.aload_n 0, 1) := dk_42 (dk_at dksX0_toldRide_2 4 rfl rfl)
theorem dX0_toldRide_45 : decode cX0_toldRide 45 = .ok (.getfield 385, 3) := dk_180 1 129 (dk_at dksX0_toldRide_2 5 rfl rfl)
theorem dX0_toldRide_48 : decode cX0_toldRide 48 = .ok (.iaload, 1) := dk_46 (dk_at dksX0_toldRide_2 8 rfl rfl)
theorem dX0_toldRide_49 : decode cX0_toldRide 49 = .ok (.ireturn, 1) := dk_172 (dk_at dksX0_toldRide_2 9 rfl rfl)
theorem dX0_toldRide_50 : decode cX0_toldRide 50 = .ok (.aload_n 0, 1) := dk_42 (dk_at dksX0_toldRide_2 10 rfl rfl)
theorem dX0_toldRide_51 : decode cX0_toldRide 51 = .ok (.getfield 385, 3) := dk_180 1 129 (dk_at dksX0_toldRide_2 11 rfl rfl)
theorem dX0_toldRide_54 : decode cX0_toldRide 54 = .ok (.ireturn, 1) := dk_172 (dk_at dksX0_toldRide_2 14 rfl rfl)
theorem dX0_toldRide_55 : decode cX0_toldRide 55 = .ok (.aload_n 0, 1) := dk_42 (dk_at dksX0_toldRide_2 15 rfl rfl)
theorem dX0_toldRide_56 : decode cX0_toldRide 56 = .ok (.getfield 387, 3) := dk_180 1 131 (dk_at dksX0_toldRide_2 16 rfl rfl)
theorem dX0_toldRide_59 : decode cX0_toldRide 59 = .ok (.ireturn, 1) := dk_172 (dk_at dksX0_toldRide_2 19 rfl rfl)
theorem dX0_toldRide_60 : decode cX0_toldRide 60 = .ok (.aload_n 0, 1) := dk_42 (dk_at dksX0_toldRide_2 20 rfl rfl)
theorem dX0_toldRide_61 : decode cX0_toldRide 61 = .ok (.invokevirtual 395, 3) := dk_182 1 139 (dk_at dksX0_toldRide_2 21 rfl rfl)
theorem dX0_toldRide_64 : decode cX0_toldRide 64 = .ok (.invokestatic 398, 3) := dk_184 1 142 (dk_at dksX0_toldRide_3 0 rfl rfl)
theorem dX0_toldRide_67 : decode cX0_toldRide 67 = .ok (.aload_n 0, 1) := dk_42 (dk_at dksX0_toldRide_3 3 rfl rfl)
theorem dX0_toldRide_68 : decode cX0_toldRide 68 = .ok (.getfield 385, 3) := dk_180 1 129 (dk_at dksX0_toldRide_3 4 rfl rfl)
theorem dX0_toldRide_71 : decode cX0_toldRide 71 = .ok (.if_icmp .gt 7, 3) := dk_163 0 7 (dk_at dksX0_toldRide_3 7 rfl rfl)
theorem dX0_toldRide_74 : decode cX0_toldRide 74 = .ok (.iconst 1, 1) := dk_4 (dk_at dksX0_toldRide_3 10 rfl rfl)
theorem dX0_toldRide_75 : decode cX0_toldRide 75 = .ok (.goto 4, 3) := dk_167 0 4 (dk_at dksX0_toldRide_3 11 rfl rfl)
theorem dX0_toldRide_78 : decode cX0_toldRide 78 = .ok (.iconst 0, 1) := dk_3 (dk_at dksX0_toldRide_3 14 rfl rfl)
theorem dX0_toldRide_79 : decode cX0_toldRide 79 = .ok (.ireturn, 1) := dk_172 (dk_at dksX0_toldRide_3 15 rfl rfl)
theorem dX0_toldRide_80 : decode cX0_toldRide 80 = .ok (.aload_n 0, 1) := dk_42 (dk_at dksX0_toldRide_3 16 rfl rfl)
theorem dX0_toldRide_81 : decode cX0_toldRide 81 = .ok (.invokevirtual 395, 3) := dk_182 1 139 (dk_at dksX0_toldRide_3 17 rfl rfl)
theorem dX0_toldRide_84 : decode cX0_toldRide 84 = .ok (.ireturn, 1) := dk_172 (dk_at dksX0_toldRide_3 20 rfl rfl)
theorem dX0_toldRide_85 : decode cX0_toldRide 85 = .ok (.aload_n 0, 1) := dk_42 (dk_at dksX0_toldRide_3 21 rfl rfl)
theorem dX0_toldRide_86 : decode cX0_toldRide 86 = .ok (.getfield 389, 3) := dk_180 1 133 (dk_at dksX0_toldRide_4 0 rfl rfl)
theorem dX0_toldRide_89 : decode cX0_toldRide 89 = .ok (.ireturn, 1) := dk_172 (dk_at dksX0_toldRide_4 3 rfl rfl)
theorem dX0_toldRide_90 : decode cX0_toldRide 90 = .ok (.aload_n 0, 1) := dk_42 (dk_at dksX0_toldRide_4 4 rfl rfl)
theorem dX0_toldRide_91 : decode cX0_toldRide 91 = .ok (.getfield 296, 3) := dk_180 1 40 (dk_at dksX0_toldRide_4 5 rfl rfl)
theorem dX0_toldRide_94 : decode cX0_toldRide 94 = .ok (.iload_n 1, 1) := dk_27 (dk_at dksX0_toldRide_4 8 rfl rfl)
theorem dX0_toldRide_95 : decode cX0_toldRide 95 = .ok (.bipush 10, 2) := dk_16 10 (dk_at dksX0_toldRide_4 9 rfl rfl)
theorem dX0_toldRide_97 : decode cX0_toldRide 97 = .ok (.isub, 1) := dk_100 (dk_at dksX0_toldRide_4 11 rfl rfl)
theorem dX0_toldRide_98 : decode cX0_toldRide 98 = .ok (.iaload, 1) := dk_46 (dk_at dksX0_toldRide_4 12 rfl rfl)
theorem dX0_toldRide_99 : decode cX0_toldRide 99 = .ok (.ireturn, 1) := dk_172 (dk_at dksX0_toldRide_4 13 rfl rfl)
abbrev cX0_placeSet : ByteArray := prog_1_method_52_code
def yX0_placeSet : MethodName := ⟨RX0, "placeSet", "()I"⟩
def dkwX0_placeSet_1 : List UInt8 := [132, 2, 1, 167, 255, 234, 27, 172]
abbrev dktX0_placeSet_1 : List UInt8 := dkwX0_placeSet_1 ++ []
def dkwX0_placeSet_0 : List UInt8 := [3, 60, 3, 61, 28, 42, 180, 1, 129, 163, 0, 20, 27, 4, 42, 180, 1, 40, 28, 46, 120, 128, 60]
abbrev dktX0_placeSet_0 : List UInt8 := dkwX0_placeSet_0 ++ dktX0_placeSet_1
theorem dksX0_placeSet_0 : cX0_placeSet.data.toList.drop 0 = dktX0_placeSet_0 := by decide +kernel
theorem dksX0_placeSet_1 : cX0_placeSet.data.toList.drop 23 = dktX0_placeSet_1 := dk_seg dksX0_placeSet_0 23 rfl rfl
theorem dX0_placeSet_0 : decode cX0_placeSet 0 = .ok (.iconst 0, 1) := dk_3 (dk_at dksX0_placeSet_0 0 rfl rfl)
theorem dX0_placeSet_1 : decode cX0_placeSet 1 = .ok (.istore_n 1, 1) := dk_60 (dk_at dksX0_placeSet_0 1 rfl rfl)
theorem dX0_placeSet_2 : decode cX0_placeSet 2 = .ok (.iconst 0, 1) := dk_3 (dk_at dksX0_placeSet_0 2 rfl rfl)
theorem dX0_placeSet_3 : decode cX0_placeSet 3 = .ok (.istore_n 2, 1) := dk_61 (dk_at dksX0_placeSet_0 3 rfl rfl)
theorem dX0_placeSet_4 : decode cX0_placeSet 4 = .ok (.iload_n 2, 1) := dk_28 (dk_at dksX0_placeSet_0 4 rfl rfl)
theorem dX0_placeSet_5 : decode cX0_placeSet 5 = .ok (.aload_n 0, 1) := dk_42 (dk_at dksX0_placeSet_0 5 rfl rfl)
theorem dX0_placeSet_6 : decode cX0_placeSet 6 = .ok (.getfield 385, 3) := dk_180 1 129 (dk_at dksX0_placeSet_0 6 rfl rfl)
theorem dX0_placeSet_9 : decode cX0_placeSet 9 = .ok (.if_icmp .gt 20, 3) := dk_163 0 20 (dk_at dksX0_placeSet_0 9 rfl rfl)
theorem dX0_placeSet_12 : decode cX0_placeSet 12 = .ok (.iload_n 1, 1) := dk_27 (dk_at dksX0_placeSet_0 12 rfl rfl)
theorem dX0_placeSet_13 : decode cX0_placeSet 13 = .ok (.iconst 1, 1) := dk_4 (dk_at dksX0_placeSet_0 13 rfl rfl)
theorem dX0_placeSet_14 : decode cX0_placeSet 14 = .ok (.aload_n 0, 1) := dk_42 (dk_at dksX0_placeSet_0 14 rfl rfl)
theorem dX0_placeSet_15 : decode cX0_placeSet 15 = .ok (.getfield 296, 3) := dk_180 1 40 (dk_at dksX0_placeSet_0 15 rfl rfl)
theorem dX0_placeSet_18 : decode cX0_placeSet 18 = .ok (.iload_n 2, 1) := dk_28 (dk_at dksX0_placeSet_0 18 rfl rfl)
theorem dX0_placeSet_19 : decode cX0_placeSet 19 = .ok (.iaload, 1) := dk_46 (dk_at dksX0_placeSet_0 19 rfl rfl)
theorem dX0_placeSet_20 : decode cX0_placeSet 20 = .ok (.ishl, 1) := dk_120 (dk_at dksX0_placeSet_0 20 rfl rfl)
theorem dX0_placeSet_21 : decode cX0_placeSet 21 = .ok (.ior, 1) := dk_128 (dk_at dksX0_placeSet_0 21 rfl rfl)
theorem dX0_placeSet_22 : decode cX0_placeSet 22 = .ok (.istore_n 1, 1) := dk_60 (dk_at dksX0_placeSet_0 22 rfl rfl)
theorem dX0_placeSet_23 : decode cX0_placeSet 23 = .ok (.iinc 2 1, 3) := dk_132 2 1 (dk_at dksX0_placeSet_1 0 rfl rfl)
theorem dX0_placeSet_26 : decode cX0_placeSet 26 = .ok (.goto (-22), 3) := dk_167 255 234 (dk_at dksX0_placeSet_1 3 rfl rfl)
theorem dX0_placeSet_29 : decode cX0_placeSet 29 = .ok (.iload_n 1, 1) := dk_27 (dk_at dksX0_placeSet_1 6 rfl rfl)
theorem dX0_placeSet_30 : decode cX0_placeSet 30 = .ok (.ireturn, 1) := dk_172 (dk_at dksX0_placeSet_1 7 rfl rfl)
abbrev cX0_goes : ByteArray := prog_1_method_55_code
def yX0_goes : MethodName := ⟨RX0, "goes", "(III)I"⟩
def dkwX0_goes_3 : List UInt8 := [42, 180, 1, 131, 96, 19, 1, 157, 184, 1, 87, 181, 0, 110, 42, 180, 1, 131, 172]
abbrev dktX0_goes_3 : List UInt8 := dkwX0_goes_3 ++ []
def dkwX0_goes_2 : List UInt8 := [19, 1, 157, 184, 1, 87, 181, 0, 110, 42, 180, 0, 60, 28, 50, 42, 180, 0, 60, 28, 50, 180, 0, 110]
abbrev dktX0_goes_2 : List UInt8 := dkwX0_goes_2 ++ dktX0_goes_3
def dkwX0_goes_1 : List UInt8 := [182, 1, 151, 42, 180, 0, 60, 27, 50, 42, 180, 0, 60, 27, 50, 180, 0, 110, 42, 180, 1, 131, 96]
abbrev dktX0_goes_1 : List UInt8 := dkwX0_goes_1 ++ dktX0_goes_2
def dkwX0_goes_0 : List UInt8 := [42, 27, 28, 182, 0, 28, 153, 0, 10, 29, 184, 0, 57, 154, 0, 6, 16, 254, 172, 42, 27, 28, 29]
abbrev dktX0_goes_0 : List UInt8 := dkwX0_goes_0 ++ dktX0_goes_1
theorem dksX0_goes_0 : cX0_goes.data.toList.drop 0 = dktX0_goes_0 := by decide +kernel
theorem dksX0_goes_1 : cX0_goes.data.toList.drop 23 = dktX0_goes_1 := dk_seg dksX0_goes_0 23 rfl rfl
theorem dksX0_goes_2 : cX0_goes.data.toList.drop 46 = dktX0_goes_2 := dk_seg dksX0_goes_1 23 rfl rfl
theorem dksX0_goes_3 : cX0_goes.data.toList.drop 70 = dktX0_goes_3 := dk_seg dksX0_goes_2 24 rfl rfl
theorem dX0_goes_0 : decode cX0_goes 0 = .ok (.aload_n 0, 1) := dk_42 (dk_at dksX0_goes_0 0 rfl rfl)
theorem dX0_goes_1 : decode cX0_goes 1 = .ok (.iload_n 1, 1) := dk_27 (dk_at dksX0_goes_0 1 rfl rfl)
theorem dX0_goes_2 : decode cX0_goes 2 = .ok (.iload_n 2, 1) := dk_28 (dk_at dksX0_goes_0 2 rfl rfl)
theorem dX0_goes_3 : decode cX0_goes 3 = .ok (.invokevirtual 28, 3) := dk_182 0 28 (dk_at dksX0_goes_0 3 rfl rfl)
theorem dX0_goes_6 : decode cX0_goes 6 = .ok (.ifCond .eq 10, 3) := dk_153 0 10 (dk_at dksX0_goes_0 6 rfl rfl)
theorem dX0_goes_9 : decode cX0_goes 9 = .ok (.iload_n 3, 1) := dk_29 (dk_at dksX0_goes_0 9 rfl rfl)
theorem dX0_goes_10 : decode cX0_goes 10 = .ok (.invokestatic 57, 3) := dk_184 0 57 (dk_at dksX0_goes_0 10 rfl rfl)
theorem dX0_goes_13 : decode cX0_goes 13 = .ok (.ifCond .ne 6, 3) := dk_154 0 6 (dk_at dksX0_goes_0 13 rfl rfl)
theorem dX0_goes_16 : decode cX0_goes 16 = .ok (.bipush (-2), 2) := dk_16 254 (dk_at dksX0_goes_0 16 rfl rfl)
theorem dX0_goes_18 : decode cX0_goes 18 = .ok (.ireturn, 1) := dk_172 (dk_at dksX0_goes_0 18 rfl rfl)
theorem dX0_goes_19 : decode cX0_goes 19 = .ok (.aload_n 0, 1) := dk_42 (dk_at dksX0_goes_0 19 rfl rfl)
theorem dX0_goes_20 : decode cX0_goes 20 = .ok (.iload_n 1, 1) := dk_27 (dk_at dksX0_goes_0 20 rfl rfl)
theorem dX0_goes_21 : decode cX0_goes 21 = .ok (.iload_n 2, 1) := dk_28 (dk_at dksX0_goes_0 21 rfl rfl)
theorem dX0_goes_22 : decode cX0_goes 22 = .ok (.iload_n 3, 1) := dk_29 (dk_at dksX0_goes_0 22 rfl rfl)
theorem dX0_goes_23 : decode cX0_goes 23 = .ok (.invokevirtual 407, 3) := dk_182 1 151 (dk_at dksX0_goes_1 0 rfl rfl)
theorem dX0_goes_26 : decode cX0_goes 26 = .ok (.aload_n 0, 1) := dk_42 (dk_at dksX0_goes_1 3 rfl rfl)
theorem dX0_goes_27 : decode cX0_goes 27 = .ok (.getfield 60, 3) := dk_180 0 60 (dk_at dksX0_goes_1 4 rfl rfl)
theorem dX0_goes_30 : decode cX0_goes 30 = .ok (.iload_n 1, 1) := dk_27 (dk_at dksX0_goes_1 7 rfl rfl)
theorem dX0_goes_31 : decode cX0_goes 31 = .ok (.aaload, 1) := dk_50 (dk_at dksX0_goes_1 8 rfl rfl)
theorem dX0_goes_32 : decode cX0_goes 32 = .ok (.aload_n 0, 1) := dk_42 (dk_at dksX0_goes_1 9 rfl rfl)
theorem dX0_goes_33 : decode cX0_goes 33 = .ok (.getfield 60, 3) := dk_180 0 60 (dk_at dksX0_goes_1 10 rfl rfl)
theorem dX0_goes_36 : decode cX0_goes 36 = .ok (.iload_n 1, 1) := dk_27 (dk_at dksX0_goes_1 13 rfl rfl)
theorem dX0_goes_37 : decode cX0_goes 37 = .ok (.aaload, 1) := dk_50 (dk_at dksX0_goes_1 14 rfl rfl)
theorem dX0_goes_38 : decode cX0_goes 38 = .ok (.getfield 110, 3) := dk_180 0 110 (dk_at dksX0_goes_1 15 rfl rfl)
theorem dX0_goes_41 : decode cX0_goes 41 = .ok (.aload_n 0, 1) := dk_42 (dk_at dksX0_goes_1 18 rfl rfl)
theorem dX0_goes_42 : decode cX0_goes 42 = .ok (.getfield 387, 3) := dk_180 1 131 (dk_at dksX0_goes_1 19 rfl rfl)
theorem dX0_goes_45 : decode cX0_goes 45 = .ok (.iadd, 1) := dk_96 (dk_at dksX0_goes_1 22 rfl rfl)
theorem dX0_goes_46 : decode cX0_goes 46 = .ok (.ldc_w 413, 3) := dk_19 1 157 (dk_at dksX0_goes_2 0 rfl rfl)
theorem dX0_goes_49 : decode cX0_goes 49 = .ok (.invokestatic 343, 3) := dk_184 1 87 (dk_at dksX0_goes_2 3 rfl rfl)
theorem dX0_goes_52 : decode cX0_goes 52 = .ok (.putfield 110, 3) := dk_181 0 110 (dk_at dksX0_goes_2 6 rfl rfl)
theorem dX0_goes_55 : decode cX0_goes 55 = .ok (.aload_n 0, 1) := dk_42 (dk_at dksX0_goes_2 9 rfl rfl)
theorem dX0_goes_56 : decode cX0_goes 56 = .ok (.getfield 60, 3) := dk_180 0 60 (dk_at dksX0_goes_2 10 rfl rfl)
theorem dX0_goes_59 : decode cX0_goes 59 = .ok (.iload_n 2, 1) := dk_28 (dk_at dksX0_goes_2 13 rfl rfl)
theorem dX0_goes_60 : decode cX0_goes 60 = .ok (.aaload, 1) := dk_50 (dk_at dksX0_goes_2 14 rfl rfl)
theorem dX0_goes_61 : decode cX0_goes 61 = .ok (.aload_n 0, 1) := dk_42 (dk_at dksX0_goes_2 15 rfl rfl)
theorem dX0_goes_62 : decode cX0_goes 62 = .ok (.getfield 60, 3) := dk_180 0 60 (dk_at dksX0_goes_2 16 rfl rfl)
theorem dX0_goes_65 : decode cX0_goes 65 = .ok (.iload_n 2, 1) := dk_28 (dk_at dksX0_goes_2 19 rfl rfl)
theorem dX0_goes_66 : decode cX0_goes 66 = .ok (.aaload, 1) := dk_50 (dk_at dksX0_goes_2 20 rfl rfl)
theorem dX0_goes_67 : decode cX0_goes 67 = .ok (.getfield 110, 3) := dk_180 0 110 (dk_at dksX0_goes_2 21 rfl rfl)
theorem dX0_goes_70 : decode cX0_goes 70 = .ok (.aload_n 0, 1) := dk_42 (dk_at dksX0_goes_3 0 rfl rfl)
theorem dX0_goes_71 : decode cX0_goes 71 = .ok (.getfield 387, 3) := dk_180 1 131 (dk_at dksX0_goes_3 1 rfl rfl)
theorem dX0_goes_74 : decode cX0_goes 74 = .ok (.iadd, 1) := dk_96 (dk_at dksX0_goes_3 4 rfl rfl)
theorem dX0_goes_75 : decode cX0_goes 75 = .ok (.ldc_w 413, 3) := dk_19 1 157 (dk_at dksX0_goes_3 5 rfl rfl)
theorem dX0_goes_78 : decode cX0_goes 78 = .ok (.invokestatic 343, 3) := dk_184 1 87 (dk_at dksX0_goes_3 8 rfl rfl)
theorem dX0_goes_81 : decode cX0_goes 81 = .ok (.putfield 110, 3) := dk_181 0 110 (dk_at dksX0_goes_3 11 rfl rfl)
theorem dX0_goes_84 : decode cX0_goes 84 = .ok (.aload_n 0, 1) := dk_42 (dk_at dksX0_goes_3 14 rfl rfl)
theorem dX0_goes_85 : decode cX0_goes 85 = .ok (.getfield 387, 3) := dk_180 1 131 (dk_at dksX0_goes_3 15 rfl rfl)
theorem dX0_goes_88 : decode cX0_goes 88 = .ok (.ireturn, 1) := dk_172 (dk_at dksX0_goes_3 18 rfl rfl)
abbrev cX0_best : ByteArray := prog_1_method_57_code
def yX0_best : MethodName := ⟨RX0, "best", "(III)I"⟩
def dkwX0_best_5 : List UInt8 := [54, 5, 132, 6, 1, 167, 255, 172, 29, 154, 0, 8, 21, 4, 167, 0, 5, 21, 5, 172]
abbrev dktX0_best_5 : List UInt8 := dkwX0_best_5 ++ []
def dkwX0_best_4 : List UInt8 := [21, 6, 167, 0, 5, 21, 4, 54, 4, 21, 7, 153, 0, 10, 42, 180, 1, 131, 167, 0, 5, 21, 5]
abbrev dktX0_best_4 : List UInt8 := dkwX0_best_4 ++ dktX0_best_5
def dkwX0_best_3 : List UInt8 := [159, 0, 12, 42, 180, 1, 131, 21, 5, 162, 0, 7, 4, 167, 0, 4, 3, 54, 7, 21, 7, 153, 0, 8]
abbrev dktX0_best_3 : List UInt8 := dkwX0_best_3 ++ dktX0_best_4
def dkwX0_best_2 : List UInt8 := [21, 6, 27, 159, 0, 69, 42, 27, 21, 6, 28, 182, 1, 158, 154, 0, 6, 167, 0, 55, 21, 4, 2]
abbrev dktX0_best_2 : List UInt8 := dkwX0_best_2 ++ dktX0_best_3
def dkwX0_best_1 : List UInt8 := [154, 0, 6, 16, 254, 172, 2, 54, 4, 2, 54, 5, 3, 54, 6, 21, 6, 42, 180, 0, 18, 162, 0, 81]
abbrev dktX0_best_1 : List UInt8 := dkwX0_best_1 ++ dktX0_best_2
def dkwX0_best_0 : List UInt8 := [42, 27, 182, 0, 22, 153, 0, 20, 28, 184, 0, 57, 153, 0, 13, 29, 133, 9, 10, 184, 0, 14]
abbrev dktX0_best_0 : List UInt8 := dkwX0_best_0 ++ dktX0_best_1
theorem dksX0_best_0 : cX0_best.data.toList.drop 0 = dktX0_best_0 := by decide +kernel
theorem dksX0_best_1 : cX0_best.data.toList.drop 22 = dktX0_best_1 := dk_seg dksX0_best_0 22 rfl rfl
theorem dksX0_best_2 : cX0_best.data.toList.drop 46 = dktX0_best_2 := dk_seg dksX0_best_1 24 rfl rfl
theorem dksX0_best_3 : cX0_best.data.toList.drop 69 = dktX0_best_3 := dk_seg dksX0_best_2 23 rfl rfl
theorem dksX0_best_4 : cX0_best.data.toList.drop 93 = dktX0_best_4 := dk_seg dksX0_best_3 24 rfl rfl
theorem dksX0_best_5 : cX0_best.data.toList.drop 116 = dktX0_best_5 := dk_seg dksX0_best_4 23 rfl rfl
theorem dX0_best_0 : decode cX0_best 0 = .ok (.aload_n 0, 1) := dk_42 (dk_at dksX0_best_0 0 rfl rfl)
theorem dX0_best_1 : decode cX0_best 1 = .ok (.iload_n 1, 1) := dk_27 (dk_at dksX0_best_0 1 rfl rfl)
theorem dX0_best_2 : decode cX0_best 2 = .ok (.invokevirtual 22, 3) := dk_182 0 22 (dk_at dksX0_best_0 2 rfl rfl)
theorem dX0_best_5 : decode cX0_best 5 = .ok (.ifCond .eq 20, 3) := dk_153 0 20 (dk_at dksX0_best_0 5 rfl rfl)
theorem dX0_best_8 : decode cX0_best 8 = .ok (.iload_n 2, 1) := dk_28 (dk_at dksX0_best_0 8 rfl rfl)
theorem dX0_best_9 : decode cX0_best 9 = .ok (.invokestatic 57, 3) := dk_184 0 57 (dk_at dksX0_best_0 9 rfl rfl)
theorem dX0_best_12 : decode cX0_best 12 = .ok (.ifCond .eq 13, 3) := dk_153 0 13 (dk_at dksX0_best_0 12 rfl rfl)
theorem dX0_best_15 : decode cX0_best 15 = .ok (.iload_n 3, 1) := dk_29 (dk_at dksX0_best_0 15 rfl rfl)
theorem dX0_best_16 : decode cX0_best 16 = .ok (.i2l, 1) := dk_133 (dk_at dksX0_best_0 16 rfl rfl)
theorem dX0_best_17 : decode cX0_best 17 = .ok (.lconst 0, 1) := dk_9 (dk_at dksX0_best_0 17 rfl rfl)
theorem dX0_best_18 : decode cX0_best 18 = .ok (.lconst 1, 1) := dk_10 (dk_at dksX0_best_0 18 rfl rfl)
theorem dX0_best_19 : decode cX0_best 19 = .ok (.invokestatic 14, 3) := dk_184 0 14 (dk_at dksX0_best_0 19 rfl rfl)
theorem dX0_best_22 : decode cX0_best 22 = .ok (.ifCond .ne 6, 3) := dk_154 0 6 (dk_at dksX0_best_1 0 rfl rfl)
theorem dX0_best_25 : decode cX0_best 25 = .ok (.bipush (-2), 2) := dk_16 254 (dk_at dksX0_best_1 3 rfl rfl)
theorem dX0_best_27 : decode cX0_best 27 = .ok (.ireturn, 1) := dk_172 (dk_at dksX0_best_1 5 rfl rfl)
theorem dX0_best_28 : decode cX0_best 28 = .ok (.iconst (-1), 1) := dk_2 (dk_at dksX0_best_1 6 rfl rfl)
theorem dX0_best_29 : decode cX0_best 29 = .ok (.istore 4, 2) := dk_54 4 (dk_at dksX0_best_1 7 rfl rfl)
theorem dX0_best_31 : decode cX0_best 31 = .ok (.iconst (-1), 1) := dk_2 (dk_at dksX0_best_1 9 rfl rfl)
theorem dX0_best_32 : decode cX0_best 32 = .ok (.istore 5, 2) := dk_54 5 (dk_at dksX0_best_1 10 rfl rfl)
theorem dX0_best_34 : decode cX0_best 34 = .ok (.iconst 0, 1) := dk_3 (dk_at dksX0_best_1 12 rfl rfl)
theorem dX0_best_35 : decode cX0_best 35 = .ok (.istore 6, 2) := dk_54 6 (dk_at dksX0_best_1 13 rfl rfl)
theorem dX0_best_37 : decode cX0_best 37 = .ok (.iload 6, 2) := dk_21 6 (dk_at dksX0_best_1 15 rfl rfl)
theorem dX0_best_39 : decode cX0_best 39 = .ok (.aload_n 0, 1) := dk_42 (dk_at dksX0_best_1 17 rfl rfl)
theorem dX0_best_40 : decode cX0_best 40 = .ok (.getfield 18, 3) := dk_180 0 18 (dk_at dksX0_best_1 18 rfl rfl)
theorem dX0_best_43 : decode cX0_best 43 = .ok (.if_icmp .ge 81, 3) := dk_162 0 81 (dk_at dksX0_best_1 21 rfl rfl)
theorem dX0_best_46 : decode cX0_best 46 = .ok (.iload 6, 2) := dk_21 6 (dk_at dksX0_best_2 0 rfl rfl)
theorem dX0_best_48 : decode cX0_best 48 = .ok (.iload_n 1, 1) := dk_27 (dk_at dksX0_best_2 2 rfl rfl)
theorem dX0_best_49 : decode cX0_best 49 = .ok (.if_icmp .eq 69, 3) := dk_159 0 69 (dk_at dksX0_best_2 3 rfl rfl)
theorem dX0_best_52 : decode cX0_best 52 = .ok (.aload_n 0, 1) := dk_42 (dk_at dksX0_best_2 6 rfl rfl)
theorem dX0_best_53 : decode cX0_best 53 = .ok (.iload_n 1, 1) := dk_27 (dk_at dksX0_best_2 7 rfl rfl)
theorem dX0_best_54 : decode cX0_best 54 = .ok (.iload 6, 2) := dk_21 6 (dk_at dksX0_best_2 8 rfl rfl)
theorem dX0_best_56 : decode cX0_best 56 = .ok (.iload_n 2, 1) := dk_28 (dk_at dksX0_best_2 10 rfl rfl)
theorem dX0_best_57 : decode cX0_best 57 = .ok (.invokevirtual 414, 3) := dk_182 1 158 (dk_at dksX0_best_2 11 rfl rfl)
theorem dX0_best_60 : decode cX0_best 60 = .ok (.ifCond .ne 6, 3) := dk_154 0 6 (dk_at dksX0_best_2 14 rfl rfl)
theorem dX0_best_63 : decode cX0_best 63 = .ok (.goto 55, 3) := dk_167 0 55 (dk_at dksX0_best_2 17 rfl rfl)
theorem dX0_best_66 : decode cX0_best 66 = .ok (.iload 4, 2) := dk_21 4 (dk_at dksX0_best_2 20 rfl rfl)
theorem dX0_best_68 : decode cX0_best 68 = .ok (.iconst (-1), 1) := dk_2 (dk_at dksX0_best_2 22 rfl rfl)
theorem dX0_best_69 : decode cX0_best 69 = .ok (.if_icmp .eq 12, 3) := dk_159 0 12 (dk_at dksX0_best_3 0 rfl rfl)
theorem dX0_best_72 : decode cX0_best 72 = .ok (.aload_n 0, 1) := dk_42 (dk_at dksX0_best_3 3 rfl rfl)
theorem dX0_best_73 : decode cX0_best 73 = .ok (.getfield 387, 3) := dk_180 1 131 (dk_at dksX0_best_3 4 rfl rfl)
theorem dX0_best_76 : decode cX0_best 76 = .ok (.iload 5, 2) := dk_21 5 (dk_at dksX0_best_3 7 rfl rfl)
theorem dX0_best_78 : decode cX0_best 78 = .ok (.if_icmp .ge 7, 3) := dk_162 0 7 (dk_at dksX0_best_3 9 rfl rfl)
theorem dX0_best_81 : decode cX0_best 81 = .ok (.iconst 1, 1) := dk_4 (dk_at dksX0_best_3 12 rfl rfl)
theorem dX0_best_82 : decode cX0_best 82 = .ok (.goto 4, 3) := dk_167 0 4 (dk_at dksX0_best_3 13 rfl rfl)
theorem dX0_best_85 : decode cX0_best 85 = .ok (.iconst 0, 1) := dk_3 (dk_at dksX0_best_3 16 rfl rfl)
theorem dX0_best_86 : decode cX0_best 86 = .ok (.istore 7, 2) := dk_54 7 (dk_at dksX0_best_3 17 rfl rfl)
theorem dX0_best_88 : decode cX0_best 88 = .ok (.iload 7, 2) := dk_21 7 (dk_at dksX0_best_3 19 rfl rfl)
theorem dX0_best_90 : decode cX0_best 90 = .ok (.ifCond .eq 8, 3) := dk_153 0 8 (dk_at dksX0_best_3 21 rfl rfl)
theorem dX0_best_93 : decode cX0_best 93 = .ok (.iload 6, 2) := dk_21 6 (dk_at dksX0_best_4 0 rfl rfl)
theorem dX0_best_95 : decode cX0_best 95 = .ok (.goto 5, 3) := dk_167 0 5 (dk_at dksX0_best_4 2 rfl rfl)
theorem dX0_best_98 : decode cX0_best 98 = .ok (.iload 4, 2) := dk_21 4 (dk_at dksX0_best_4 5 rfl rfl)
theorem dX0_best_100 : decode cX0_best 100 = .ok (.istore 4, 2) := dk_54 4 (dk_at dksX0_best_4 7 rfl rfl)
theorem dX0_best_102 : decode cX0_best 102 = .ok (.iload 7, 2) := dk_21 7 (dk_at dksX0_best_4 9 rfl rfl)
theorem dX0_best_104 : decode cX0_best 104 = .ok (.ifCond .eq 10, 3) := dk_153 0 10 (dk_at dksX0_best_4 11 rfl rfl)
theorem dX0_best_107 : decode cX0_best 107 = .ok (.aload_n 0, 1) := dk_42 (dk_at dksX0_best_4 14 rfl rfl)
theorem dX0_best_108 : decode cX0_best 108 = .ok (.getfield 387, 3) := dk_180 1 131 (dk_at dksX0_best_4 15 rfl rfl)
theorem dX0_best_111 : decode cX0_best 111 = .ok (.goto 5, 3) := dk_167 0 5 (dk_at dksX0_best_4 18 rfl rfl)
theorem dX0_best_114 : decode cX0_best 114 = .ok (.iload 5, 2) := dk_21 5 (dk_at dksX0_best_4 21 rfl rfl)
theorem dX0_best_116 : decode cX0_best 116 = .ok (.istore 5, 2) := dk_54 5 (dk_at dksX0_best_5 0 rfl rfl)
theorem dX0_best_118 : decode cX0_best 118 = .ok (.iinc 6 1, 3) := dk_132 6 1 (dk_at dksX0_best_5 2 rfl rfl)
theorem dX0_best_121 : decode cX0_best 121 = .ok (.goto (-84), 3) := dk_167 255 172 (dk_at dksX0_best_5 5 rfl rfl)
theorem dX0_best_124 : decode cX0_best 124 = .ok (.iload_n 3, 1) := dk_29 (dk_at dksX0_best_5 8 rfl rfl)
theorem dX0_best_125 : decode cX0_best 125 = .ok (.ifCond .ne 8, 3) := dk_154 0 8 (dk_at dksX0_best_5 9 rfl rfl)
theorem dX0_best_128 : decode cX0_best 128 = .ok (.iload 4, 2) := dk_21 4 (dk_at dksX0_best_5 12 rfl rfl)
theorem dX0_best_130 : decode cX0_best 130 = .ok (.goto 5, 3) := dk_167 0 5 (dk_at dksX0_best_5 14 rfl rfl)
theorem dX0_best_133 : decode cX0_best 133 = .ok (.iload 5, 2) := dk_21 5 (dk_at dksX0_best_5 17 rfl rfl)
theorem dX0_best_135 : decode cX0_best 135 = .ok (.ireturn, 1) := dk_172 (dk_at dksX0_best_5 19 rfl rfl)
abbrev cX0_endsRight : ByteArray := prog_1_method_56_code
def yX0_endsRight : MethodName := ⟨RX0, "endsRight", "(III)Z"⟩
def dkwX0_endsRight_1 : List UInt8 := [180, 0, 93, 160, 0, 7, 4, 167, 0, 4, 3, 172]
abbrev dktX0_endsRight_1 : List UInt8 := dkwX0_endsRight_1 ++ []
def dkwX0_endsRight_0 : List UInt8 := [42, 27, 28, 29, 182, 1, 151, 42, 180, 1, 40, 42, 180, 1, 129, 46, 42, 180, 0, 60, 27, 50]
abbrev dktX0_endsRight_0 : List UInt8 := dkwX0_endsRight_0 ++ dktX0_endsRight_1
theorem dksX0_endsRight_0 : cX0_endsRight.data.toList.drop 0 = dktX0_endsRight_0 := by decide +kernel
theorem dksX0_endsRight_1 : cX0_endsRight.data.toList.drop 22 = dktX0_endsRight_1 := dk_seg dksX0_endsRight_0 22 rfl rfl
theorem dX0_endsRight_0 : decode cX0_endsRight 0 = .ok (.aload_n 0, 1) := dk_42 (dk_at dksX0_endsRight_0 0 rfl rfl)
theorem dX0_endsRight_1 : decode cX0_endsRight 1 = .ok (.iload_n 1, 1) := dk_27 (dk_at dksX0_endsRight_0 1 rfl rfl)
theorem dX0_endsRight_2 : decode cX0_endsRight 2 = .ok (.iload_n 2, 1) := dk_28 (dk_at dksX0_endsRight_0 2 rfl rfl)
theorem dX0_endsRight_3 : decode cX0_endsRight 3 = .ok (.iload_n 3, 1) := dk_29 (dk_at dksX0_endsRight_0 3 rfl rfl)
theorem dX0_endsRight_4 : decode cX0_endsRight 4 = .ok (.invokevirtual 407, 3) := dk_182 1 151 (dk_at dksX0_endsRight_0 4 rfl rfl)
theorem dX0_endsRight_7 : decode cX0_endsRight 7 = .ok (.aload_n 0, 1) := dk_42 (dk_at dksX0_endsRight_0 7 rfl rfl)
theorem dX0_endsRight_8 : decode cX0_endsRight 8 = .ok (.getfield 296, 3) := dk_180 1 40 (dk_at dksX0_endsRight_0 8 rfl rfl)
theorem dX0_endsRight_11 : decode cX0_endsRight 11 = .ok (.aload_n 0, 1) := dk_42 (dk_at dksX0_endsRight_0 11 rfl rfl)
theorem dX0_endsRight_12 : decode cX0_endsRight 12 = .ok (.getfield 385, 3) := dk_180 1 129 (dk_at dksX0_endsRight_0 12 rfl rfl)
theorem dX0_endsRight_15 : decode cX0_endsRight 15 = .ok (.iaload, 1) := dk_46 (dk_at dksX0_endsRight_0 15 rfl rfl)
theorem dX0_endsRight_16 : decode cX0_endsRight 16 = .ok (.aload_n 0, 1) := dk_42 (dk_at dksX0_endsRight_0 16 rfl rfl)
theorem dX0_endsRight_17 : decode cX0_endsRight 17 = .ok (.getfield 60, 3) := dk_180 0 60 (dk_at dksX0_endsRight_0 17 rfl rfl)
theorem dX0_endsRight_20 : decode cX0_endsRight 20 = .ok (.iload_n 1, 1) := dk_27 (dk_at dksX0_endsRight_0 20 rfl rfl)
theorem dX0_endsRight_21 : decode cX0_endsRight 21 = .ok (.aaload, 1) := dk_50 (dk_at dksX0_endsRight_0 21 rfl rfl)
theorem dX0_endsRight_22 : decode cX0_endsRight 22 = .ok (.getfield 93, 3) := dk_180 0 93 (dk_at dksX0_endsRight_1 0 rfl rfl)
theorem dX0_endsRight_25 : decode cX0_endsRight 25 = .ok (.if_icmp .ne 7, 3) := dk_160 0 7 (dk_at dksX0_endsRight_1 3 rfl rfl)
theorem dX0_endsRight_28 : decode cX0_endsRight 28 = .ok (.iconst 1, 1) := dk_4 (dk_at dksX0_endsRight_1 6 rfl rfl)
theorem dX0_endsRight_29 : decode cX0_endsRight 29 = .ok (.goto 4, 3) := dk_167 0 4 (dk_at dksX0_endsRight_1 7 rfl rfl)
theorem dX0_endsRight_32 : decode cX0_endsRight 32 = .ok (.iconst 0, 1) := dk_3 (dk_at dksX0_endsRight_1 10 rfl rfl)
theorem dX0_endsRight_33 : decode cX0_endsRight 33 = .ok (.ireturn, 1) := dk_172 (dk_at dksX0_endsRight_1 11 rfl rfl)
abbrev cX0_from : ByteArray := prog_1_method_58_code
def yX0_from : MethodName := ⟨RX0, "from", "(II)I"⟩
def dkwX0_from_2 : List UInt8 := [132, 4, 1, 167, 255, 224, 29, 172]
abbrev dktX0_from_2 : List UInt8 := dkwX0_from_2 ++ []
def dkwX0_from_1 : List UInt8 := [29, 42, 27, 28, 21, 4, 182, 1, 158, 153, 0, 10, 4, 21, 4, 120, 167, 0, 4, 3, 128, 62]
abbrev dktX0_from_1 : List UInt8 := dkwX0_from_1 ++ dktX0_from_2
def dkwX0_from_0 : List UInt8 := [42, 27, 28, 182, 0, 28, 154, 0, 6, 16, 254, 172, 3, 62, 3, 54, 4, 21, 4, 16, 8, 162, 0, 31]
abbrev dktX0_from_0 : List UInt8 := dkwX0_from_0 ++ dktX0_from_1
theorem dksX0_from_0 : cX0_from.data.toList.drop 0 = dktX0_from_0 := by decide +kernel
theorem dksX0_from_1 : cX0_from.data.toList.drop 24 = dktX0_from_1 := dk_seg dksX0_from_0 24 rfl rfl
theorem dksX0_from_2 : cX0_from.data.toList.drop 46 = dktX0_from_2 := dk_seg dksX0_from_1 22 rfl rfl
theorem dX0_from_0 : decode cX0_from 0 = .ok (.aload_n 0, 1) := dk_42 (dk_at dksX0_from_0 0 rfl rfl)
theorem dX0_from_1 : decode cX0_from 1 = .ok (.iload_n 1, 1) := dk_27 (dk_at dksX0_from_0 1 rfl rfl)
theorem dX0_from_2 : decode cX0_from 2 = .ok (.iload_n 2, 1) := dk_28 (dk_at dksX0_from_0 2 rfl rfl)
theorem dX0_from_3 : decode cX0_from 3 = .ok (.invokevirtual 28, 3) := dk_182 0 28 (dk_at dksX0_from_0 3 rfl rfl)
theorem dX0_from_6 : decode cX0_from 6 = .ok (.ifCond .ne 6, 3) := dk_154 0 6 (dk_at dksX0_from_0 6 rfl rfl)
theorem dX0_from_9 : decode cX0_from 9 = .ok (.bipush (-2), 2) := dk_16 254 (dk_at dksX0_from_0 9 rfl rfl)
theorem dX0_from_11 : decode cX0_from 11 = .ok (.ireturn, 1) := dk_172 (dk_at dksX0_from_0 11 rfl rfl)
theorem dX0_from_12 : decode cX0_from 12 = .ok (.iconst 0, 1) := dk_3 (dk_at dksX0_from_0 12 rfl rfl)
theorem dX0_from_13 : decode cX0_from 13 = .ok (.istore_n 3, 1) := dk_62 (dk_at dksX0_from_0 13 rfl rfl)
theorem dX0_from_14 : decode cX0_from 14 = .ok (.iconst 0, 1) := dk_3 (dk_at dksX0_from_0 14 rfl rfl)
theorem dX0_from_15 : decode cX0_from 15 = .ok (.istore 4, 2) := dk_54 4 (dk_at dksX0_from_0 15 rfl rfl)
theorem dX0_from_17 : decode cX0_from 17 = .ok (.iload 4, 2) := dk_21 4 (dk_at dksX0_from_0 17 rfl rfl)
theorem dX0_from_19 : decode cX0_from 19 = .ok (.bipush 8, 2) := dk_16 8 (dk_at dksX0_from_0 19 rfl rfl)
theorem dX0_from_21 : decode cX0_from 21 = .ok (.if_icmp .ge 31, 3) := dk_162 0 31 (dk_at dksX0_from_0 21 rfl rfl)
theorem dX0_from_24 : decode cX0_from 24 = .ok (.iload_n 3, 1) := dk_29 (dk_at dksX0_from_1 0 rfl rfl)
theorem dX0_from_25 : decode cX0_from 25 = .ok (.aload_n 0, 1) := dk_42 (dk_at dksX0_from_1 1 rfl rfl)
theorem dX0_from_26 : decode cX0_from 26 = .ok (.iload_n 1, 1) := dk_27 (dk_at dksX0_from_1 2 rfl rfl)
theorem dX0_from_27 : decode cX0_from 27 = .ok (.iload_n 2, 1) := dk_28 (dk_at dksX0_from_1 3 rfl rfl)
theorem dX0_from_28 : decode cX0_from 28 = .ok (.iload 4, 2) := dk_21 4 (dk_at dksX0_from_1 4 rfl rfl)
theorem dX0_from_30 : decode cX0_from 30 = .ok (.invokevirtual 414, 3) := dk_182 1 158 (dk_at dksX0_from_1 6 rfl rfl)
theorem dX0_from_33 : decode cX0_from 33 = .ok (.ifCond .eq 10, 3) := dk_153 0 10 (dk_at dksX0_from_1 9 rfl rfl)
theorem dX0_from_36 : decode cX0_from 36 = .ok (.iconst 1, 1) := dk_4 (dk_at dksX0_from_1 12 rfl rfl)
theorem dX0_from_37 : decode cX0_from 37 = .ok (.iload 4, 2) := dk_21 4 (dk_at dksX0_from_1 13 rfl rfl)
theorem dX0_from_39 : decode cX0_from 39 = .ok (.ishl, 1) := dk_120 (dk_at dksX0_from_1 15 rfl rfl)
theorem dX0_from_40 : decode cX0_from 40 = .ok (.goto 4, 3) := dk_167 0 4 (dk_at dksX0_from_1 16 rfl rfl)
theorem dX0_from_43 : decode cX0_from 43 = .ok (.iconst 0, 1) := dk_3 (dk_at dksX0_from_1 19 rfl rfl)
theorem dX0_from_44 : decode cX0_from 44 = .ok (.ior, 1) := dk_128 (dk_at dksX0_from_1 20 rfl rfl)
theorem dX0_from_45 : decode cX0_from 45 = .ok (.istore_n 3, 1) := dk_62 (dk_at dksX0_from_1 21 rfl rfl)
theorem dX0_from_46 : decode cX0_from 46 = .ok (.iinc 4 1, 3) := dk_132 4 1 (dk_at dksX0_from_2 0 rfl rfl)
theorem dX0_from_49 : decode cX0_from 49 = .ok (.goto (-32), 3) := dk_167 255 224 (dk_at dksX0_from_2 3 rfl rfl)
theorem dX0_from_52 : decode cX0_from 52 = .ok (.iload_n 3, 1) := dk_29 (dk_at dksX0_from_2 6 rfl rfl)
theorem dX0_from_53 : decode cX0_from 53 = .ok (.ireturn, 1) := dk_172 (dk_at dksX0_from_2 7 rfl rfl)
abbrev cX0_together : ByteArray := prog_1_method_61_code
def yX0_together : MethodName := ⟨RX0, "together", "(II)I"⟩
def dkwX0_together_3 : List UInt8 := [42, 180, 1, 168, 167, 0, 7, 42, 180, 1, 165, 172]
abbrev dktX0_together_3 : List UInt8 := dkwX0_together_3 ++ []
def dkwX0_together_2 : List UInt8 := [180, 0, 18, 5, 112, 4, 160, 0, 7, 4, 167, 0, 4, 3, 27, 3, 3, 182, 1, 180, 28, 154, 0, 10]
abbrev dktX0_together_2 : List UInt8 := dkwX0_together_2 ++ dktX0_together_3
def dkwX0_together_1 : List UInt8 := [181, 1, 161, 42, 3, 181, 1, 165, 42, 3, 181, 1, 168, 42, 4, 42, 180, 0, 18, 120, 4, 100, 42]
abbrev dktX0_together_1 : List UInt8 := dkwX0_together_1 ++ dktX0_together_2
def dkwX0_together_0 : List UInt8 := [27, 184, 0, 57, 153, 0, 13, 28, 133, 9, 10, 184, 0, 14, 154, 0, 6, 16, 254, 172, 42, 3]
abbrev dktX0_together_0 : List UInt8 := dkwX0_together_0 ++ dktX0_together_1
theorem dksX0_together_0 : cX0_together.data.toList.drop 0 = dktX0_together_0 := by decide +kernel
theorem dksX0_together_1 : cX0_together.data.toList.drop 22 = dktX0_together_1 := dk_seg dksX0_together_0 22 rfl rfl
theorem dksX0_together_2 : cX0_together.data.toList.drop 45 = dktX0_together_2 := dk_seg dksX0_together_1 23 rfl rfl
theorem dksX0_together_3 : cX0_together.data.toList.drop 69 = dktX0_together_3 := dk_seg dksX0_together_2 24 rfl rfl
theorem dX0_together_0 : decode cX0_together 0 = .ok (.iload_n 1, 1) := dk_27 (dk_at dksX0_together_0 0 rfl rfl)
theorem dX0_together_1 : decode cX0_together 1 = .ok (.invokestatic 57, 3) := dk_184 0 57 (dk_at dksX0_together_0 1 rfl rfl)
theorem dX0_together_4 : decode cX0_together 4 = .ok (.ifCond .eq 13, 3) := dk_153 0 13 (dk_at dksX0_together_0 4 rfl rfl)
theorem dX0_together_7 : decode cX0_together 7 = .ok (.iload_n 2, 1) := dk_28 (dk_at dksX0_together_0 7 rfl rfl)
theorem dX0_together_8 : decode cX0_together 8 = .ok (.i2l, 1) := dk_133 (dk_at dksX0_together_0 8 rfl rfl)
theorem dX0_together_9 : decode cX0_together 9 = .ok (.lconst 0, 1) := dk_9 (dk_at dksX0_together_0 9 rfl rfl)
theorem dX0_together_10 : decode cX0_together 10 = .ok (.lconst 1, 1) := dk_10 (dk_at dksX0_together_0 10 rfl rfl)
theorem dX0_together_11 : decode cX0_together 11 = .ok (.invokestatic 14, 3) := dk_184 0 14 (dk_at dksX0_together_0 11 rfl rfl)
theorem dX0_together_14 : decode cX0_together 14 = .ok (.ifCond .ne 6, 3) := dk_154 0 6 (dk_at dksX0_together_0 14 rfl rfl)
theorem dX0_together_17 : decode cX0_together 17 = .ok (.bipush (-2), 2) := dk_16 254 (dk_at dksX0_together_0 17 rfl rfl)
theorem dX0_together_19 : decode cX0_together 19 = .ok (.ireturn, 1) := dk_172 (dk_at dksX0_together_0 19 rfl rfl)
theorem dX0_together_20 : decode cX0_together 20 = .ok (.aload_n 0, 1) := dk_42 (dk_at dksX0_together_0 20 rfl rfl)
theorem dX0_together_21 : decode cX0_together 21 = .ok (.iconst 0, 1) := dk_3 (dk_at dksX0_together_0 21 rfl rfl)
theorem dX0_together_22 : decode cX0_together 22 = .ok (.putfield 417, 3) := dk_181 1 161 (dk_at dksX0_together_1 0 rfl rfl)
theorem dX0_together_25 : decode cX0_together 25 = .ok (.aload_n 0, 1) := dk_42 (dk_at dksX0_together_1 3 rfl rfl)
theorem dX0_together_26 : decode cX0_together 26 = .ok (.iconst 0, 1) := dk_3 (dk_at dksX0_together_1 4 rfl rfl)
theorem dX0_together_27 : decode cX0_together 27 = .ok (.putfield 421, 3) := dk_181 1 165 (dk_at dksX0_together_1 5 rfl rfl)
theorem dX0_together_30 : decode cX0_together 30 = .ok (.aload_n 0, 1) := dk_42 (dk_at dksX0_together_1 8 rfl rfl)
theorem dX0_together_31 : decode cX0_together 31 = .ok (.iconst 0, 1) := dk_3 (dk_at dksX0_together_1 9 rfl rfl)
theorem dX0_together_32 : decode cX0_together 32 = .ok (.putfield 424, 3) := dk_181 1 168 (dk_at dksX0_together_1 10 rfl rfl)
theorem dX0_together_35 : decode cX0_together 35 = .ok (.aload_n 0, 1) := dk_42 (dk_at dksX0_together_1 13 rfl rfl)
theorem dX0_together_36 : decode cX0_together 36 = .ok (.iconst 1, 1) := dk_4 (dk_at dksX0_together_1 14 rfl rfl)
theorem dX0_together_37 : decode cX0_together 37 = .ok (.aload_n 0, 1) := dk_42 (dk_at dksX0_together_1 15 rfl rfl)
theorem dX0_together_38 : decode cX0_together 38 = .ok (.getfield 18, 3) := dk_180 0 18 (dk_at dksX0_together_1 16 rfl rfl)
theorem dX0_together_41 : decode cX0_together 41 = .ok (.ishl, 1) := dk_120 (dk_at dksX0_together_1 19 rfl rfl)
theorem dX0_together_42 : decode cX0_together 42 = .ok (.iconst 1, 1) := dk_4 (dk_at dksX0_together_1 20 rfl rfl)
theorem dX0_together_43 : decode cX0_together 43 = .ok (.isub, 1) := dk_100 (dk_at dksX0_together_1 21 rfl rfl)
theorem dX0_together_44 : decode cX0_together 44 = .ok (.aload_n 0, 1) := dk_42 (dk_at dksX0_together_1 22 rfl rfl)
theorem dX0_together_45 : decode cX0_together 45 = .ok (.getfield 18, 3) := dk_180 0 18 (dk_at dksX0_together_2 0 rfl rfl)
theorem dX0_together_48 : decode cX0_together 48 = .ok (.iconst 2, 1) := dk_5 (dk_at dksX0_together_2 3 rfl rfl)
theorem dX0_together_49 : decode cX0_together 49 = .ok (.irem, 1) := dk_112 (dk_at dksX0_together_2 4 rfl rfl)
theorem dX0_together_50 : decode cX0_together 50 = .ok (.iconst 1, 1) := dk_4 (dk_at dksX0_together_2 5 rfl rfl)
theorem dX0_together_51 : decode cX0_together 51 = .ok (.if_icmp .ne 7, 3) := dk_160 0 7 (dk_at dksX0_together_2 6 rfl rfl)
theorem dX0_together_54 : decode cX0_together 54 = .ok (.iconst 1, 1) := dk_4 (dk_at dksX0_together_2 9 rfl rfl)
theorem dX0_together_55 : decode cX0_together 55 = .ok (.goto 4, 3) := dk_167 0 4 (dk_at dksX0_together_2 10 rfl rfl)
theorem dX0_together_58 : decode cX0_together 58 = .ok (.iconst 0, 1) := dk_3 (dk_at dksX0_together_2 13 rfl rfl)
theorem dX0_together_59 : decode cX0_together 59 = .ok (.iload_n 1, 1) := dk_27 (dk_at dksX0_together_2 14 rfl rfl)
theorem dX0_together_60 : decode cX0_together 60 = .ok (.iconst 0, 1) := dk_3 (dk_at dksX0_together_2 15 rfl rfl)
theorem dX0_together_61 : decode cX0_together 61 = .ok (.iconst 0, 1) := dk_3 (dk_at dksX0_together_2 16 rfl rfl)
theorem dX0_together_62 : decode cX0_together 62 = .ok (.invokevirtual 436, 3) := dk_182 1 180 (dk_at dksX0_together_2 17 rfl rfl)
theorem dX0_together_65 : decode cX0_together 65 = .ok (.iload_n 2, 1) := dk_28 (dk_at dksX0_together_2 20 rfl rfl)
theorem dX0_together_66 : decode cX0_together 66 = .ok (.ifCond .ne 10, 3) := dk_154 0 10 (dk_at dksX0_together_2 21 rfl rfl)
theorem dX0_together_69 : decode cX0_together 69 = .ok (.aload_n 0, 1) := dk_42 (dk_at dksX0_together_3 0 rfl rfl)
theorem dX0_together_70 : decode cX0_together 70 = .ok (.getfield 424, 3) := dk_180 1 168 (dk_at dksX0_together_3 1 rfl rfl)
theorem dX0_together_73 : decode cX0_together 73 = .ok (.goto 7, 3) := dk_167 0 7 (dk_at dksX0_together_3 4 rfl rfl)
theorem dX0_together_76 : decode cX0_together 76 = .ok (.aload_n 0, 1) := dk_42 (dk_at dksX0_together_3 7 rfl rfl)
theorem dX0_together_77 : decode cX0_together 77 = .ok (.getfield 421, 3) := dk_180 1 165 (dk_at dksX0_together_3 8 rfl rfl)
theorem dX0_together_80 : decode cX0_together 80 = .ok (.ireturn, 1) := dk_172 (dk_at dksX0_together_3 11 rfl rfl)
abbrev cX0_puts : ByteArray := prog_1_method_60_code
def yX0_puts : MethodName := ⟨RX0, "puts", "(IZIII)V"⟩
def dkwX0_puts_5 : List UInt8 := [126, 3, 29, 21, 4, 21, 5, 182, 1, 180, 177]
abbrev dktX0_puts_5 : List UInt8 := dkwX0_puts_5 ++ []
def dkwX0_puts_4 : List UInt8 := [96, 4, 96, 182, 1, 180, 132, 7, 1, 167, 255, 177, 28, 153, 0, 21, 42, 27, 4, 21, 6, 120, 2, 130]
abbrev dktX0_puts_4 : List UInt8 := dkwX0_puts_4 ++ dktX0_puts_5
def dkwX0_puts_3 : List UInt8 := [28, 29, 21, 4, 42, 180, 1, 131, 96, 16, 100, 21, 5, 104, 16, 10, 21, 6, 4, 96, 104, 96, 21, 7]
abbrev dktX0_puts_3 : List UInt8 := dkwX0_puts_3 ++ dktX0_puts_4
def dkwX0_puts_2 : List UInt8 := [21, 6, 21, 7, 29, 182, 1, 151, 42, 27, 4, 21, 6, 120, 2, 130, 126, 4, 21, 7, 120, 2, 130, 126]
abbrev dktX0_puts_2 : List UInt8 := dkwX0_puts_2 ++ dktX0_puts_3
def dkwX0_puts_1 : List UInt8 := [54, 7, 21, 7, 42, 180, 0, 18, 162, 0, 76, 27, 21, 7, 184, 1, 177, 154, 0, 6, 167, 0, 58, 42]
abbrev dktX0_puts_1 : List UInt8 := dkwX0_puts_1 ++ dktX0_puts_2
def dkwX0_puts_0 : List UInt8 := [27, 154, 0, 12, 42, 21, 4, 21, 5, 182, 1, 171, 177, 27, 184, 1, 174, 54, 6, 21, 6, 4, 96]
abbrev dktX0_puts_0 : List UInt8 := dkwX0_puts_0 ++ dktX0_puts_1
theorem dksX0_puts_0 : cX0_puts.data.toList.drop 0 = dktX0_puts_0 := by decide +kernel
theorem dksX0_puts_1 : cX0_puts.data.toList.drop 23 = dktX0_puts_1 := dk_seg dksX0_puts_0 23 rfl rfl
theorem dksX0_puts_2 : cX0_puts.data.toList.drop 47 = dktX0_puts_2 := dk_seg dksX0_puts_1 24 rfl rfl
theorem dksX0_puts_3 : cX0_puts.data.toList.drop 71 = dktX0_puts_3 := dk_seg dksX0_puts_2 24 rfl rfl
theorem dksX0_puts_4 : cX0_puts.data.toList.drop 95 = dktX0_puts_4 := dk_seg dksX0_puts_3 24 rfl rfl
theorem dksX0_puts_5 : cX0_puts.data.toList.drop 119 = dktX0_puts_5 := dk_seg dksX0_puts_4 24 rfl rfl
theorem dX0_puts_0 : decode cX0_puts 0 = .ok (.iload_n 1, 1) := dk_27 (dk_at dksX0_puts_0 0 rfl rfl)
theorem dX0_puts_1 : decode cX0_puts 1 = .ok (.ifCond .ne 12, 3) := dk_154 0 12 (dk_at dksX0_puts_0 1 rfl rfl)
theorem dX0_puts_4 : decode cX0_puts 4 = .ok (.aload_n 0, 1) := dk_42 (dk_at dksX0_puts_0 4 rfl rfl)
theorem dX0_puts_5 : decode cX0_puts 5 = .ok (.iload 4, 2) := dk_21 4 (dk_at dksX0_puts_0 5 rfl rfl)
theorem dX0_puts_7 : decode cX0_puts 7 = .ok (.iload 5, 2) := dk_21 5 (dk_at dksX0_puts_0 7 rfl rfl)
theorem dX0_puts_9 : decode cX0_puts 9 = .ok (.invokevirtual 427, 3) := dk_182 1 171 (dk_at dksX0_puts_0 9 rfl rfl)
theorem dX0_puts_12 : decode cX0_puts 12 = .ok (.return_, 1) := dk_177 (dk_at dksX0_puts_0 12 rfl rfl)
theorem dX0_puts_13 : decode cX0_puts 13 = .ok (.iload_n 1, 1) := dk_27 (dk_at dksX0_puts_0 13 rfl rfl)
theorem dX0_puts_14 : decode cX0_puts 14 = .ok (.invokestatic 430, 3) := dk_184 1 174 (dk_at dksX0_puts_0 14 rfl rfl)
theorem dX0_puts_17 : decode cX0_puts 17 = .ok (.istore 6, 2) := dk_54 6 (dk_at dksX0_puts_0 17 rfl rfl)
theorem dX0_puts_19 : decode cX0_puts 19 = .ok (.iload 6, 2) := dk_21 6 (dk_at dksX0_puts_0 19 rfl rfl)
theorem dX0_puts_21 : decode cX0_puts 21 = .ok (.iconst 1, 1) := dk_4 (dk_at dksX0_puts_0 21 rfl rfl)
theorem dX0_puts_22 : decode cX0_puts 22 = .ok (.iadd, 1) := dk_96 (dk_at dksX0_puts_0 22 rfl rfl)
theorem dX0_puts_23 : decode cX0_puts 23 = .ok (.istore 7, 2) := dk_54 7 (dk_at dksX0_puts_1 0 rfl rfl)
theorem dX0_puts_25 : decode cX0_puts 25 = .ok (.iload 7, 2) := dk_21 7 (dk_at dksX0_puts_1 2 rfl rfl)
theorem dX0_puts_27 : decode cX0_puts 27 = .ok (.aload_n 0, 1) := dk_42 (dk_at dksX0_puts_1 4 rfl rfl)
theorem dX0_puts_28 : decode cX0_puts 28 = .ok (.getfield 18, 3) := dk_180 0 18 (dk_at dksX0_puts_1 5 rfl rfl)
theorem dX0_puts_31 : decode cX0_puts 31 = .ok (.if_icmp .ge 76, 3) := dk_162 0 76 (dk_at dksX0_puts_1 8 rfl rfl)
theorem dX0_puts_34 : decode cX0_puts 34 = .ok (.iload_n 1, 1) := dk_27 (dk_at dksX0_puts_1 11 rfl rfl)
theorem dX0_puts_35 : decode cX0_puts 35 = .ok (.iload 7, 2) := dk_21 7 (dk_at dksX0_puts_1 12 rfl rfl)
theorem dX0_puts_37 : decode cX0_puts 37 = .ok (.invokestatic 433, 3) := dk_184 1 177 (dk_at dksX0_puts_1 14 rfl rfl)
theorem dX0_puts_40 : decode cX0_puts 40 = .ok (.ifCond .ne 6, 3) := dk_154 0 6 (dk_at dksX0_puts_1 17 rfl rfl)
theorem dX0_puts_43 : decode cX0_puts 43 = .ok (.goto 58, 3) := dk_167 0 58 (dk_at dksX0_puts_1 20 rfl rfl)
theorem dX0_puts_46 : decode cX0_puts 46 = .ok (.aload_n 0, 1) := dk_42 (dk_at dksX0_puts_1 23 rfl rfl)
theorem dX0_puts_47 : decode cX0_puts 47 = .ok (.iload 6, 2) := dk_21 6 (dk_at dksX0_puts_2 0 rfl rfl)
theorem dX0_puts_49 : decode cX0_puts 49 = .ok (.iload 7, 2) := dk_21 7 (dk_at dksX0_puts_2 2 rfl rfl)
theorem dX0_puts_51 : decode cX0_puts 51 = .ok (.iload_n 3, 1) := dk_29 (dk_at dksX0_puts_2 4 rfl rfl)
theorem dX0_puts_52 : decode cX0_puts 52 = .ok (.invokevirtual 407, 3) := dk_182 1 151 (dk_at dksX0_puts_2 5 rfl rfl)
theorem dX0_puts_55 : decode cX0_puts 55 = .ok (.aload_n 0, 1) := dk_42 (dk_at dksX0_puts_2 8 rfl rfl)
theorem dX0_puts_56 : decode cX0_puts 56 = .ok (.iload_n 1, 1) := dk_27 (dk_at dksX0_puts_2 9 rfl rfl)
theorem dX0_puts_57 : decode cX0_puts 57 = .ok (.iconst 1, 1) := dk_4 (dk_at dksX0_puts_2 10 rfl rfl)
theorem dX0_puts_58 : decode cX0_puts 58 = .ok (.iload 6, 2) := dk_21 6 (dk_at dksX0_puts_2 11 rfl rfl)
theorem dX0_puts_60 : decode cX0_puts 60 = .ok (.ishl, 1) := dk_120 (dk_at dksX0_puts_2 13 rfl rfl)
theorem dX0_puts_61 : decode cX0_puts 61 = .ok (.iconst (-1), 1) := dk_2 (dk_at dksX0_puts_2 14 rfl rfl)
theorem dX0_puts_62 : decode cX0_puts 62 = .ok (.ixor, 1) := dk_130 (dk_at dksX0_puts_2 15 rfl rfl)
theorem dX0_puts_63 : decode cX0_puts 63 = .ok (.iand, 1) := dk_126 (dk_at dksX0_puts_2 16 rfl rfl)
theorem dX0_puts_64 : decode cX0_puts 64 = .ok (.iconst 1, 1) := dk_4 (dk_at dksX0_puts_2 17 rfl rfl)
theorem dX0_puts_65 : decode cX0_puts 65 = .ok (.iload 7, 2) := dk_21 7 (dk_at dksX0_puts_2 18 rfl rfl)
theorem dX0_puts_67 : decode cX0_puts 67 = .ok (.ishl, 1) := dk_120 (dk_at dksX0_puts_2 20 rfl rfl)
theorem dX0_puts_68 : decode cX0_puts 68 = .ok (.iconst (-1), 1) := dk_2 (dk_at dksX0_puts_2 21 rfl rfl)
theorem dX0_puts_69 : decode cX0_puts 69 = .ok (.ixor, 1) := dk_130 (dk_at dksX0_puts_2 22 rfl rfl)
theorem dX0_puts_70 : decode cX0_puts 70 = .ok (.iand, 1) := dk_126 (dk_at dksX0_puts_2 23 rfl rfl)
theorem dX0_puts_71 : decode cX0_puts 71 = .ok (.iload_n 2, 1) := dk_28 (dk_at dksX0_puts_3 0 rfl rfl)
theorem dX0_puts_72 : decode cX0_puts 72 = .ok (.iload_n 3, 1) := dk_29 (dk_at dksX0_puts_3 1 rfl rfl)
theorem dX0_puts_73 : decode cX0_puts 73 = .ok (.iload 4, 2) := dk_21 4 (dk_at dksX0_puts_3 2 rfl rfl)
theorem dX0_puts_75 : decode cX0_puts 75 = .ok (.aload_n 0, 1) := dk_42 (dk_at dksX0_puts_3 4 rfl rfl)
theorem dX0_puts_76 : decode cX0_puts 76 = .ok (.getfield 387, 3) := dk_180 1 131 (dk_at dksX0_puts_3 5 rfl rfl)
theorem dX0_puts_79 : decode cX0_puts 79 = .ok (.iadd, 1) := dk_96 (dk_at dksX0_puts_3 8 rfl rfl)
theorem dX0_puts_80 : decode cX0_puts 80 = .ok (.bipush 100, 2) := dk_16 100 (dk_at dksX0_puts_3 9 rfl rfl)
theorem dX0_puts_82 : decode cX0_puts 82 = .ok (.iload 5, 2) := dk_21 5 (dk_at dksX0_puts_3 11 rfl rfl)
theorem dX0_puts_84 : decode cX0_puts 84 = .ok (.imul, 1) := dk_104 (dk_at dksX0_puts_3 13 rfl rfl)
theorem dX0_puts_85 : decode cX0_puts 85 = .ok (.bipush 10, 2) := dk_16 10 (dk_at dksX0_puts_3 14 rfl rfl)
theorem dX0_puts_87 : decode cX0_puts 87 = .ok (.iload 6, 2) := dk_21 6 (dk_at dksX0_puts_3 16 rfl rfl)
theorem dX0_puts_89 : decode cX0_puts 89 = .ok (.iconst 1, 1) := dk_4 (dk_at dksX0_puts_3 18 rfl rfl)
theorem dX0_puts_90 : decode cX0_puts 90 = .ok (.iadd, 1) := dk_96 (dk_at dksX0_puts_3 19 rfl rfl)
theorem dX0_puts_91 : decode cX0_puts 91 = .ok (.imul, 1) := dk_104 (dk_at dksX0_puts_3 20 rfl rfl)
theorem dX0_puts_92 : decode cX0_puts 92 = .ok (.iadd, 1) := dk_96 (dk_at dksX0_puts_3 21 rfl rfl)
theorem dX0_puts_93 : decode cX0_puts 93 = .ok (.iload 7, 2) := dk_21 7 (dk_at dksX0_puts_3 22 rfl rfl)
theorem dX0_puts_95 : decode cX0_puts 95 = .ok (.iadd, 1) := dk_96 (dk_at dksX0_puts_4 0 rfl rfl)
theorem dX0_puts_96 : decode cX0_puts 96 = .ok (.iconst 1, 1) := dk_4 (dk_at dksX0_puts_4 1 rfl rfl)
theorem dX0_puts_97 : decode cX0_puts 97 = .ok (.iadd, 1) := dk_96 (dk_at dksX0_puts_4 2 rfl rfl)
theorem dX0_puts_98 : decode cX0_puts 98 = .ok (.invokevirtual 436, 3) := dk_182 1 180 (dk_at dksX0_puts_4 3 rfl rfl)
theorem dX0_puts_101 : decode cX0_puts 101 = .ok (.iinc 7 1, 3) := dk_132 7 1 (dk_at dksX0_puts_4 6 rfl rfl)
theorem dX0_puts_104 : decode cX0_puts 104 = .ok (.goto (-79), 3) := dk_167 255 177 (dk_at dksX0_puts_4 9 rfl rfl)
theorem dX0_puts_107 : decode cX0_puts 107 = .ok (.iload_n 2, 1) := dk_28 (dk_at dksX0_puts_4 12 rfl rfl)
theorem dX0_puts_108 : decode cX0_puts 108 = .ok (.ifCond .eq 21, 3) := dk_153 0 21 (dk_at dksX0_puts_4 13 rfl rfl)
theorem dX0_puts_111 : decode cX0_puts 111 = .ok (.aload_n 0, 1) := dk_42 (dk_at dksX0_puts_4 16 rfl rfl)
theorem dX0_puts_112 : decode cX0_puts 112 = .ok (.iload_n 1, 1) := dk_27 (dk_at dksX0_puts_4 17 rfl rfl)
theorem dX0_puts_113 : decode cX0_puts 113 = .ok (.iconst 1, 1) := dk_4 (dk_at dksX0_puts_4 18 rfl rfl)
theorem dX0_puts_114 : decode cX0_puts 114 = .ok (.iload 6, 2) := dk_21 6 (dk_at dksX0_puts_4 19 rfl rfl)
theorem dX0_puts_116 : decode cX0_puts 116 = .ok (.ishl, 1) := dk_120 (dk_at dksX0_puts_4 21 rfl rfl)
theorem dX0_puts_117 : decode cX0_puts 117 = .ok (.iconst (-1), 1) := dk_2 (dk_at dksX0_puts_4 22 rfl rfl)
theorem dX0_puts_118 : decode cX0_puts 118 = .ok (.ixor, 1) := dk_130 (dk_at dksX0_puts_4 23 rfl rfl)
theorem dX0_puts_119 : decode cX0_puts 119 = .ok (.iand, 1) := dk_126 (dk_at dksX0_puts_5 0 rfl rfl)
theorem dX0_puts_120 : decode cX0_puts 120 = .ok (.iconst 0, 1) := dk_3 (dk_at dksX0_puts_5 1 rfl rfl)
theorem dX0_puts_121 : decode cX0_puts 121 = .ok (.iload_n 3, 1) := dk_29 (dk_at dksX0_puts_5 2 rfl rfl)
theorem dX0_puts_122 : decode cX0_puts 122 = .ok (.iload 4, 2) := dk_21 4 (dk_at dksX0_puts_5 3 rfl rfl)
theorem dX0_puts_124 : decode cX0_puts 124 = .ok (.iload 5, 2) := dk_21 5 (dk_at dksX0_puts_5 5 rfl rfl)
theorem dX0_puts_126 : decode cX0_puts 126 = .ok (.invokevirtual 436, 3) := dk_182 1 180 (dk_at dksX0_puts_5 7 rfl rfl)
theorem dX0_puts_129 : decode cX0_puts 129 = .ok (.return_, 1) := dk_177 (dk_at dksX0_puts_5 10 rfl rfl)
abbrev cX0_looks : ByteArray := prog_1_method_59_code
def yX0_looks : MethodName := ⟨RX0, "looks", "(II)V"⟩
def dkwX0_looks_1 : List UInt8 := [181, 1, 165, 42, 28, 181, 1, 168, 177]
abbrev dktX0_looks_1 : List UInt8 := dkwX0_looks_1 ++ []
def dkwX0_looks_0 : List UInt8 := [42, 180, 1, 161, 153, 0, 11, 27, 42, 180, 1, 165, 162, 0, 18, 42, 4, 181, 1, 161, 42, 27]
abbrev dktX0_looks_0 : List UInt8 := dkwX0_looks_0 ++ dktX0_looks_1
theorem dksX0_looks_0 : cX0_looks.data.toList.drop 0 = dktX0_looks_0 := by decide +kernel
theorem dksX0_looks_1 : cX0_looks.data.toList.drop 22 = dktX0_looks_1 := dk_seg dksX0_looks_0 22 rfl rfl
theorem dX0_looks_0 : decode cX0_looks 0 = .ok (.aload_n 0, 1) := dk_42 (dk_at dksX0_looks_0 0 rfl rfl)
theorem dX0_looks_1 : decode cX0_looks 1 = .ok (.getfield 417, 3) := dk_180 1 161 (dk_at dksX0_looks_0 1 rfl rfl)
theorem dX0_looks_4 : decode cX0_looks 4 = .ok (.ifCond .eq 11, 3) := dk_153 0 11 (dk_at dksX0_looks_0 4 rfl rfl)
theorem dX0_looks_7 : decode cX0_looks 7 = .ok (.iload_n 1, 1) := dk_27 (dk_at dksX0_looks_0 7 rfl rfl)
theorem dX0_looks_8 : decode cX0_looks 8 = .ok (.aload_n 0, 1) := dk_42 (dk_at dksX0_looks_0 8 rfl rfl)
theorem dX0_looks_9 : decode cX0_looks 9 = .ok (.getfield 421, 3) := dk_180 1 165 (dk_at dksX0_looks_0 9 rfl rfl)
theorem dX0_looks_12 : decode cX0_looks 12 = .ok (.if_icmp .ge 18, 3) := dk_162 0 18 (dk_at dksX0_looks_0 12 rfl rfl)
theorem dX0_looks_15 : decode cX0_looks 15 = .ok (.aload_n 0, 1) := dk_42 (dk_at dksX0_looks_0 15 rfl rfl)
theorem dX0_looks_16 : decode cX0_looks 16 = .ok (.iconst 1, 1) := dk_4 (dk_at dksX0_looks_0 16 rfl rfl)
theorem dX0_looks_17 : decode cX0_looks 17 = .ok (.putfield 417, 3) := dk_181 1 161 (dk_at dksX0_looks_0 17 rfl rfl)
theorem dX0_looks_20 : decode cX0_looks 20 = .ok (.aload_n 0, 1) := dk_42 (dk_at dksX0_looks_0 20 rfl rfl)
theorem dX0_looks_21 : decode cX0_looks 21 = .ok (.iload_n 1, 1) := dk_27 (dk_at dksX0_looks_0 21 rfl rfl)
theorem dX0_looks_22 : decode cX0_looks 22 = .ok (.putfield 421, 3) := dk_181 1 165 (dk_at dksX0_looks_1 0 rfl rfl)
theorem dX0_looks_25 : decode cX0_looks 25 = .ok (.aload_n 0, 1) := dk_42 (dk_at dksX0_looks_1 3 rfl rfl)
theorem dX0_looks_26 : decode cX0_looks 26 = .ok (.iload_n 2, 1) := dk_28 (dk_at dksX0_looks_1 4 rfl rfl)
theorem dX0_looks_27 : decode cX0_looks 27 = .ok (.putfield 424, 3) := dk_181 1 168 (dk_at dksX0_looks_1 5 rfl rfl)
theorem dX0_looks_30 : decode cX0_looks 30 = .ok (.return_, 1) := dk_177 (dk_at dksX0_looks_1 8 rfl rfl)
abbrev cX0_isIn : ByteArray := prog_1_method_3_code
def yX0_isIn : MethodName := ⟨RX0, "isIn", "(II)Z"⟩
def dkwX0_isIn_0 : List UInt8 := [26, 27, 122, 4, 126, 4, 160, 0, 7, 4, 167, 0, 4, 3, 172]
abbrev dktX0_isIn_0 : List UInt8 := dkwX0_isIn_0 ++ []
theorem dksX0_isIn_0 : cX0_isIn.data.toList.drop 0 = dktX0_isIn_0 := by decide +kernel
theorem dX0_isIn_0 : decode cX0_isIn 0 = .ok (.iload_n 0, 1) := dk_26 (dk_at dksX0_isIn_0 0 rfl rfl)
theorem dX0_isIn_1 : decode cX0_isIn 1 = .ok (.iload_n 1, 1) := dk_27 (dk_at dksX0_isIn_0 1 rfl rfl)
theorem dX0_isIn_2 : decode cX0_isIn 2 = .ok (.ishr, 1) := dk_122 (dk_at dksX0_isIn_0 2 rfl rfl)
theorem dX0_isIn_3 : decode cX0_isIn 3 = .ok (.iconst 1, 1) := dk_4 (dk_at dksX0_isIn_0 3 rfl rfl)
theorem dX0_isIn_4 : decode cX0_isIn 4 = .ok (.iand, 1) := dk_126 (dk_at dksX0_isIn_0 4 rfl rfl)
theorem dX0_isIn_5 : decode cX0_isIn 5 = .ok (.iconst 1, 1) := dk_4 (dk_at dksX0_isIn_0 5 rfl rfl)
theorem dX0_isIn_6 : decode cX0_isIn 6 = .ok (.if_icmp .ne 7, 3) := dk_160 0 7 (dk_at dksX0_isIn_0 6 rfl rfl)
theorem dX0_isIn_9 : decode cX0_isIn 9 = .ok (.iconst 1, 1) := dk_4 (dk_at dksX0_isIn_0 9 rfl rfl)
theorem dX0_isIn_10 : decode cX0_isIn 10 = .ok (.goto 4, 3) := dk_167 0 4 (dk_at dksX0_isIn_0 10 rfl rfl)
theorem dX0_isIn_13 : decode cX0_isIn 13 = .ok (.iconst 0, 1) := dk_3 (dk_at dksX0_isIn_0 13 rfl rfl)
theorem dX0_isIn_14 : decode cX0_isIn 14 = .ok (.ireturn, 1) := dk_172 (dk_at dksX0_isIn_0 14 rfl rfl)
abbrev cX0_shut : ByteArray := prog_1_method_64_code
def yX0_shut : MethodName := ⟨RX0, "shut", "(IIII)I"⟩
def dkwX0_shut_6 : List UInt8 := [167, 255, 166, 21, 4, 154, 0, 8, 21, 5, 167, 0, 5, 21, 6, 172]
abbrev dktX0_shut_6 : List UInt8 := dkwX0_shut_6 ++ []
def dkwX0_shut_5 : List UInt8 := [21, 5, 54, 5, 21, 6, 21, 9, 184, 0, 7, 54, 6, 132, 8, 1, 167, 255, 185, 132, 7, 1]
abbrev dktX0_shut_5 : List UInt8 := dkwX0_shut_5 ++ dktX0_shut_6
def dkwX0_shut_4 : List UInt8 := [182, 1, 184, 54, 9, 21, 9, 21, 6, 164, 0, 14, 16, 10, 21, 7, 104, 21, 8, 96, 167, 0, 5]
abbrev dktX0_shut_4 : List UInt8 := dkwX0_shut_4 ++ dktX0_shut_5
def dkwX0_shut_3 : List UInt8 := [180, 0, 72, 21, 7, 50, 21, 8, 46, 154, 0, 7, 2, 167, 0, 14, 42, 27, 28, 29, 21, 7, 21, 8]
abbrev dktX0_shut_3 : List UInt8 := dkwX0_shut_3 ++ dktX0_shut_4
def dkwX0_shut_2 : List UInt8 := [54, 7, 21, 7, 16, 8, 162, 0, 89, 21, 7, 4, 96, 54, 8, 21, 8, 16, 8, 162, 0, 70, 42]
abbrev dktX0_shut_2 : List UInt8 := dkwX0_shut_2 ++ dktX0_shut_3
def dkwX0_shut_1 : List UInt8 := [154, 0, 6, 16, 254, 172, 42, 27, 28, 29, 182, 1, 151, 2, 54, 5, 42, 180, 1, 131, 54, 6, 3]
abbrev dktX0_shut_1 : List UInt8 := dkwX0_shut_1 ++ dktX0_shut_2
def dkwX0_shut_0 : List UInt8 := [42, 27, 28, 182, 0, 28, 153, 0, 21, 29, 184, 0, 57, 153, 0, 14, 21, 4, 133, 9, 10, 184, 0, 14]
abbrev dktX0_shut_0 : List UInt8 := dkwX0_shut_0 ++ dktX0_shut_1
theorem dksX0_shut_0 : cX0_shut.data.toList.drop 0 = dktX0_shut_0 := by decide +kernel
theorem dksX0_shut_1 : cX0_shut.data.toList.drop 24 = dktX0_shut_1 := dk_seg dksX0_shut_0 24 rfl rfl
theorem dksX0_shut_2 : cX0_shut.data.toList.drop 47 = dktX0_shut_2 := dk_seg dksX0_shut_1 23 rfl rfl
theorem dksX0_shut_3 : cX0_shut.data.toList.drop 70 = dktX0_shut_3 := dk_seg dksX0_shut_2 23 rfl rfl
theorem dksX0_shut_4 : cX0_shut.data.toList.drop 94 = dktX0_shut_4 := dk_seg dksX0_shut_3 24 rfl rfl
theorem dksX0_shut_5 : cX0_shut.data.toList.drop 117 = dktX0_shut_5 := dk_seg dksX0_shut_4 23 rfl rfl
theorem dksX0_shut_6 : cX0_shut.data.toList.drop 139 = dktX0_shut_6 := dk_seg dksX0_shut_5 22 rfl rfl
theorem dX0_shut_0 : decode cX0_shut 0 = .ok (.aload_n 0, 1) := dk_42 (dk_at dksX0_shut_0 0 rfl rfl)
theorem dX0_shut_1 : decode cX0_shut 1 = .ok (.iload_n 1, 1) := dk_27 (dk_at dksX0_shut_0 1 rfl rfl)
theorem dX0_shut_2 : decode cX0_shut 2 = .ok (.iload_n 2, 1) := dk_28 (dk_at dksX0_shut_0 2 rfl rfl)
theorem dX0_shut_3 : decode cX0_shut 3 = .ok (.invokevirtual 28, 3) := dk_182 0 28 (dk_at dksX0_shut_0 3 rfl rfl)
theorem dX0_shut_6 : decode cX0_shut 6 = .ok (.ifCond .eq 21, 3) := dk_153 0 21 (dk_at dksX0_shut_0 6 rfl rfl)
theorem dX0_shut_9 : decode cX0_shut 9 = .ok (.iload_n 3, 1) := dk_29 (dk_at dksX0_shut_0 9 rfl rfl)
theorem dX0_shut_10 : decode cX0_shut 10 = .ok (.invokestatic 57, 3) := dk_184 0 57 (dk_at dksX0_shut_0 10 rfl rfl)
theorem dX0_shut_13 : decode cX0_shut 13 = .ok (.ifCond .eq 14, 3) := dk_153 0 14 (dk_at dksX0_shut_0 13 rfl rfl)
theorem dX0_shut_16 : decode cX0_shut 16 = .ok (.iload 4, 2) := dk_21 4 (dk_at dksX0_shut_0 16 rfl rfl)
theorem dX0_shut_18 : decode cX0_shut 18 = .ok (.i2l, 1) := dk_133 (dk_at dksX0_shut_0 18 rfl rfl)
theorem dX0_shut_19 : decode cX0_shut 19 = .ok (.lconst 0, 1) := dk_9 (dk_at dksX0_shut_0 19 rfl rfl)
theorem dX0_shut_20 : decode cX0_shut 20 = .ok (.lconst 1, 1) := dk_10 (dk_at dksX0_shut_0 20 rfl rfl)
theorem dX0_shut_21 : decode cX0_shut 21 = .ok (.invokestatic 14, 3) := dk_184 0 14 (dk_at dksX0_shut_0 21 rfl rfl)
theorem dX0_shut_24 : decode cX0_shut 24 = .ok (.ifCond .ne 6, 3) := dk_154 0 6 (dk_at dksX0_shut_1 0 rfl rfl)
theorem dX0_shut_27 : decode cX0_shut 27 = .ok (.bipush (-2), 2) := dk_16 254 (dk_at dksX0_shut_1 3 rfl rfl)
theorem dX0_shut_29 : decode cX0_shut 29 = .ok (.ireturn, 1) := dk_172 (dk_at dksX0_shut_1 5 rfl rfl)
theorem dX0_shut_30 : decode cX0_shut 30 = .ok (.aload_n 0, 1) := dk_42 (dk_at dksX0_shut_1 6 rfl rfl)
theorem dX0_shut_31 : decode cX0_shut 31 = .ok (.iload_n 1, 1) := dk_27 (dk_at dksX0_shut_1 7 rfl rfl)
theorem dX0_shut_32 : decode cX0_shut 32 = .ok (.iload_n 2, 1) := dk_28 (dk_at dksX0_shut_1 8 rfl rfl)
theorem dX0_shut_33 : decode cX0_shut 33 = .ok (.iload_n 3, 1) := dk_29 (dk_at dksX0_shut_1 9 rfl rfl)
theorem dX0_shut_34 : decode cX0_shut 34 = .ok (.invokevirtual 407, 3) := dk_182 1 151 (dk_at dksX0_shut_1 10 rfl rfl)
theorem dX0_shut_37 : decode cX0_shut 37 = .ok (.iconst (-1), 1) := dk_2 (dk_at dksX0_shut_1 13 rfl rfl)
theorem dX0_shut_38 : decode cX0_shut 38 = .ok (.istore 5, 2) := dk_54 5 (dk_at dksX0_shut_1 14 rfl rfl)
theorem dX0_shut_40 : decode cX0_shut 40 = .ok (.aload_n 0, 1) := dk_42 (dk_at dksX0_shut_1 16 rfl rfl)
theorem dX0_shut_41 : decode cX0_shut 41 = .ok (.getfield 387, 3) := dk_180 1 131 (dk_at dksX0_shut_1 17 rfl rfl)
theorem dX0_shut_44 : decode cX0_shut 44 = .ok (.istore 6, 2) := dk_54 6 (dk_at dksX0_shut_1 20 rfl rfl)
theorem dX0_shut_46 : decode cX0_shut 46 = .ok (.iconst 0, 1) := dk_3 (dk_at dksX0_shut_1 22 rfl rfl)
theorem dX0_shut_47 : decode cX0_shut 47 = .ok (.istore 7, 2) := dk_54 7 (dk_at dksX0_shut_2 0 rfl rfl)
theorem dX0_shut_49 : decode cX0_shut 49 = .ok (.iload 7, 2) := dk_21 7 (dk_at dksX0_shut_2 2 rfl rfl)
theorem dX0_shut_51 : decode cX0_shut 51 = .ok (.bipush 8, 2) := dk_16 8 (dk_at dksX0_shut_2 4 rfl rfl)
theorem dX0_shut_53 : decode cX0_shut 53 = .ok (.if_icmp .ge 89, 3) := dk_162 0 89 (dk_at dksX0_shut_2 6 rfl rfl)
theorem dX0_shut_56 : decode cX0_shut 56 = .ok (.iload 7, 2) := dk_21 7 (dk_at dksX0_shut_2 9 rfl rfl)
theorem dX0_shut_58 : decode cX0_shut 58 = .ok (.iconst 1, 1) := dk_4 (dk_at dksX0_shut_2 11 rfl rfl)
theorem dX0_shut_59 : decode cX0_shut 59 = .ok (.iadd, 1) := dk_96 (dk_at dksX0_shut_2 12 rfl rfl)
theorem dX0_shut_60 : decode cX0_shut 60 = .ok (.istore 8, 2) := dk_54 8 (dk_at dksX0_shut_2 13 rfl rfl)
theorem dX0_shut_62 : decode cX0_shut 62 = .ok (.iload 8, 2) := dk_21 8 (dk_at dksX0_shut_2 15 rfl rfl)
theorem dX0_shut_64 : decode cX0_shut 64 = .ok (.bipush 8, 2) := dk_16 8 (dk_at dksX0_shut_2 17 rfl rfl)
theorem dX0_shut_66 : decode cX0_shut 66 = .ok (.if_icmp .ge 70, 3) := dk_162 0 70 (dk_at dksX0_shut_2 19 rfl rfl)
theorem dX0_shut_69 : decode cX0_shut 69 = .ok (.aload_n 0, 1) := dk_42 (dk_at dksX0_shut_2 22 rfl rfl)
theorem dX0_shut_70 : decode cX0_shut 70 = .ok (.getfield 72, 3) := dk_180 0 72 (dk_at dksX0_shut_3 0 rfl rfl)
theorem dX0_shut_73 : decode cX0_shut 73 = .ok (.iload 7, 2) := dk_21 7 (dk_at dksX0_shut_3 3 rfl rfl)
theorem dX0_shut_75 : decode cX0_shut 75 = .ok (.aaload, 1) := dk_50 (dk_at dksX0_shut_3 5 rfl rfl)
theorem dX0_shut_76 : decode cX0_shut 76 = .ok (.iload 8, 2) := dk_21 8 (dk_at dksX0_shut_3 6 rfl rfl)
theorem dX0_shut_78 : decode cX0_shut 78 = .ok (.iaload, 1) := dk_46 (dk_at dksX0_shut_3 8 rfl rfl)
theorem dX0_shut_79 : decode cX0_shut 79 = .ok (.ifCond .ne 7, 3) := dk_154 0 7 (dk_at dksX0_shut_3 9 rfl rfl)
theorem dX0_shut_82 : decode cX0_shut 82 = .ok (.iconst (-1), 1) := dk_2 (dk_at dksX0_shut_3 12 rfl rfl)
theorem dX0_shut_83 : decode cX0_shut 83 = .ok (.goto 14, 3) := dk_167 0 14 (dk_at dksX0_shut_3 13 rfl rfl)
theorem dX0_shut_86 : decode cX0_shut 86 = .ok (.aload_n 0, 1) := dk_42 (dk_at dksX0_shut_3 16 rfl rfl)
theorem dX0_shut_87 : decode cX0_shut 87 = .ok (.iload_n 1, 1) := dk_27 (dk_at dksX0_shut_3 17 rfl rfl)
theorem dX0_shut_88 : decode cX0_shut 88 = .ok (.iload_n 2, 1) := dk_28 (dk_at dksX0_shut_3 18 rfl rfl)
theorem dX0_shut_89 : decode cX0_shut 89 = .ok (.iload_n 3, 1) := dk_29 (dk_at dksX0_shut_3 19 rfl rfl)
theorem dX0_shut_90 : decode cX0_shut 90 = .ok (.iload 7, 2) := dk_21 7 (dk_at dksX0_shut_3 20 rfl rfl)
theorem dX0_shut_92 : decode cX0_shut 92 = .ok (.iload 8, 2) := dk_21 8 (dk_at dksX0_shut_3 22 rfl rfl)
theorem dX0_shut_94 : decode cX0_shut 94 = .ok (.invokevirtual 440, 3) := dk_182 1 184 (dk_at dksX0_shut_4 0 rfl rfl)
theorem dX0_shut_97 : decode cX0_shut 97 = .ok (.istore 9, 2) := dk_54 9 (dk_at dksX0_shut_4 3 rfl rfl)
theorem dX0_shut_99 : decode cX0_shut 99 = .ok (.iload 9, 2) := dk_21 9 (dk_at dksX0_shut_4 5 rfl rfl)
theorem dX0_shut_101 : decode cX0_shut 101 = .ok (.iload 6, 2) := dk_21 6 (dk_at dksX0_shut_4 7 rfl rfl)
theorem dX0_shut_103 : decode cX0_shut 103 = .ok (.if_icmp .le 14, 3) := dk_164 0 14 (dk_at dksX0_shut_4 9 rfl rfl)
theorem dX0_shut_106 : decode cX0_shut 106 = .ok (.bipush 10, 2) := dk_16 10 (dk_at dksX0_shut_4 12 rfl rfl)
theorem dX0_shut_108 : decode cX0_shut 108 = .ok (.iload 7, 2) := dk_21 7 (dk_at dksX0_shut_4 14 rfl rfl)
theorem dX0_shut_110 : decode cX0_shut 110 = .ok (.imul, 1) := dk_104 (dk_at dksX0_shut_4 16 rfl rfl)
theorem dX0_shut_111 : decode cX0_shut 111 = .ok (.iload 8, 2) := dk_21 8 (dk_at dksX0_shut_4 17 rfl rfl)
theorem dX0_shut_113 : decode cX0_shut 113 = .ok (.iadd, 1) := dk_96 (dk_at dksX0_shut_4 19 rfl rfl)
theorem dX0_shut_114 : decode cX0_shut 114 = .ok (.goto 5, 3) := dk_167 0 5 (dk_at dksX0_shut_4 20 rfl rfl)
theorem dX0_shut_117 : decode cX0_shut 117 = .ok (.iload 5, 2) := dk_21 5 (dk_at dksX0_shut_5 0 rfl rfl)
theorem dX0_shut_119 : decode cX0_shut 119 = .ok (.istore 5, 2) := dk_54 5 (dk_at dksX0_shut_5 2 rfl rfl)
theorem dX0_shut_121 : decode cX0_shut 121 = .ok (.iload 6, 2) := dk_21 6 (dk_at dksX0_shut_5 4 rfl rfl)
theorem dX0_shut_123 : decode cX0_shut 123 = .ok (.iload 9, 2) := dk_21 9 (dk_at dksX0_shut_5 6 rfl rfl)
theorem dX0_shut_125 : decode cX0_shut 125 = .ok (.invokestatic 7, 3) := dk_184 0 7 (dk_at dksX0_shut_5 8 rfl rfl)
theorem dX0_shut_128 : decode cX0_shut 128 = .ok (.istore 6, 2) := dk_54 6 (dk_at dksX0_shut_5 11 rfl rfl)
theorem dX0_shut_130 : decode cX0_shut 130 = .ok (.iinc 8 1, 3) := dk_132 8 1 (dk_at dksX0_shut_5 13 rfl rfl)
theorem dX0_shut_133 : decode cX0_shut 133 = .ok (.goto (-71), 3) := dk_167 255 185 (dk_at dksX0_shut_5 16 rfl rfl)
theorem dX0_shut_136 : decode cX0_shut 136 = .ok (.iinc 7 1, 3) := dk_132 7 1 (dk_at dksX0_shut_5 19 rfl rfl)
theorem dX0_shut_139 : decode cX0_shut 139 = .ok (.goto (-90), 3) := dk_167 255 166 (dk_at dksX0_shut_6 0 rfl rfl)
theorem dX0_shut_142 : decode cX0_shut 142 = .ok (.iload 4, 2) := dk_21 4 (dk_at dksX0_shut_6 3 rfl rfl)
theorem dX0_shut_144 : decode cX0_shut 144 = .ok (.ifCond .ne 8, 3) := dk_154 0 8 (dk_at dksX0_shut_6 5 rfl rfl)
theorem dX0_shut_147 : decode cX0_shut 147 = .ok (.iload 5, 2) := dk_21 5 (dk_at dksX0_shut_6 8 rfl rfl)
theorem dX0_shut_149 : decode cX0_shut 149 = .ok (.goto 5, 3) := dk_167 0 5 (dk_at dksX0_shut_6 10 rfl rfl)
theorem dX0_shut_152 : decode cX0_shut 152 = .ok (.iload 6, 2) := dk_21 6 (dk_at dksX0_shut_6 13 rfl rfl)
theorem dX0_shut_154 : decode cX0_shut 154 = .ok (.ireturn, 1) := dk_172 (dk_at dksX0_shut_6 15 rfl rfl)
abbrev cX0_longWithout : ByteArray := prog_1_method_63_code
def yX0_longWithout : MethodName := ⟨RX0, "longWithout", "(IIIII)I"⟩
def dkwX0_longWithout_2 : List UInt8 := [58, 8, 42, 21, 4, 21, 5, 21, 6, 182, 0, 81, 25, 8, 191]
abbrev dktX0_longWithout_2 : List UInt8 := dkwX0_longWithout_2 ++ []
def dkwX0_longWithout_1 : List UInt8 := [29, 182, 1, 151, 42, 180, 1, 131, 54, 7, 42, 21, 4, 21, 5, 21, 6, 182, 0, 81, 21, 7, 172]
abbrev dktX0_longWithout_1 : List UInt8 := dkwX0_longWithout_1 ++ dktX0_longWithout_2
def dkwX0_longWithout_0 : List UInt8 := [42, 180, 0, 72, 21, 4, 50, 21, 5, 46, 54, 6, 42, 21, 4, 21, 5, 3, 182, 0, 81, 42, 27, 28]
abbrev dktX0_longWithout_0 : List UInt8 := dkwX0_longWithout_0 ++ dktX0_longWithout_1
theorem dksX0_longWithout_0 : cX0_longWithout.data.toList.drop 0 = dktX0_longWithout_0 := by decide +kernel
theorem dksX0_longWithout_1 : cX0_longWithout.data.toList.drop 24 = dktX0_longWithout_1 := dk_seg dksX0_longWithout_0 24 rfl rfl
theorem dksX0_longWithout_2 : cX0_longWithout.data.toList.drop 47 = dktX0_longWithout_2 := dk_seg dksX0_longWithout_1 23 rfl rfl
theorem dX0_longWithout_0 : decode cX0_longWithout 0 = .ok (.aload_n 0, 1) := dk_42 (dk_at dksX0_longWithout_0 0 rfl rfl)
theorem dX0_longWithout_1 : decode cX0_longWithout 1 = .ok (.getfield 72, 3) := dk_180 0 72 (dk_at dksX0_longWithout_0 1 rfl rfl)
theorem dX0_longWithout_4 : decode cX0_longWithout 4 = .ok (.iload 4, 2) := dk_21 4 (dk_at dksX0_longWithout_0 4 rfl rfl)
theorem dX0_longWithout_6 : decode cX0_longWithout 6 = .ok (.aaload, 1) := dk_50 (dk_at dksX0_longWithout_0 6 rfl rfl)
theorem dX0_longWithout_7 : decode cX0_longWithout 7 = .ok (.iload 5, 2) := dk_21 5 (dk_at dksX0_longWithout_0 7 rfl rfl)
theorem dX0_longWithout_9 : decode cX0_longWithout 9 = .ok (.iaload, 1) := dk_46 (dk_at dksX0_longWithout_0 9 rfl rfl)
theorem dX0_longWithout_10 : decode cX0_longWithout 10 = .ok (.istore 6, 2) := dk_54 6 (dk_at dksX0_longWithout_0 10 rfl rfl)
theorem dX0_longWithout_12 : decode cX0_longWithout 12 = .ok (.aload_n 0, 1) := dk_42 (dk_at dksX0_longWithout_0 12 rfl rfl)
theorem dX0_longWithout_13 : decode cX0_longWithout 13 = .ok (.iload 4, 2) := dk_21 4 (dk_at dksX0_longWithout_0 13 rfl rfl)
theorem dX0_longWithout_15 : decode cX0_longWithout 15 = .ok (.iload 5, 2) := dk_21 5 (dk_at dksX0_longWithout_0 15 rfl rfl)
theorem dX0_longWithout_17 : decode cX0_longWithout 17 = .ok (.iconst 0, 1) := dk_3 (dk_at dksX0_longWithout_0 17 rfl rfl)
theorem dX0_longWithout_18 : decode cX0_longWithout 18 = .ok (.invokevirtual 81, 3) := dk_182 0 81 (dk_at dksX0_longWithout_0 18 rfl rfl)
theorem dX0_longWithout_21 : decode cX0_longWithout 21 = .ok (.aload_n 0, 1) := dk_42 (dk_at dksX0_longWithout_0 21 rfl rfl)
theorem dX0_longWithout_22 : decode cX0_longWithout 22 = .ok (.iload_n 1, 1) := dk_27 (dk_at dksX0_longWithout_0 22 rfl rfl)
theorem dX0_longWithout_23 : decode cX0_longWithout 23 = .ok (.iload_n 2, 1) := dk_28 (dk_at dksX0_longWithout_0 23 rfl rfl)
theorem dX0_longWithout_24 : decode cX0_longWithout 24 = .ok (.iload_n 3, 1) := dk_29 (dk_at dksX0_longWithout_1 0 rfl rfl)
theorem dX0_longWithout_25 : decode cX0_longWithout 25 = .ok (.invokevirtual 407, 3) := dk_182 1 151 (dk_at dksX0_longWithout_1 1 rfl rfl)
theorem dX0_longWithout_28 : decode cX0_longWithout 28 = .ok (.aload_n 0, 1) := dk_42 (dk_at dksX0_longWithout_1 4 rfl rfl)
theorem dX0_longWithout_29 : decode cX0_longWithout 29 = .ok (.getfield 387, 3) := dk_180 1 131 (dk_at dksX0_longWithout_1 5 rfl rfl)
theorem dX0_longWithout_32 : decode cX0_longWithout 32 = .ok (.istore 7, 2) := dk_54 7 (dk_at dksX0_longWithout_1 8 rfl rfl)
theorem dX0_longWithout_34 : decode cX0_longWithout 34 = .ok (.aload_n 0, 1) := dk_42 (dk_at dksX0_longWithout_1 10 rfl rfl)
theorem dX0_longWithout_35 : decode cX0_longWithout 35 = .ok (.iload 4, 2) := dk_21 4 (dk_at dksX0_longWithout_1 11 rfl rfl)
theorem dX0_longWithout_37 : decode cX0_longWithout 37 = .ok (.iload 5, 2) := dk_21 5 (dk_at dksX0_longWithout_1 13 rfl rfl)
theorem dX0_longWithout_39 : decode cX0_longWithout 39 = .ok (.iload 6, 2) := dk_21 6 (dk_at dksX0_longWithout_1 15 rfl rfl)
theorem dX0_longWithout_41 : decode cX0_longWithout 41 = .ok (.invokevirtual 81, 3) := dk_182 0 81 (dk_at dksX0_longWithout_1 17 rfl rfl)
theorem dX0_longWithout_44 : decode cX0_longWithout 44 = .ok (.iload 7, 2) := dk_21 7 (dk_at dksX0_longWithout_1 20 rfl rfl)
theorem dX0_longWithout_46 : decode cX0_longWithout 46 = .ok (.ireturn, 1) := dk_172 (dk_at dksX0_longWithout_1 22 rfl rfl)
theorem dX0_longWithout_47 : decode cX0_longWithout 47 = .ok (.astore 8, 2) := dk_58 8 (dk_at dksX0_longWithout_2 0 rfl rfl)
theorem dX0_longWithout_49 : decode cX0_longWithout 49 = .ok (.aload_n 0, 1) := dk_42 (dk_at dksX0_longWithout_2 2 rfl rfl)
theorem dX0_longWithout_50 : decode cX0_longWithout 50 = .ok (.iload 4, 2) := dk_21 4 (dk_at dksX0_longWithout_2 3 rfl rfl)
theorem dX0_longWithout_52 : decode cX0_longWithout 52 = .ok (.iload 5, 2) := dk_21 5 (dk_at dksX0_longWithout_2 5 rfl rfl)
theorem dX0_longWithout_54 : decode cX0_longWithout 54 = .ok (.iload 6, 2) := dk_21 6 (dk_at dksX0_longWithout_2 7 rfl rfl)
theorem dX0_longWithout_56 : decode cX0_longWithout 56 = .ok (.invokevirtual 81, 3) := dk_182 0 81 (dk_at dksX0_longWithout_2 9 rfl rfl)
theorem dX0_longWithout_59 : decode cX0_longWithout 59 = .ok (.aload 8, 2) := dk_25 8 (dk_at dksX0_longWithout_2 12 rfl rfl)
theorem dX0_longWithout_61 : decode cX0_longWithout 61 = .ok (.athrow, 1) := dk_191 (dk_at dksX0_longWithout_2 14 rfl rfl)
abbrev cX0_tells : ByteArray := prog_1_method_72_code
def yX0_tells : MethodName := ⟨RX0, "tells", "(IIII)I"⟩
def dkwX0_tells_8 : List UInt8 := [172, 42, 25, 5, 28, 29, 182, 1, 237, 172]
abbrev dktX0_tells_8 : List UInt8 := dkwX0_tells_8 ++ []
def dkwX0_tells_7 : List UInt8 := [172, 42, 25, 5, 28, 29, 5, 16, 8, 182, 1, 233, 172, 42, 25, 5, 28, 29, 3, 16, 24, 182, 1, 233]
abbrev dktX0_tells_7 : List UInt8 := dkwX0_tells_7 ++ dktX0_tells_8
def dkwX0_tells_6 : List UInt8 := [182, 1, 227, 172, 42, 25, 5, 28, 29, 182, 1, 230, 172, 42, 25, 5, 28, 29, 4, 16, 10, 182, 1, 233]
abbrev dktX0_tells_6 : List UInt8 := dkwX0_tells_6 ++ dktX0_tells_7
def dkwX0_tells_5 : List UInt8 := [42, 25, 5, 28, 16, 10, 108, 28, 16, 10, 112, 29, 182, 1, 200, 172, 42, 25, 5, 28, 16, 10, 108, 29]
abbrev dktX0_tells_5 : List UInt8 := dkwX0_tells_5 ++ dktX0_tells_6
def dkwX0_tells_4 : List UInt8 := [170, 0, 0, 0, 0, 0, 112, 0, 0, 0, 0, 0, 0, 0, 5, 0, 0, 0, 39, 0, 0, 0, 55, 0, 0, 0, 67, 0, 0, 0, 76, 0, 0, 0, 88, 0, 0, 0, 100]
abbrev dktX0_tells_4 : List UInt8 := dkwX0_tells_4 ++ dktX0_tells_5
def dkwX0_tells_3 : List UInt8 := [164, 0, 6, 16, 254, 172, 21, 4]
abbrev dktX0_tells_3 : List UInt8 := dkwX0_tells_3 ++ dktX0_tells_4
def dkwX0_tells_2 : List UInt8 := [58, 5, 25, 5, 199, 0, 6, 16, 245, 172, 25, 5, 25, 5, 184, 1, 188, 184, 1, 192, 16, 20]
abbrev dktX0_tells_2 : List UInt8 := dkwX0_tells_2 ++ dktX0_tells_3
def dkwX0_tells_1 : List UInt8 := [133, 9, 20, 1, 221, 184, 0, 14, 154, 0, 6, 16, 254, 172, 42, 180, 1, 59, 27, 50, 180, 1, 223]
abbrev dktX0_tells_1 : List UInt8 := dkwX0_tells_1 ++ dktX0_tells_2
def dkwX0_tells_0 : List UInt8 := [27, 184, 1, 216, 153, 0, 31, 42, 28, 182, 1, 219, 153, 0, 23, 29, 184, 0, 57, 153, 0, 16, 21, 4]
abbrev dktX0_tells_0 : List UInt8 := dkwX0_tells_0 ++ dktX0_tells_1
theorem dksX0_tells_0 : cX0_tells.data.toList.drop 0 = dktX0_tells_0 := by decide +kernel
theorem dksX0_tells_1 : cX0_tells.data.toList.drop 24 = dktX0_tells_1 := dk_seg dksX0_tells_0 24 rfl rfl
theorem dksX0_tells_2 : cX0_tells.data.toList.drop 47 = dktX0_tells_2 := dk_seg dksX0_tells_1 23 rfl rfl
theorem dksX0_tells_3 : cX0_tells.data.toList.drop 69 = dktX0_tells_3 := dk_seg dksX0_tells_2 22 rfl rfl
theorem dksX0_tells_4 : cX0_tells.data.toList.drop 77 = dktX0_tells_4 := dk_seg dksX0_tells_3 8 rfl rfl
theorem dksX0_tells_5 : cX0_tells.data.toList.drop 116 = dktX0_tells_5 := dk_seg dksX0_tells_4 39 rfl rfl
theorem dksX0_tells_6 : cX0_tells.data.toList.drop 140 = dktX0_tells_6 := dk_seg dksX0_tells_5 24 rfl rfl
theorem dksX0_tells_7 : cX0_tells.data.toList.drop 164 = dktX0_tells_7 := dk_seg dksX0_tells_6 24 rfl rfl
theorem dksX0_tells_8 : cX0_tells.data.toList.drop 188 = dktX0_tells_8 := dk_seg dksX0_tells_7 24 rfl rfl
theorem dX0_tells_0 : decode cX0_tells 0 = .ok (.iload_n 1, 1) := dk_27 (dk_at dksX0_tells_0 0 rfl rfl)
theorem dX0_tells_1 : decode cX0_tells 1 = .ok (.invokestatic 472, 3) := dk_184 1 216 (dk_at dksX0_tells_0 1 rfl rfl)
theorem dX0_tells_4 : decode cX0_tells 4 = .ok (.ifCond .eq 31, 3) := dk_153 0 31 (dk_at dksX0_tells_0 4 rfl rfl)
theorem dX0_tells_7 : decode cX0_tells 7 = .ok (.aload_n 0, 1) := dk_42 (dk_at dksX0_tells_0 7 rfl rfl)
theorem dX0_tells_8 : decode cX0_tells 8 = .ok (.iload_n 2, 1) := dk_28 (dk_at dksX0_tells_0 8 rfl rfl)
theorem dX0_tells_9 : decode cX0_tells 9 = .ok (.invokevirtual 475, 3) := dk_182 1 219 (dk_at dksX0_tells_0 9 rfl rfl)
theorem dX0_tells_12 : decode cX0_tells 12 = .ok (.ifCond .eq 23, 3) := dk_153 0 23 (dk_at dksX0_tells_0 12 rfl rfl)
theorem dX0_tells_15 : decode cX0_tells 15 = .ok (.iload_n 3, 1) := dk_29 (dk_at dksX0_tells_0 15 rfl rfl)
theorem dX0_tells_16 : decode cX0_tells 16 = .ok (.invokestatic 57, 3) := dk_184 0 57 (dk_at dksX0_tells_0 16 rfl rfl)
theorem dX0_tells_19 : decode cX0_tells 19 = .ok (.ifCond .eq 16, 3) := dk_153 0 16 (dk_at dksX0_tells_0 19 rfl rfl)
theorem dX0_tells_22 : decode cX0_tells 22 = .ok (.iload 4, 2) := dk_21 4 (dk_at dksX0_tells_0 22 rfl rfl)
theorem dX0_tells_24 : decode cX0_tells 24 = .ok (.i2l, 1) := dk_133 (dk_at dksX0_tells_1 0 rfl rfl)
theorem dX0_tells_25 : decode cX0_tells 25 = .ok (.lconst 0, 1) := dk_9 (dk_at dksX0_tells_1 1 rfl rfl)
theorem dX0_tells_26 : decode cX0_tells 26 = .ok (.ldc2_w 477, 3) := dk_20 1 221 (dk_at dksX0_tells_1 2 rfl rfl)
theorem dX0_tells_29 : decode cX0_tells 29 = .ok (.invokestatic 14, 3) := dk_184 0 14 (dk_at dksX0_tells_1 5 rfl rfl)
theorem dX0_tells_32 : decode cX0_tells 32 = .ok (.ifCond .ne 6, 3) := dk_154 0 6 (dk_at dksX0_tells_1 8 rfl rfl)
theorem dX0_tells_35 : decode cX0_tells 35 = .ok (.bipush (-2), 2) := dk_16 254 (dk_at dksX0_tells_1 11 rfl rfl)
theorem dX0_tells_37 : decode cX0_tells 37 = .ok (.ireturn, 1) := dk_172 (dk_at dksX0_tells_1 13 rfl rfl)
theorem dX0_tells_38 : decode cX0_tells 38 = .ok (.aload_n 0, 1) := dk_42 (dk_at dksX0_tells_1 14 rfl rfl)
theorem dX0_tells_39 : decode cX0_tells 39 = .ok (.getfield 315, 3) := dk_180 1 59 (dk_at dksX0_tells_1 15 rfl rfl)
theorem dX0_tells_42 : decode cX0_tells 42 = .ok (.iload_n 1, 1) := dk_27 (dk_at dksX0_tells_1 18 rfl rfl)
theorem dX0_tells_43 : decode cX0_tells 43 = .ok (.aaload, 1) := dk_50 (dk_at dksX0_tells_1 19 rfl rfl)
theorem dX0_tells_44 : decode cX0_tells 44 = .ok (.getfield 479, 3) := dk_180 1 223 (dk_at dksX0_tells_1 20 rfl rfl)
theorem dX0_tells_47 : decode cX0_tells 47 = .ok (.astore 5, 2) := dk_58 5 (dk_at dksX0_tells_2 0 rfl rfl)
theorem dX0_tells_49 : decode cX0_tells 49 = .ok (.aload 5, 2) := dk_25 5 (dk_at dksX0_tells_2 2 rfl rfl)
theorem dX0_tells_51 : decode cX0_tells 51 = .ok (.ifnonnull 6, 3) := dk_199 0 6 (dk_at dksX0_tells_2 4 rfl rfl)
theorem dX0_tells_54 : decode cX0_tells 54 = .ok (.bipush (-11), 2) := dk_16 245 (dk_at dksX0_tells_2 7 rfl rfl)
theorem dX0_tells_56 : decode cX0_tells 56 = .ok (.ireturn, 1) := dk_172 (dk_at dksX0_tells_2 9 rfl rfl)
theorem dX0_tells_57 : decode cX0_tells 57 = .ok (.aload 5, 2) := dk_25 5 (dk_at dksX0_tells_2 10 rfl rfl)
theorem dX0_tells_59 : decode cX0_tells 59 = .ok (.aload 5, 2) := dk_25 5 (dk_at dksX0_tells_2 12 rfl rfl)
theorem dX0_tells_61 : decode cX0_tells 61 = .ok (.invokestatic 444, 3) := dk_184 1 188 (dk_at dksX0_tells_2 14 rfl rfl)
theorem dX0_tells_64 : decode cX0_tells 64 = .ok (.invokestatic 448, 3) := dk_184 1 192 (dk_at dksX0_tells_2 17 rfl rfl)
theorem dX0_tells_67 : decode cX0_tells 67 = .ok (.bipush 20, 2) := dk_16 20 (dk_at dksX0_tells_2 20 rfl rfl)
theorem dX0_tells_69 : decode cX0_tells 69 = .ok (.if_icmp .le 6, 3) := dk_164 0 6 (dk_at dksX0_tells_3 0 rfl rfl)
theorem dX0_tells_72 : decode cX0_tells 72 = .ok (.bipush (-2), 2) := dk_16 254 (dk_at dksX0_tells_3 3 rfl rfl)
theorem dX0_tells_74 : decode cX0_tells 74 = .ok (.ireturn, 1) := dk_172 (dk_at dksX0_tells_3 5 rfl rfl)
theorem dX0_tells_75 : decode cX0_tells 75 = .ok (.iload 4, 2) := dk_21 4 (dk_at dksX0_tells_3 6 rfl rfl)
theorem dX0_tells_77 : decode cX0_tells 77 = .ok (.tableswitch 112 0 5 #[39, 55, 67, 76, 88, 100], 39) := by decide +kernel
theorem dX0_tells_116 : decode cX0_tells 116 = .ok (.aload_n 0, 1) := dk_42 (dk_at dksX0_tells_5 0 rfl rfl)
theorem dX0_tells_117 : decode cX0_tells 117 = .ok (.aload 5, 2) := dk_25 5 (dk_at dksX0_tells_5 1 rfl rfl)
theorem dX0_tells_119 : decode cX0_tells 119 = .ok (.iload_n 2, 1) := dk_28 (dk_at dksX0_tells_5 3 rfl rfl)
theorem dX0_tells_120 : decode cX0_tells 120 = .ok (.bipush 10, 2) := dk_16 10 (dk_at dksX0_tells_5 4 rfl rfl)
theorem dX0_tells_122 : decode cX0_tells 122 = .ok (.idiv, 1) := dk_108 (dk_at dksX0_tells_5 6 rfl rfl)
theorem dX0_tells_123 : decode cX0_tells 123 = .ok (.iload_n 2, 1) := dk_28 (dk_at dksX0_tells_5 7 rfl rfl)
theorem dX0_tells_124 : decode cX0_tells 124 = .ok (.bipush 10, 2) := dk_16 10 (dk_at dksX0_tells_5 8 rfl rfl)
theorem dX0_tells_126 : decode cX0_tells 126 = .ok (.irem, 1) := dk_112 (dk_at dksX0_tells_5 10 rfl rfl)
theorem dX0_tells_127 : decode cX0_tells 127 = .ok (.iload_n 3, 1) := dk_29 (dk_at dksX0_tells_5 11 rfl rfl)
theorem dX0_tells_128 : decode cX0_tells 128 = .ok (.invokevirtual 456, 3) := dk_182 1 200 (dk_at dksX0_tells_5 12 rfl rfl)
theorem dX0_tells_131 : decode cX0_tells 131 = .ok (.ireturn, 1) := dk_172 (dk_at dksX0_tells_5 15 rfl rfl)
theorem dX0_tells_132 : decode cX0_tells 132 = .ok (.aload_n 0, 1) := dk_42 (dk_at dksX0_tells_5 16 rfl rfl)
theorem dX0_tells_133 : decode cX0_tells 133 = .ok (.aload 5, 2) := dk_25 5 (dk_at dksX0_tells_5 17 rfl rfl)
theorem dX0_tells_135 : decode cX0_tells 135 = .ok (.iload_n 2, 1) := dk_28 (dk_at dksX0_tells_5 19 rfl rfl)
theorem dX0_tells_136 : decode cX0_tells 136 = .ok (.bipush 10, 2) := dk_16 10 (dk_at dksX0_tells_5 20 rfl rfl)
theorem dX0_tells_138 : decode cX0_tells 138 = .ok (.idiv, 1) := dk_108 (dk_at dksX0_tells_5 22 rfl rfl)
theorem dX0_tells_139 : decode cX0_tells 139 = .ok (.iload_n 3, 1) := dk_29 (dk_at dksX0_tells_5 23 rfl rfl)
theorem dX0_tells_140 : decode cX0_tells 140 = .ok (.invokevirtual 483, 3) := dk_182 1 227 (dk_at dksX0_tells_6 0 rfl rfl)
theorem dX0_tells_143 : decode cX0_tells 143 = .ok (.ireturn, 1) := dk_172 (dk_at dksX0_tells_6 3 rfl rfl)
theorem dX0_tells_144 : decode cX0_tells 144 = .ok (.aload_n 0, 1) := dk_42 (dk_at dksX0_tells_6 4 rfl rfl)
theorem dX0_tells_145 : decode cX0_tells 145 = .ok (.aload 5, 2) := dk_25 5 (dk_at dksX0_tells_6 5 rfl rfl)
theorem dX0_tells_147 : decode cX0_tells 147 = .ok (.iload_n 2, 1) := dk_28 (dk_at dksX0_tells_6 7 rfl rfl)
theorem dX0_tells_148 : decode cX0_tells 148 = .ok (.iload_n 3, 1) := dk_29 (dk_at dksX0_tells_6 8 rfl rfl)
theorem dX0_tells_149 : decode cX0_tells 149 = .ok (.invokevirtual 486, 3) := dk_182 1 230 (dk_at dksX0_tells_6 9 rfl rfl)
theorem dX0_tells_152 : decode cX0_tells 152 = .ok (.ireturn, 1) := dk_172 (dk_at dksX0_tells_6 12 rfl rfl)
theorem dX0_tells_153 : decode cX0_tells 153 = .ok (.aload_n 0, 1) := dk_42 (dk_at dksX0_tells_6 13 rfl rfl)
theorem dX0_tells_154 : decode cX0_tells 154 = .ok (.aload 5, 2) := dk_25 5 (dk_at dksX0_tells_6 14 rfl rfl)
theorem dX0_tells_156 : decode cX0_tells 156 = .ok (.iload_n 2, 1) := dk_28 (dk_at dksX0_tells_6 16 rfl rfl)
theorem dX0_tells_157 : decode cX0_tells 157 = .ok (.iload_n 3, 1) := dk_29 (dk_at dksX0_tells_6 17 rfl rfl)
theorem dX0_tells_158 : decode cX0_tells 158 = .ok (.iconst 1, 1) := dk_4 (dk_at dksX0_tells_6 18 rfl rfl)
theorem dX0_tells_159 : decode cX0_tells 159 = .ok (.bipush 10, 2) := dk_16 10 (dk_at dksX0_tells_6 19 rfl rfl)
theorem dX0_tells_161 : decode cX0_tells 161 = .ok (.invokevirtual 489, 3) := dk_182 1 233 (dk_at dksX0_tells_6 21 rfl rfl)
theorem dX0_tells_164 : decode cX0_tells 164 = .ok (.ireturn, 1) := dk_172 (dk_at dksX0_tells_7 0 rfl rfl)
theorem dX0_tells_165 : decode cX0_tells 165 = .ok (.aload_n 0, 1) := dk_42 (dk_at dksX0_tells_7 1 rfl rfl)
theorem dX0_tells_166 : decode cX0_tells 166 = .ok (.aload 5, 2) := dk_25 5 (dk_at dksX0_tells_7 2 rfl rfl)
theorem dX0_tells_168 : decode cX0_tells 168 = .ok (.iload_n 2, 1) := dk_28 (dk_at dksX0_tells_7 4 rfl rfl)
theorem dX0_tells_169 : decode cX0_tells 169 = .ok (.iload_n 3, 1) := dk_29 (dk_at dksX0_tells_7 5 rfl rfl)
theorem dX0_tells_170 : decode cX0_tells 170 = .ok (.iconst 2, 1) := dk_5 (dk_at dksX0_tells_7 6 rfl rfl)
theorem dX0_tells_171 : decode cX0_tells 171 = .ok (.bipush 8, 2) := dk_16 8 (dk_at dksX0_tells_7 7 rfl rfl)
theorem dX0_tells_173 : decode cX0_tells 173 = .ok (.invokevirtual 489, 3) := dk_182 1 233 (dk_at dksX0_tells_7 9 rfl rfl)
theorem dX0_tells_176 : decode cX0_tells 176 = .ok (.ireturn, 1) := dk_172 (dk_at dksX0_tells_7 12 rfl rfl)
theorem dX0_tells_177 : decode cX0_tells 177 = .ok (.aload_n 0, 1) := dk_42 (dk_at dksX0_tells_7 13 rfl rfl)
theorem dX0_tells_178 : decode cX0_tells 178 = .ok (.aload 5, 2) := dk_25 5 (dk_at dksX0_tells_7 14 rfl rfl)
theorem dX0_tells_180 : decode cX0_tells 180 = .ok (.iload_n 2, 1) := dk_28 (dk_at dksX0_tells_7 16 rfl rfl)
theorem dX0_tells_181 : decode cX0_tells 181 = .ok (.iload_n 3, 1) := dk_29 (dk_at dksX0_tells_7 17 rfl rfl)
theorem dX0_tells_182 : decode cX0_tells 182 = .ok (.iconst 0, 1) := dk_3 (dk_at dksX0_tells_7 18 rfl rfl)
theorem dX0_tells_183 : decode cX0_tells 183 = .ok (.bipush 24, 2) := dk_16 24 (dk_at dksX0_tells_7 19 rfl rfl)
theorem dX0_tells_185 : decode cX0_tells 185 = .ok (.invokevirtual 489, 3) := dk_182 1 233 (dk_at dksX0_tells_7 21 rfl rfl)
theorem dX0_tells_188 : decode cX0_tells 188 = .ok (.ireturn, 1) := dk_172 (dk_at dksX0_tells_8 0 rfl rfl)
theorem dX0_tells_189 : decode cX0_tells 189 = .ok (.aload_n 0, 1) := dk_42 (dk_at dksX0_tells_8 1 rfl rfl)
theorem dX0_tells_190 : decode cX0_tells 190 = .ok (.aload 5, 2) := dk_25 5 (dk_at dksX0_tells_8 2 rfl rfl)
theorem dX0_tells_192 : decode cX0_tells 192 = .ok (.iload_n 2, 1) := dk_28 (dk_at dksX0_tells_8 4 rfl rfl)
theorem dX0_tells_193 : decode cX0_tells 193 = .ok (.iload_n 3, 1) := dk_29 (dk_at dksX0_tells_8 5 rfl rfl)
theorem dX0_tells_194 : decode cX0_tells 194 = .ok (.invokevirtual 493, 3) := dk_182 1 237 (dk_at dksX0_tells_8 6 rfl rfl)
theorem dX0_tells_197 : decode cX0_tells 197 = .ok (.ireturn, 1) := dk_172 (dk_at dksX0_tells_8 9 rfl rfl)
abbrev cX0_isSheet : ByteArray := prog_1_method_84_code
def yX0_isSheet : MethodName := ⟨RX0, "isSheet", "(I)Z"⟩
def dkwX0_isSheet_0 : List UInt8 := [26, 133, 9, 20, 2, 20, 184, 0, 14, 172]
abbrev dktX0_isSheet_0 : List UInt8 := dkwX0_isSheet_0 ++ []
theorem dksX0_isSheet_0 : cX0_isSheet.data.toList.drop 0 = dktX0_isSheet_0 := by decide +kernel
theorem dX0_isSheet_0 : decode cX0_isSheet 0 = .ok (.iload_n 0, 1) := dk_26 (dk_at dksX0_isSheet_0 0 rfl rfl)
theorem dX0_isSheet_1 : decode cX0_isSheet 1 = .ok (.i2l, 1) := dk_133 (dk_at dksX0_isSheet_0 1 rfl rfl)
theorem dX0_isSheet_2 : decode cX0_isSheet 2 = .ok (.lconst 0, 1) := dk_9 (dk_at dksX0_isSheet_0 2 rfl rfl)
theorem dX0_isSheet_3 : decode cX0_isSheet 3 = .ok (.ldc2_w 532, 3) := dk_20 2 20 (dk_at dksX0_isSheet_0 3 rfl rfl)
theorem dX0_isSheet_6 : decode cX0_isSheet 6 = .ok (.invokestatic 14, 3) := dk_184 0 14 (dk_at dksX0_isSheet_0 6 rfl rfl)
theorem dX0_isSheet_9 : decode cX0_isSheet 9 = .ok (.ireturn, 1) := dk_172 (dk_at dksX0_isSheet_0 9 rfl rfl)
abbrev cX0_areTwo_2 : ByteArray := prog_1_method_7_code
def yX0_areTwo_2 : MethodName := ⟨RX0, "areTwo", "(I)Z"⟩
def dkwX0_areTwo_2_1 : List UInt8 := [153, 0, 7, 4, 167, 0, 4, 3, 172]
abbrev dktX0_areTwo_2_1 : List UInt8 := dkwX0_areTwo_2_1 ++ []
def dkwX0_areTwo_2_0 : List UInt8 := [27, 133, 9, 20, 0, 26, 184, 0, 14, 153, 0, 22, 42, 27, 16, 10, 108, 27, 16, 10, 112, 182, 0, 28]
abbrev dktX0_areTwo_2_0 : List UInt8 := dkwX0_areTwo_2_0 ++ dktX0_areTwo_2_1
theorem dksX0_areTwo_2_0 : cX0_areTwo_2.data.toList.drop 0 = dktX0_areTwo_2_0 := by decide +kernel
theorem dksX0_areTwo_2_1 : cX0_areTwo_2.data.toList.drop 24 = dktX0_areTwo_2_1 := dk_seg dksX0_areTwo_2_0 24 rfl rfl
theorem dX0_areTwo_2_0 : decode cX0_areTwo_2 0 = .ok (.iload_n 1, 1) := dk_27 (dk_at dksX0_areTwo_2_0 0 rfl rfl)
theorem dX0_areTwo_2_1 : decode cX0_areTwo_2 1 = .ok (.i2l, 1) := dk_133 (dk_at dksX0_areTwo_2_0 1 rfl rfl)
theorem dX0_areTwo_2_2 : decode cX0_areTwo_2 2 = .ok (.lconst 0, 1) := dk_9 (dk_at dksX0_areTwo_2_0 2 rfl rfl)
theorem dX0_areTwo_2_3 : decode cX0_areTwo_2 3 = .ok (.ldc2_w 26, 3) := dk_20 0 26 (dk_at dksX0_areTwo_2_0 3 rfl rfl)
theorem dX0_areTwo_2_6 : decode cX0_areTwo_2 6 = .ok (.invokestatic 14, 3) := dk_184 0 14 (dk_at dksX0_areTwo_2_0 6 rfl rfl)
theorem dX0_areTwo_2_9 : decode cX0_areTwo_2 9 = .ok (.ifCond .eq 22, 3) := dk_153 0 22 (dk_at dksX0_areTwo_2_0 9 rfl rfl)
theorem dX0_areTwo_2_12 : decode cX0_areTwo_2 12 = .ok (.aload_n 0, 1) := dk_42 (dk_at dksX0_areTwo_2_0 12 rfl rfl)
theorem dX0_areTwo_2_13 : decode cX0_areTwo_2 13 = .ok (.iload_n 1, 1) := dk_27 (dk_at dksX0_areTwo_2_0 13 rfl rfl)
theorem dX0_areTwo_2_14 : decode cX0_areTwo_2 14 = .ok (.bipush 10, 2) := dk_16 10 (dk_at dksX0_areTwo_2_0 14 rfl rfl)
theorem dX0_areTwo_2_16 : decode cX0_areTwo_2 16 = .ok (.idiv, 1) := dk_108 (dk_at dksX0_areTwo_2_0 16 rfl rfl)
theorem dX0_areTwo_2_17 : decode cX0_areTwo_2 17 = .ok (.iload_n 1, 1) := dk_27 (dk_at dksX0_areTwo_2_0 17 rfl rfl)
theorem dX0_areTwo_2_18 : decode cX0_areTwo_2 18 = .ok (.bipush 10, 2) := dk_16 10 (dk_at dksX0_areTwo_2_0 18 rfl rfl)
theorem dX0_areTwo_2_20 : decode cX0_areTwo_2 20 = .ok (.irem, 1) := dk_112 (dk_at dksX0_areTwo_2_0 20 rfl rfl)
theorem dX0_areTwo_2_21 : decode cX0_areTwo_2 21 = .ok (.invokevirtual 28, 3) := dk_182 0 28 (dk_at dksX0_areTwo_2_0 21 rfl rfl)
theorem dX0_areTwo_2_24 : decode cX0_areTwo_2 24 = .ok (.ifCond .eq 7, 3) := dk_153 0 7 (dk_at dksX0_areTwo_2_1 0 rfl rfl)
theorem dX0_areTwo_2_27 : decode cX0_areTwo_2 27 = .ok (.iconst 1, 1) := dk_4 (dk_at dksX0_areTwo_2_1 3 rfl rfl)
theorem dX0_areTwo_2_28 : decode cX0_areTwo_2 28 = .ok (.goto 4, 3) := dk_167 0 4 (dk_at dksX0_areTwo_2_1 4 rfl rfl)
theorem dX0_areTwo_2_31 : decode cX0_areTwo_2 31 = .ok (.iconst 0, 1) := dk_3 (dk_at dksX0_areTwo_2_1 7 rfl rfl)
theorem dX0_areTwo_2_32 : decode cX0_areTwo_2 32 = .ok (.ireturn, 1) := dk_172 (dk_at dksX0_areTwo_2_1 8 rfl rfl)
abbrev cX0_sortOf : ByteArray := prog_1_method_92_code
def yX0_sortOf : MethodName := ⟨RX0, "sortOf", "(Ljava/lang/Object;)I"⟩
def dkwX0_sortOf_0 : List UInt8 := [42, 193, 2, 32, 153, 0, 7, 3, 167, 0, 15, 42, 193, 2, 36, 153, 0, 7, 4, 167, 0, 4, 5, 172]
abbrev dktX0_sortOf_0 : List UInt8 := dkwX0_sortOf_0 ++ []
theorem dksX0_sortOf_0 : cX0_sortOf.data.toList.drop 0 = dktX0_sortOf_0 := by decide +kernel
theorem dX0_sortOf_0 : decode cX0_sortOf 0 = .ok (.aload_n 0, 1) := dk_42 (dk_at dksX0_sortOf_0 0 rfl rfl)
theorem dX0_sortOf_1 : decode cX0_sortOf 1 = .ok (.instanceof 544, 3) := dk_193 2 32 (dk_at dksX0_sortOf_0 1 rfl rfl)
theorem dX0_sortOf_4 : decode cX0_sortOf 4 = .ok (.ifCond .eq 7, 3) := dk_153 0 7 (dk_at dksX0_sortOf_0 4 rfl rfl)
theorem dX0_sortOf_7 : decode cX0_sortOf 7 = .ok (.iconst 0, 1) := dk_3 (dk_at dksX0_sortOf_0 7 rfl rfl)
theorem dX0_sortOf_8 : decode cX0_sortOf 8 = .ok (.goto 15, 3) := dk_167 0 15 (dk_at dksX0_sortOf_0 8 rfl rfl)
theorem dX0_sortOf_11 : decode cX0_sortOf 11 = .ok (.aload_n 0, 1) := dk_42 (dk_at dksX0_sortOf_0 11 rfl rfl)
theorem dX0_sortOf_12 : decode cX0_sortOf 12 = .ok (.instanceof 548, 3) := dk_193 2 36 (dk_at dksX0_sortOf_0 12 rfl rfl)
theorem dX0_sortOf_15 : decode cX0_sortOf 15 = .ok (.ifCond .eq 7, 3) := dk_153 0 7 (dk_at dksX0_sortOf_0 15 rfl rfl)
theorem dX0_sortOf_18 : decode cX0_sortOf 18 = .ok (.iconst 1, 1) := dk_4 (dk_at dksX0_sortOf_0 18 rfl rfl)
theorem dX0_sortOf_19 : decode cX0_sortOf 19 = .ok (.goto 4, 3) := dk_167 0 4 (dk_at dksX0_sortOf_0 19 rfl rfl)
theorem dX0_sortOf_22 : decode cX0_sortOf 22 = .ok (.iconst 2, 1) := dk_5 (dk_at dksX0_sortOf_0 22 rfl rfl)
theorem dX0_sortOf_23 : decode cX0_sortOf 23 = .ok (.ireturn, 1) := dk_172 (dk_at dksX0_sortOf_0 23 rfl rfl)
abbrev cX0_lengthOf : ByteArray := prog_1_method_90_code
def yX0_lengthOf : MethodName := ⟨RX0, "lengthOf", "(Ljava/lang/Object;I)I"⟩
def dkwX0_lengthOf_2 : List UInt8 := [42, 192, 2, 32, 190, 172, 42, 192, 2, 36, 190, 172, 42, 192, 2, 38, 190, 172]
abbrev dktX0_lengthOf_2 : List UInt8 := dkwX0_lengthOf_2 ++ []
def dkwX0_lengthOf_1 : List UInt8 := [171, 0, 0, 0, 0, 0, 39, 0, 0, 0, 2, 0, 0, 0, 0, 0, 0, 0, 27, 0, 0, 0, 1, 0, 0, 0, 33]
abbrev dktX0_lengthOf_1 : List UInt8 := dkwX0_lengthOf_1 ++ dktX0_lengthOf_2
def dkwX0_lengthOf_0 : List UInt8 := [27]
abbrev dktX0_lengthOf_0 : List UInt8 := dkwX0_lengthOf_0 ++ dktX0_lengthOf_1
theorem dksX0_lengthOf_0 : cX0_lengthOf.data.toList.drop 0 = dktX0_lengthOf_0 := by decide +kernel
theorem dksX0_lengthOf_1 : cX0_lengthOf.data.toList.drop 1 = dktX0_lengthOf_1 := dk_seg dksX0_lengthOf_0 1 rfl rfl
theorem dksX0_lengthOf_2 : cX0_lengthOf.data.toList.drop 28 = dktX0_lengthOf_2 := dk_seg dksX0_lengthOf_1 27 rfl rfl
theorem dX0_lengthOf_0 : decode cX0_lengthOf 0 = .ok (.iload_n 1, 1) := dk_27 (dk_at dksX0_lengthOf_0 0 rfl rfl)
theorem dX0_lengthOf_1 : decode cX0_lengthOf 1 = .ok (.lookupswitch 39 #[(0, 27), (1, 33)], 27) := by decide +kernel
theorem dX0_lengthOf_28 : decode cX0_lengthOf 28 = .ok (.aload_n 0, 1) := dk_42 (dk_at dksX0_lengthOf_2 0 rfl rfl)
theorem dX0_lengthOf_29 : decode cX0_lengthOf 29 = .ok (.checkcast 544, 3) := dk_192 2 32 (dk_at dksX0_lengthOf_2 1 rfl rfl)
theorem dX0_lengthOf_32 : decode cX0_lengthOf 32 = .ok (.arraylength, 1) := dk_190 (dk_at dksX0_lengthOf_2 4 rfl rfl)
theorem dX0_lengthOf_33 : decode cX0_lengthOf 33 = .ok (.ireturn, 1) := dk_172 (dk_at dksX0_lengthOf_2 5 rfl rfl)
theorem dX0_lengthOf_34 : decode cX0_lengthOf 34 = .ok (.aload_n 0, 1) := dk_42 (dk_at dksX0_lengthOf_2 6 rfl rfl)
theorem dX0_lengthOf_35 : decode cX0_lengthOf 35 = .ok (.checkcast 548, 3) := dk_192 2 36 (dk_at dksX0_lengthOf_2 7 rfl rfl)
theorem dX0_lengthOf_38 : decode cX0_lengthOf 38 = .ok (.arraylength, 1) := dk_190 (dk_at dksX0_lengthOf_2 10 rfl rfl)
theorem dX0_lengthOf_39 : decode cX0_lengthOf 39 = .ok (.ireturn, 1) := dk_172 (dk_at dksX0_lengthOf_2 11 rfl rfl)
theorem dX0_lengthOf_40 : decode cX0_lengthOf 40 = .ok (.aload_n 0, 1) := dk_42 (dk_at dksX0_lengthOf_2 12 rfl rfl)
theorem dX0_lengthOf_41 : decode cX0_lengthOf 41 = .ok (.checkcast 550, 3) := dk_192 2 38 (dk_at dksX0_lengthOf_2 13 rfl rfl)
theorem dX0_lengthOf_44 : decode cX0_lengthOf 44 = .ok (.arraylength, 1) := dk_190 (dk_at dksX0_lengthOf_2 16 rfl rfl)
theorem dX0_lengthOf_45 : decode cX0_lengthOf 45 = .ok (.ireturn, 1) := dk_172 (dk_at dksX0_lengthOf_2 17 rfl rfl)
abbrev cX0_otherwise : ByteArray := prog_1_method_65_code
def yX0_otherwise : MethodName := ⟨RX0, "otherwise", "(Ljava/lang/Object;III)I"⟩
def dkwX0_otherwise_2 : List UInt8 := [132, 5, 1, 167, 255, 217, 2, 172]
abbrev dktX0_otherwise_2 : List UInt8 := dkwX0_otherwise_2 ++ []
def dkwX0_otherwise_1 : List UInt8 := [43, 43, 184, 1, 188, 21, 5, 184, 1, 196, 42, 180, 1, 40, 21, 5, 46, 159, 0, 6, 21, 5, 172]
abbrev dktX0_otherwise_1 : List UInt8 := dkwX0_otherwise_1 ++ dktX0_otherwise_2
def dkwX0_otherwise_0 : List UInt8 := [42, 28, 29, 21, 4, 182, 1, 151, 3, 54, 5, 21, 5, 43, 43, 184, 1, 188, 184, 1, 192, 162, 0, 32]
abbrev dktX0_otherwise_0 : List UInt8 := dkwX0_otherwise_0 ++ dktX0_otherwise_1
theorem dksX0_otherwise_0 : cX0_otherwise.data.toList.drop 0 = dktX0_otherwise_0 := by decide +kernel
theorem dksX0_otherwise_1 : cX0_otherwise.data.toList.drop 24 = dktX0_otherwise_1 := dk_seg dksX0_otherwise_0 24 rfl rfl
theorem dksX0_otherwise_2 : cX0_otherwise.data.toList.drop 47 = dktX0_otherwise_2 := dk_seg dksX0_otherwise_1 23 rfl rfl
theorem dX0_otherwise_0 : decode cX0_otherwise 0 = .ok (.aload_n 0, 1) := dk_42 (dk_at dksX0_otherwise_0 0 rfl rfl)
theorem dX0_otherwise_1 : decode cX0_otherwise 1 = .ok (.iload_n 2, 1) := dk_28 (dk_at dksX0_otherwise_0 1 rfl rfl)
theorem dX0_otherwise_2 : decode cX0_otherwise 2 = .ok (.iload_n 3, 1) := dk_29 (dk_at dksX0_otherwise_0 2 rfl rfl)
theorem dX0_otherwise_3 : decode cX0_otherwise 3 = .ok (.iload 4, 2) := dk_21 4 (dk_at dksX0_otherwise_0 3 rfl rfl)
theorem dX0_otherwise_5 : decode cX0_otherwise 5 = .ok (.invokevirtual 407, 3) := dk_182 1 151 (dk_at dksX0_otherwise_0 5 rfl rfl)
theorem dX0_otherwise_8 : decode cX0_otherwise 8 = .ok (.iconst 0, 1) := dk_3 (dk_at dksX0_otherwise_0 8 rfl rfl)
theorem dX0_otherwise_9 : decode cX0_otherwise 9 = .ok (.istore 5, 2) := dk_54 5 (dk_at dksX0_otherwise_0 9 rfl rfl)
theorem dX0_otherwise_11 : decode cX0_otherwise 11 = .ok (.iload 5, 2) := dk_21 5 (dk_at dksX0_otherwise_0 11 rfl rfl)
theorem dX0_otherwise_13 : decode cX0_otherwise 13 = .ok (.aload_n 1, 1) := dk_43 (dk_at dksX0_otherwise_0 13 rfl rfl)
theorem dX0_otherwise_14 : decode cX0_otherwise 14 = .ok (.aload_n 1, 1) := dk_43 (dk_at dksX0_otherwise_0 14 rfl rfl)
theorem dX0_otherwise_15 : decode cX0_otherwise 15 = .ok (.invokestatic 444, 3) := dk_184 1 188 (dk_at dksX0_otherwise_0 15 rfl rfl)
theorem dX0_otherwise_18 : decode cX0_otherwise 18 = .ok (.invokestatic 448, 3) := dk_184 1 192 (dk_at dksX0_otherwise_0 18 rfl rfl)
theorem dX0_otherwise_21 : decode cX0_otherwise 21 = .ok (.if_icmp .ge 32, 3) := dk_162 0 32 (dk_at dksX0_otherwise_0 21 rfl rfl)
theorem dX0_otherwise_24 : decode cX0_otherwise 24 = .ok (.aload_n 1, 1) := dk_43 (dk_at dksX0_otherwise_1 0 rfl rfl)
theorem dX0_otherwise_25 : decode cX0_otherwise 25 = .ok (.aload_n 1, 1) := dk_43 (dk_at dksX0_otherwise_1 1 rfl rfl)
theorem dX0_otherwise_26 : decode cX0_otherwise 26 = .ok (.invokestatic 444, 3) := dk_184 1 188 (dk_at dksX0_otherwise_1 2 rfl rfl)
theorem dX0_otherwise_29 : decode cX0_otherwise 29 = .ok (.iload 5, 2) := dk_21 5 (dk_at dksX0_otherwise_1 5 rfl rfl)
theorem dX0_otherwise_31 : decode cX0_otherwise 31 = .ok (.invokestatic 452, 3) := dk_184 1 196 (dk_at dksX0_otherwise_1 7 rfl rfl)
theorem dX0_otherwise_34 : decode cX0_otherwise 34 = .ok (.aload_n 0, 1) := dk_42 (dk_at dksX0_otherwise_1 10 rfl rfl)
theorem dX0_otherwise_35 : decode cX0_otherwise 35 = .ok (.getfield 296, 3) := dk_180 1 40 (dk_at dksX0_otherwise_1 11 rfl rfl)
theorem dX0_otherwise_38 : decode cX0_otherwise 38 = .ok (.iload 5, 2) := dk_21 5 (dk_at dksX0_otherwise_1 14 rfl rfl)
theorem dX0_otherwise_40 : decode cX0_otherwise 40 = .ok (.iaload, 1) := dk_46 (dk_at dksX0_otherwise_1 16 rfl rfl)
theorem dX0_otherwise_41 : decode cX0_otherwise 41 = .ok (.if_icmp .eq 6, 3) := dk_159 0 6 (dk_at dksX0_otherwise_1 17 rfl rfl)
theorem dX0_otherwise_44 : decode cX0_otherwise 44 = .ok (.iload 5, 2) := dk_21 5 (dk_at dksX0_otherwise_1 20 rfl rfl)
theorem dX0_otherwise_46 : decode cX0_otherwise 46 = .ok (.ireturn, 1) := dk_172 (dk_at dksX0_otherwise_1 22 rfl rfl)
theorem dX0_otherwise_47 : decode cX0_otherwise 47 = .ok (.iinc 5 1, 3) := dk_132 5 1 (dk_at dksX0_otherwise_2 0 rfl rfl)
theorem dX0_otherwise_50 : decode cX0_otherwise 50 = .ok (.goto (-39), 3) := dk_167 255 217 (dk_at dksX0_otherwise_2 3 rfl rfl)
theorem dX0_otherwise_53 : decode cX0_otherwise 53 = .ok (.iconst (-1), 1) := dk_2 (dk_at dksX0_otherwise_2 6 rfl rfl)
theorem dX0_otherwise_54 : decode cX0_otherwise 54 = .ok (.ireturn, 1) := dk_172 (dk_at dksX0_otherwise_2 7 rfl rfl)
abbrev cX0_item : ByteArray := prog_1_method_89_code
def yX0_item : MethodName := ⟨RX0, "item", "(Ljava/lang/Object;II)I"⟩
def dkwX0_item_4 : List UInt8 := [46, 172]
abbrev dktX0_item_4 : List UInt8 := dkwX0_item_4 ++ []
def dkwX0_item_3 : List UInt8 := [184, 2, 33, 42, 192, 2, 36, 28, 53, 172, 28, 42, 192, 2, 38, 190, 184, 2, 33, 42, 192, 2, 38, 28]
abbrev dktX0_item_3 : List UInt8 := dkwX0_item_3 ++ dktX0_item_4
def dkwX0_item_2 : List UInt8 := [28, 42, 192, 2, 32, 190, 184, 2, 33, 42, 192, 2, 32, 28, 51, 172, 28, 42, 192, 2, 36, 190]
abbrev dktX0_item_2 : List UInt8 := dkwX0_item_2 ++ dktX0_item_3
def dkwX0_item_1 : List UInt8 := [171, 0, 0, 0, 0, 0, 59, 0, 0, 0, 2, 0, 0, 0, 0, 0, 0, 0, 27, 0, 0, 0, 1, 0, 0, 0, 43]
abbrev dktX0_item_1 : List UInt8 := dkwX0_item_1 ++ dktX0_item_2
def dkwX0_item_0 : List UInt8 := [27]
abbrev dktX0_item_0 : List UInt8 := dkwX0_item_0 ++ dktX0_item_1
theorem dksX0_item_0 : cX0_item.data.toList.drop 0 = dktX0_item_0 := by decide +kernel
theorem dksX0_item_1 : cX0_item.data.toList.drop 1 = dktX0_item_1 := dk_seg dksX0_item_0 1 rfl rfl
theorem dksX0_item_2 : cX0_item.data.toList.drop 28 = dktX0_item_2 := dk_seg dksX0_item_1 27 rfl rfl
theorem dksX0_item_3 : cX0_item.data.toList.drop 50 = dktX0_item_3 := dk_seg dksX0_item_2 22 rfl rfl
theorem dksX0_item_4 : cX0_item.data.toList.drop 74 = dktX0_item_4 := dk_seg dksX0_item_3 24 rfl rfl
theorem dX0_item_0 : decode cX0_item 0 = .ok (.iload_n 1, 1) := dk_27 (dk_at dksX0_item_0 0 rfl rfl)
theorem dX0_item_1 : decode cX0_item 1 = .ok (.lookupswitch 59 #[(0, 27), (1, 43)], 27) := by decide +kernel
theorem dX0_item_28 : decode cX0_item 28 = .ok (.iload_n 2, 1) := dk_28 (dk_at dksX0_item_2 0 rfl rfl)
theorem dX0_item_29 : decode cX0_item 29 = .ok (.aload_n 0, 1) := dk_42 (dk_at dksX0_item_2 1 rfl rfl)
theorem dX0_item_30 : decode cX0_item 30 = .ok (.checkcast 544, 3) := dk_192 2 32 (dk_at dksX0_item_2 2 rfl rfl)
theorem dX0_item_33 : decode cX0_item 33 = .ok (.arraylength, 1) := dk_190 (dk_at dksX0_item_2 5 rfl rfl)
theorem dX0_item_34 : decode cX0_item 34 = .ok (.invokestatic 545, 3) := dk_184 2 33 (dk_at dksX0_item_2 6 rfl rfl)
theorem dX0_item_37 : decode cX0_item 37 = .ok (.aload_n 0, 1) := dk_42 (dk_at dksX0_item_2 9 rfl rfl)
theorem dX0_item_38 : decode cX0_item 38 = .ok (.checkcast 544, 3) := dk_192 2 32 (dk_at dksX0_item_2 10 rfl rfl)
theorem dX0_item_41 : decode cX0_item 41 = .ok (.iload_n 2, 1) := dk_28 (dk_at dksX0_item_2 13 rfl rfl)
theorem dX0_item_42 : decode cX0_item 42 = .ok (.baload, 1) := dk_51 (dk_at dksX0_item_2 14 rfl rfl)
theorem dX0_item_43 : decode cX0_item 43 = .ok (.ireturn, 1) := dk_172 (dk_at dksX0_item_2 15 rfl rfl)
theorem dX0_item_44 : decode cX0_item 44 = .ok (.iload_n 2, 1) := dk_28 (dk_at dksX0_item_2 16 rfl rfl)
theorem dX0_item_45 : decode cX0_item 45 = .ok (.aload_n 0, 1) := dk_42 (dk_at dksX0_item_2 17 rfl rfl)
theorem dX0_item_46 : decode cX0_item 46 = .ok (.checkcast 548, 3) := dk_192 2 36 (dk_at dksX0_item_2 18 rfl rfl)
theorem dX0_item_49 : decode cX0_item 49 = .ok (.arraylength, 1) := dk_190 (dk_at dksX0_item_2 21 rfl rfl)
theorem dX0_item_50 : decode cX0_item 50 = .ok (.invokestatic 545, 3) := dk_184 2 33 (dk_at dksX0_item_3 0 rfl rfl)
theorem dX0_item_53 : decode cX0_item 53 = .ok (.aload_n 0, 1) := dk_42 (dk_at dksX0_item_3 3 rfl rfl)
theorem dX0_item_54 : decode cX0_item 54 = .ok (.checkcast 548, 3) := dk_192 2 36 (dk_at dksX0_item_3 4 rfl rfl)
theorem dX0_item_57 : decode cX0_item 57 = .ok (.iload_n 2, 1) := dk_28 (dk_at dksX0_item_3 7 rfl rfl)
theorem dX0_item_58 : decode cX0_item 58 = .ok (.saload, 1) := dk_53 (dk_at dksX0_item_3 8 rfl rfl)
theorem dX0_item_59 : decode cX0_item 59 = .ok (.ireturn, 1) := dk_172 (dk_at dksX0_item_3 9 rfl rfl)
theorem dX0_item_60 : decode cX0_item 60 = .ok (.iload_n 2, 1) := dk_28 (dk_at dksX0_item_3 10 rfl rfl)
theorem dX0_item_61 : decode cX0_item 61 = .ok (.aload_n 0, 1) := dk_42 (dk_at dksX0_item_3 11 rfl rfl)
theorem dX0_item_62 : decode cX0_item 62 = .ok (.checkcast 550, 3) := dk_192 2 38 (dk_at dksX0_item_3 12 rfl rfl)
theorem dX0_item_65 : decode cX0_item 65 = .ok (.arraylength, 1) := dk_190 (dk_at dksX0_item_3 15 rfl rfl)
theorem dX0_item_66 : decode cX0_item 66 = .ok (.invokestatic 545, 3) := dk_184 2 33 (dk_at dksX0_item_3 16 rfl rfl)
theorem dX0_item_69 : decode cX0_item 69 = .ok (.aload_n 0, 1) := dk_42 (dk_at dksX0_item_3 19 rfl rfl)
theorem dX0_item_70 : decode cX0_item 70 = .ok (.checkcast 550, 3) := dk_192 2 38 (dk_at dksX0_item_3 20 rfl rfl)
theorem dX0_item_73 : decode cX0_item 73 = .ok (.iload_n 2, 1) := dk_28 (dk_at dksX0_item_3 23 rfl rfl)
theorem dX0_item_74 : decode cX0_item 74 = .ok (.iaload, 1) := dk_46 (dk_at dksX0_item_4 0 rfl rfl)
theorem dX0_item_75 : decode cX0_item 75 = .ok (.ireturn, 1) := dk_172 (dk_at dksX0_item_4 1 rfl rfl)
abbrev cX0_asksPlace : ByteArray := prog_1_method_91_code
def yX0_asksPlace : MethodName := ⟨RX0, "asksPlace", "(II)V"⟩
def dkwX0_asksPlace_0 : List UInt8 := [26, 155, 0, 8, 26, 27, 161, 0, 11, 187, 2, 44, 89, 183, 2, 46, 191, 177]
abbrev dktX0_asksPlace_0 : List UInt8 := dkwX0_asksPlace_0 ++ []
theorem dksX0_asksPlace_0 : cX0_asksPlace.data.toList.drop 0 = dktX0_asksPlace_0 := by decide +kernel
theorem dX0_asksPlace_0 : decode cX0_asksPlace 0 = .ok (.iload_n 0, 1) := dk_26 (dk_at dksX0_asksPlace_0 0 rfl rfl)
theorem dX0_asksPlace_1 : decode cX0_asksPlace 1 = .ok (.ifCond .lt 8, 3) := dk_155 0 8 (dk_at dksX0_asksPlace_0 1 rfl rfl)
theorem dX0_asksPlace_4 : decode cX0_asksPlace 4 = .ok (.iload_n 0, 1) := dk_26 (dk_at dksX0_asksPlace_0 4 rfl rfl)
theorem dX0_asksPlace_5 : decode cX0_asksPlace 5 = .ok (.iload_n 1, 1) := dk_27 (dk_at dksX0_asksPlace_0 5 rfl rfl)
theorem dX0_asksPlace_6 : decode cX0_asksPlace 6 = .ok (.if_icmp .lt 11, 3) := dk_161 0 11 (dk_at dksX0_asksPlace_0 6 rfl rfl)
theorem dX0_asksPlace_9 : decode cX0_asksPlace 9 = .ok (.new 556, 3) := dk_187 2 44 (dk_at dksX0_asksPlace_0 9 rfl rfl)
theorem dX0_asksPlace_12 : decode cX0_asksPlace 12 = .ok (.dup, 1) := dk_89 (dk_at dksX0_asksPlace_0 12 rfl rfl)
theorem dX0_asksPlace_13 : decode cX0_asksPlace 13 = .ok (.invokespecial 558, 3) := dk_183 2 46 (dk_at dksX0_asksPlace_0 13 rfl rfl)
theorem dX0_asksPlace_16 : decode cX0_asksPlace 16 = .ok (.athrow, 1) := dk_191 (dk_at dksX0_asksPlace_0 16 rfl rfl)
theorem dX0_asksPlace_17 : decode cX0_asksPlace 17 = .ok (.return_, 1) := dk_177 (dk_at dksX0_asksPlace_0 17 rfl rfl)
abbrev cX0_peopleOf : ByteArray := prog_1_method_66_code
def yX0_peopleOf : MethodName := ⟨RX0, "peopleOf", "(Ljava/lang/Object;II)I"⟩
def dkwX0_peopleOf_2 : List UInt8 := [132, 5, 1, 167, 255, 212, 21, 4, 172]
abbrev dktX0_peopleOf_2 : List UInt8 := dkwX0_peopleOf_2 ++ []
def dkwX0_peopleOf_1 : List UInt8 := [43, 28, 21, 5, 29, 182, 1, 200, 2, 160, 0, 10, 4, 21, 5, 120, 167, 0, 4, 3, 128, 54, 4]
abbrev dktX0_peopleOf_1 : List UInt8 := dkwX0_peopleOf_1 ++ dktX0_peopleOf_2
def dkwX0_peopleOf_0 : List UInt8 := [3, 54, 4, 3, 54, 5, 21, 5, 42, 180, 0, 18, 162, 0, 41, 21, 4, 21, 5, 28, 159, 0, 23, 42]
abbrev dktX0_peopleOf_0 : List UInt8 := dkwX0_peopleOf_0 ++ dktX0_peopleOf_1
theorem dksX0_peopleOf_0 : cX0_peopleOf.data.toList.drop 0 = dktX0_peopleOf_0 := by decide +kernel
theorem dksX0_peopleOf_1 : cX0_peopleOf.data.toList.drop 24 = dktX0_peopleOf_1 := dk_seg dksX0_peopleOf_0 24 rfl rfl
theorem dksX0_peopleOf_2 : cX0_peopleOf.data.toList.drop 47 = dktX0_peopleOf_2 := dk_seg dksX0_peopleOf_1 23 rfl rfl
theorem dX0_peopleOf_0 : decode cX0_peopleOf 0 = .ok (.iconst 0, 1) := dk_3 (dk_at dksX0_peopleOf_0 0 rfl rfl)
theorem dX0_peopleOf_1 : decode cX0_peopleOf 1 = .ok (.istore 4, 2) := dk_54 4 (dk_at dksX0_peopleOf_0 1 rfl rfl)
theorem dX0_peopleOf_3 : decode cX0_peopleOf 3 = .ok (.iconst 0, 1) := dk_3 (dk_at dksX0_peopleOf_0 3 rfl rfl)
theorem dX0_peopleOf_4 : decode cX0_peopleOf 4 = .ok (.istore 5, 2) := dk_54 5 (dk_at dksX0_peopleOf_0 4 rfl rfl)
theorem dX0_peopleOf_6 : decode cX0_peopleOf 6 = .ok (.iload 5, 2) := dk_21 5 (dk_at dksX0_peopleOf_0 6 rfl rfl)
theorem dX0_peopleOf_8 : decode cX0_peopleOf 8 = .ok (.aload_n 0, 1) := dk_42 (dk_at dksX0_peopleOf_0 8 rfl rfl)
theorem dX0_peopleOf_9 : decode cX0_peopleOf 9 = .ok (.getfield 18, 3) := dk_180 0 18 (dk_at dksX0_peopleOf_0 9 rfl rfl)
theorem dX0_peopleOf_12 : decode cX0_peopleOf 12 = .ok (.if_icmp .ge 41, 3) := dk_162 0 41 (dk_at dksX0_peopleOf_0 12 rfl rfl)
theorem dX0_peopleOf_15 : decode cX0_peopleOf 15 = .ok (.iload 4, 2) := dk_21 4 (dk_at dksX0_peopleOf_0 15 rfl rfl)
theorem dX0_peopleOf_17 : decode cX0_peopleOf 17 = .ok (.iload 5, 2) := dk_21 5 (dk_at dksX0_peopleOf_0 17 rfl rfl)
theorem dX0_peopleOf_19 : decode cX0_peopleOf 19 = .ok (.iload_n 2, 1) := dk_28 (dk_at dksX0_peopleOf_0 19 rfl rfl)
theorem dX0_peopleOf_20 : decode cX0_peopleOf 20 = .ok (.if_icmp .eq 23, 3) := dk_159 0 23 (dk_at dksX0_peopleOf_0 20 rfl rfl)
theorem dX0_peopleOf_23 : decode cX0_peopleOf 23 = .ok (.aload_n 0, 1) := dk_42 (dk_at dksX0_peopleOf_0 23 rfl rfl)
theorem dX0_peopleOf_24 : decode cX0_peopleOf 24 = .ok (.aload_n 1, 1) := dk_43 (dk_at dksX0_peopleOf_1 0 rfl rfl)
theorem dX0_peopleOf_25 : decode cX0_peopleOf 25 = .ok (.iload_n 2, 1) := dk_28 (dk_at dksX0_peopleOf_1 1 rfl rfl)
theorem dX0_peopleOf_26 : decode cX0_peopleOf 26 = .ok (.iload 5, 2) := dk_21 5 (dk_at dksX0_peopleOf_1 2 rfl rfl)
theorem dX0_peopleOf_28 : decode cX0_peopleOf 28 = .ok (.iload_n 3, 1) := dk_29 (dk_at dksX0_peopleOf_1 4 rfl rfl)
theorem dX0_peopleOf_29 : decode cX0_peopleOf 29 = .ok (.invokevirtual 456, 3) := dk_182 1 200 (dk_at dksX0_peopleOf_1 5 rfl rfl)
theorem dX0_peopleOf_32 : decode cX0_peopleOf 32 = .ok (.iconst (-1), 1) := dk_2 (dk_at dksX0_peopleOf_1 8 rfl rfl)
theorem dX0_peopleOf_33 : decode cX0_peopleOf 33 = .ok (.if_icmp .ne 10, 3) := dk_160 0 10 (dk_at dksX0_peopleOf_1 9 rfl rfl)
theorem dX0_peopleOf_36 : decode cX0_peopleOf 36 = .ok (.iconst 1, 1) := dk_4 (dk_at dksX0_peopleOf_1 12 rfl rfl)
theorem dX0_peopleOf_37 : decode cX0_peopleOf 37 = .ok (.iload 5, 2) := dk_21 5 (dk_at dksX0_peopleOf_1 13 rfl rfl)
theorem dX0_peopleOf_39 : decode cX0_peopleOf 39 = .ok (.ishl, 1) := dk_120 (dk_at dksX0_peopleOf_1 15 rfl rfl)
theorem dX0_peopleOf_40 : decode cX0_peopleOf 40 = .ok (.goto 4, 3) := dk_167 0 4 (dk_at dksX0_peopleOf_1 16 rfl rfl)
theorem dX0_peopleOf_43 : decode cX0_peopleOf 43 = .ok (.iconst 0, 1) := dk_3 (dk_at dksX0_peopleOf_1 19 rfl rfl)
theorem dX0_peopleOf_44 : decode cX0_peopleOf 44 = .ok (.ior, 1) := dk_128 (dk_at dksX0_peopleOf_1 20 rfl rfl)
theorem dX0_peopleOf_45 : decode cX0_peopleOf 45 = .ok (.istore 4, 2) := dk_54 4 (dk_at dksX0_peopleOf_1 21 rfl rfl)
theorem dX0_peopleOf_47 : decode cX0_peopleOf 47 = .ok (.iinc 5 1, 3) := dk_132 5 1 (dk_at dksX0_peopleOf_2 0 rfl rfl)
theorem dX0_peopleOf_50 : decode cX0_peopleOf 50 = .ok (.goto (-44), 3) := dk_167 255 212 (dk_at dksX0_peopleOf_2 3 rfl rfl)
theorem dX0_peopleOf_53 : decode cX0_peopleOf 53 = .ok (.iload 4, 2) := dk_21 4 (dk_at dksX0_peopleOf_2 6 rfl rfl)
theorem dX0_peopleOf_55 : decode cX0_peopleOf 55 = .ok (.ireturn, 1) := dk_172 (dk_at dksX0_peopleOf_2 8 rfl rfl)
abbrev cX0_kindsOf : ByteArray := prog_1_method_68_code
def yX0_kindsOf : MethodName := ⟨RX0, "kindsOf", "(Ljava/lang/Object;II)I"⟩
def dkwX0_kindsOf_1 : List UInt8 := [153, 0, 10, 4, 21, 5, 120, 167, 0, 4, 3, 128, 54, 4, 132, 5, 1, 167, 255, 221, 21, 4, 172]
abbrev dktX0_kindsOf_1 : List UInt8 := dkwX0_kindsOf_1 ++ []
def dkwX0_kindsOf_0 : List UInt8 := [3, 54, 4, 3, 54, 5, 21, 5, 16, 6, 162, 0, 34, 21, 4, 42, 43, 28, 29, 21, 5, 182, 1, 208]
abbrev dktX0_kindsOf_0 : List UInt8 := dkwX0_kindsOf_0 ++ dktX0_kindsOf_1
theorem dksX0_kindsOf_0 : cX0_kindsOf.data.toList.drop 0 = dktX0_kindsOf_0 := by decide +kernel
theorem dksX0_kindsOf_1 : cX0_kindsOf.data.toList.drop 24 = dktX0_kindsOf_1 := dk_seg dksX0_kindsOf_0 24 rfl rfl
theorem dX0_kindsOf_0 : decode cX0_kindsOf 0 = .ok (.iconst 0, 1) := dk_3 (dk_at dksX0_kindsOf_0 0 rfl rfl)
theorem dX0_kindsOf_1 : decode cX0_kindsOf 1 = .ok (.istore 4, 2) := dk_54 4 (dk_at dksX0_kindsOf_0 1 rfl rfl)
theorem dX0_kindsOf_3 : decode cX0_kindsOf 3 = .ok (.iconst 0, 1) := dk_3 (dk_at dksX0_kindsOf_0 3 rfl rfl)
theorem dX0_kindsOf_4 : decode cX0_kindsOf 4 = .ok (.istore 5, 2) := dk_54 5 (dk_at dksX0_kindsOf_0 4 rfl rfl)
theorem dX0_kindsOf_6 : decode cX0_kindsOf 6 = .ok (.iload 5, 2) := dk_21 5 (dk_at dksX0_kindsOf_0 6 rfl rfl)
theorem dX0_kindsOf_8 : decode cX0_kindsOf 8 = .ok (.bipush 6, 2) := dk_16 6 (dk_at dksX0_kindsOf_0 8 rfl rfl)
theorem dX0_kindsOf_10 : decode cX0_kindsOf 10 = .ok (.if_icmp .ge 34, 3) := dk_162 0 34 (dk_at dksX0_kindsOf_0 10 rfl rfl)
theorem dX0_kindsOf_13 : decode cX0_kindsOf 13 = .ok (.iload 4, 2) := dk_21 4 (dk_at dksX0_kindsOf_0 13 rfl rfl)
theorem dX0_kindsOf_15 : decode cX0_kindsOf 15 = .ok (.aload_n 0, 1) := dk_42 (dk_at dksX0_kindsOf_0 15 rfl rfl)
theorem dX0_kindsOf_16 : decode cX0_kindsOf 16 = .ok (.aload_n 1, 1) := dk_43 (dk_at dksX0_kindsOf_0 16 rfl rfl)
theorem dX0_kindsOf_17 : decode cX0_kindsOf 17 = .ok (.iload_n 2, 1) := dk_28 (dk_at dksX0_kindsOf_0 17 rfl rfl)
theorem dX0_kindsOf_18 : decode cX0_kindsOf 18 = .ok (.iload_n 3, 1) := dk_29 (dk_at dksX0_kindsOf_0 18 rfl rfl)
theorem dX0_kindsOf_19 : decode cX0_kindsOf 19 = .ok (.iload 5, 2) := dk_21 5 (dk_at dksX0_kindsOf_0 19 rfl rfl)
theorem dX0_kindsOf_21 : decode cX0_kindsOf 21 = .ok (.invokevirtual 464, 3) := dk_182 1 208 (dk_at dksX0_kindsOf_0 21 rfl rfl)
theorem dX0_kindsOf_24 : decode cX0_kindsOf 24 = .ok (.ifCond .eq 10, 3) := dk_153 0 10 (dk_at dksX0_kindsOf_1 0 rfl rfl)
theorem dX0_kindsOf_27 : decode cX0_kindsOf 27 = .ok (.iconst 1, 1) := dk_4 (dk_at dksX0_kindsOf_1 3 rfl rfl)
theorem dX0_kindsOf_28 : decode cX0_kindsOf 28 = .ok (.iload 5, 2) := dk_21 5 (dk_at dksX0_kindsOf_1 4 rfl rfl)
theorem dX0_kindsOf_30 : decode cX0_kindsOf 30 = .ok (.ishl, 1) := dk_120 (dk_at dksX0_kindsOf_1 6 rfl rfl)
theorem dX0_kindsOf_31 : decode cX0_kindsOf 31 = .ok (.goto 4, 3) := dk_167 0 4 (dk_at dksX0_kindsOf_1 7 rfl rfl)
theorem dX0_kindsOf_34 : decode cX0_kindsOf 34 = .ok (.iconst 0, 1) := dk_3 (dk_at dksX0_kindsOf_1 10 rfl rfl)
theorem dX0_kindsOf_35 : decode cX0_kindsOf 35 = .ok (.ior, 1) := dk_128 (dk_at dksX0_kindsOf_1 11 rfl rfl)
theorem dX0_kindsOf_36 : decode cX0_kindsOf 36 = .ok (.istore 4, 2) := dk_54 4 (dk_at dksX0_kindsOf_1 12 rfl rfl)
theorem dX0_kindsOf_38 : decode cX0_kindsOf 38 = .ok (.iinc 5 1, 3) := dk_132 5 1 (dk_at dksX0_kindsOf_1 14 rfl rfl)
theorem dX0_kindsOf_41 : decode cX0_kindsOf 41 = .ok (.goto (-35), 3) := dk_167 255 221 (dk_at dksX0_kindsOf_1 17 rfl rfl)
theorem dX0_kindsOf_44 : decode cX0_kindsOf 44 = .ok (.iload 4, 2) := dk_21 4 (dk_at dksX0_kindsOf_1 20 rfl rfl)
theorem dX0_kindsOf_46 : decode cX0_kindsOf 46 = .ok (.ireturn, 1) := dk_172 (dk_at dksX0_kindsOf_1 22 rfl rfl)
abbrev cX0_isSoAs : ByteArray := prog_1_method_67_code
def yX0_isSoAs : MethodName := ⟨RX0, "isSoAs", "(Ljava/lang/Object;III)Z"⟩
def dkwX0_isSoAs_4 : List UInt8 := [191]
abbrev dktX0_isSoAs_4 : List UInt8 := dkwX0_isSoAs_4 ++ []
def dkwX0_isSoAs_3 : List UInt8 := [16, 10, 112, 25, 5, 83, 21, 6, 172, 58, 7, 42, 180, 0, 60, 28, 16, 10, 112, 25, 5, 83, 25, 7]
abbrev dktX0_isSoAs_3 : List UInt8 := dkwX0_isSoAs_3 ++ dktX0_isSoAs_4
def dkwX0_isSoAs_2 : List UInt8 := [16, 10, 112, 29, 182, 1, 200, 2, 160, 0, 7, 4, 167, 0, 4, 3, 54, 6, 42, 180, 0, 60, 28]
abbrev dktX0_isSoAs_2 : List UInt8 := dkwX0_isSoAs_2 ++ dktX0_isSoAs_3
def dkwX0_isSoAs_1 : List UInt8 := [180, 0, 90, 25, 5, 180, 0, 93, 184, 0, 64, 25, 5, 182, 1, 204, 83, 42, 43, 28, 16, 10, 108, 28]
abbrev dktX0_isSoAs_1 : List UInt8 := dkwX0_isSoAs_1 ++ dktX0_isSoAs_2
def dkwX0_isSoAs_0 : List UInt8 := [42, 180, 0, 60, 28, 16, 10, 112, 50, 58, 5, 42, 180, 0, 60, 28, 16, 10, 112, 21, 4, 25, 5]
abbrev dktX0_isSoAs_0 : List UInt8 := dkwX0_isSoAs_0 ++ dktX0_isSoAs_1
theorem dksX0_isSoAs_0 : cX0_isSoAs.data.toList.drop 0 = dktX0_isSoAs_0 := by decide +kernel
theorem dksX0_isSoAs_1 : cX0_isSoAs.data.toList.drop 23 = dktX0_isSoAs_1 := dk_seg dksX0_isSoAs_0 23 rfl rfl
theorem dksX0_isSoAs_2 : cX0_isSoAs.data.toList.drop 47 = dktX0_isSoAs_2 := dk_seg dksX0_isSoAs_1 24 rfl rfl
theorem dksX0_isSoAs_3 : cX0_isSoAs.data.toList.drop 70 = dktX0_isSoAs_3 := dk_seg dksX0_isSoAs_2 23 rfl rfl
theorem dksX0_isSoAs_4 : cX0_isSoAs.data.toList.drop 94 = dktX0_isSoAs_4 := dk_seg dksX0_isSoAs_3 24 rfl rfl
theorem dX0_isSoAs_0 : decode cX0_isSoAs 0 = .ok (.aload_n 0, 1) := dk_42 (dk_at dksX0_isSoAs_0 0 rfl rfl)
theorem dX0_isSoAs_1 : decode cX0_isSoAs 1 = .ok (.getfield 60, 3) := dk_180 0 60 (dk_at dksX0_isSoAs_0 1 rfl rfl)
theorem dX0_isSoAs_4 : decode cX0_isSoAs 4 = .ok (.iload_n 2, 1) := dk_28 (dk_at dksX0_isSoAs_0 4 rfl rfl)
theorem dX0_isSoAs_5 : decode cX0_isSoAs 5 = .ok (.bipush 10, 2) := dk_16 10 (dk_at dksX0_isSoAs_0 5 rfl rfl)
theorem dX0_isSoAs_7 : decode cX0_isSoAs 7 = .ok (.irem, 1) := dk_112 (dk_at dksX0_isSoAs_0 7 rfl rfl)
theorem dX0_isSoAs_8 : decode cX0_isSoAs 8 = .ok (.aaload, 1) := dk_50 (dk_at dksX0_isSoAs_0 8 rfl rfl)
theorem dX0_isSoAs_9 : decode cX0_isSoAs 9 = .ok (.astore 5, 2) := dk_58 5 (dk_at dksX0_isSoAs_0 9 rfl rfl)
theorem dX0_isSoAs_11 : decode cX0_isSoAs 11 = .ok (.aload_n 0, 1) := dk_42 (dk_at dksX0_isSoAs_0 11 rfl rfl)
theorem dX0_isSoAs_12 : decode cX0_isSoAs 12 = .ok (.getfield 60, 3) := dk_180 0 60 (dk_at dksX0_isSoAs_0 12 rfl rfl)
theorem dX0_isSoAs_15 : decode cX0_isSoAs 15 = .ok (.iload_n 2, 1) := dk_28 (dk_at dksX0_isSoAs_0 15 rfl rfl)
theorem dX0_isSoAs_16 : decode cX0_isSoAs 16 = .ok (.bipush 10, 2) := dk_16 10 (dk_at dksX0_isSoAs_0 16 rfl rfl)
theorem dX0_isSoAs_18 : decode cX0_isSoAs 18 = .ok (.irem, 1) := dk_112 (dk_at dksX0_isSoAs_0 18 rfl rfl)
theorem dX0_isSoAs_19 : decode cX0_isSoAs 19 = .ok (.iload 4, 2) := dk_21 4 (dk_at dksX0_isSoAs_0 19 rfl rfl)
theorem dX0_isSoAs_21 : decode cX0_isSoAs 21 = .ok (.aload 5, 2) := dk_25 5 (dk_at dksX0_isSoAs_0 21 rfl rfl)
theorem dX0_isSoAs_23 : decode cX0_isSoAs 23 = .ok (.getfield 90, 3) := dk_180 0 90 (dk_at dksX0_isSoAs_1 0 rfl rfl)
theorem dX0_isSoAs_26 : decode cX0_isSoAs 26 = .ok (.aload 5, 2) := dk_25 5 (dk_at dksX0_isSoAs_1 3 rfl rfl)
theorem dX0_isSoAs_28 : decode cX0_isSoAs 28 = .ok (.getfield 93, 3) := dk_180 0 93 (dk_at dksX0_isSoAs_1 5 rfl rfl)
theorem dX0_isSoAs_31 : decode cX0_isSoAs 31 = .ok (.invokestatic 64, 3) := dk_184 0 64 (dk_at dksX0_isSoAs_1 8 rfl rfl)
theorem dX0_isSoAs_34 : decode cX0_isSoAs 34 = .ok (.aload 5, 2) := dk_25 5 (dk_at dksX0_isSoAs_1 11 rfl rfl)
theorem dX0_isSoAs_36 : decode cX0_isSoAs 36 = .ok (.invokevirtual 460, 3) := dk_182 1 204 (dk_at dksX0_isSoAs_1 13 rfl rfl)
theorem dX0_isSoAs_39 : decode cX0_isSoAs 39 = .ok (.aastore, 1) := dk_83 (dk_at dksX0_isSoAs_1 16 rfl rfl)
theorem dX0_isSoAs_40 : decode cX0_isSoAs 40 = .ok (.aload_n 0, 1) := dk_42 (dk_at dksX0_isSoAs_1 17 rfl rfl)
theorem dX0_isSoAs_41 : decode cX0_isSoAs 41 = .ok (.aload_n 1, 1) := dk_43 (dk_at dksX0_isSoAs_1 18 rfl rfl)
theorem dX0_isSoAs_42 : decode cX0_isSoAs 42 = .ok (.iload_n 2, 1) := dk_28 (dk_at dksX0_isSoAs_1 19 rfl rfl)
theorem dX0_isSoAs_43 : decode cX0_isSoAs 43 = .ok (.bipush 10, 2) := dk_16 10 (dk_at dksX0_isSoAs_1 20 rfl rfl)
theorem dX0_isSoAs_45 : decode cX0_isSoAs 45 = .ok (.idiv, 1) := dk_108 (dk_at dksX0_isSoAs_1 22 rfl rfl)
theorem dX0_isSoAs_46 : decode cX0_isSoAs 46 = .ok (.iload_n 2, 1) := dk_28 (dk_at dksX0_isSoAs_1 23 rfl rfl)
theorem dX0_isSoAs_47 : decode cX0_isSoAs 47 = .ok (.bipush 10, 2) := dk_16 10 (dk_at dksX0_isSoAs_2 0 rfl rfl)
theorem dX0_isSoAs_49 : decode cX0_isSoAs 49 = .ok (.irem, 1) := dk_112 (dk_at dksX0_isSoAs_2 2 rfl rfl)
theorem dX0_isSoAs_50 : decode cX0_isSoAs 50 = .ok (.iload_n 3, 1) := dk_29 (dk_at dksX0_isSoAs_2 3 rfl rfl)
theorem dX0_isSoAs_51 : decode cX0_isSoAs 51 = .ok (.invokevirtual 456, 3) := dk_182 1 200 (dk_at dksX0_isSoAs_2 4 rfl rfl)
theorem dX0_isSoAs_54 : decode cX0_isSoAs 54 = .ok (.iconst (-1), 1) := dk_2 (dk_at dksX0_isSoAs_2 7 rfl rfl)
theorem dX0_isSoAs_55 : decode cX0_isSoAs 55 = .ok (.if_icmp .ne 7, 3) := dk_160 0 7 (dk_at dksX0_isSoAs_2 8 rfl rfl)
theorem dX0_isSoAs_58 : decode cX0_isSoAs 58 = .ok (.iconst 1, 1) := dk_4 (dk_at dksX0_isSoAs_2 11 rfl rfl)
theorem dX0_isSoAs_59 : decode cX0_isSoAs 59 = .ok (.goto 4, 3) := dk_167 0 4 (dk_at dksX0_isSoAs_2 12 rfl rfl)
theorem dX0_isSoAs_62 : decode cX0_isSoAs 62 = .ok (.iconst 0, 1) := dk_3 (dk_at dksX0_isSoAs_2 15 rfl rfl)
theorem dX0_isSoAs_63 : decode cX0_isSoAs 63 = .ok (.istore 6, 2) := dk_54 6 (dk_at dksX0_isSoAs_2 16 rfl rfl)
theorem dX0_isSoAs_65 : decode cX0_isSoAs 65 = .ok (.aload_n 0, 1) := dk_42 (dk_at dksX0_isSoAs_2 18 rfl rfl)
theorem dX0_isSoAs_66 : decode cX0_isSoAs 66 = .ok (.getfield 60, 3) := dk_180 0 60 (dk_at dksX0_isSoAs_2 19 rfl rfl)
theorem dX0_isSoAs_69 : decode cX0_isSoAs 69 = .ok (.iload_n 2, 1) := dk_28 (dk_at dksX0_isSoAs_2 22 rfl rfl)
theorem dX0_isSoAs_70 : decode cX0_isSoAs 70 = .ok (.bipush 10, 2) := dk_16 10 (dk_at dksX0_isSoAs_3 0 rfl rfl)
theorem dX0_isSoAs_72 : decode cX0_isSoAs 72 = .ok (.irem, 1) := dk_112 (dk_at dksX0_isSoAs_3 2 rfl rfl)
theorem dX0_isSoAs_73 : decode cX0_isSoAs 73 = .ok (.aload 5, 2) := dk_25 5 (dk_at dksX0_isSoAs_3 3 rfl rfl)
theorem dX0_isSoAs_75 : decode cX0_isSoAs 75 = .ok (.aastore, 1) := dk_83 (dk_at dksX0_isSoAs_3 5 rfl rfl)
theorem dX0_isSoAs_76 : decode cX0_isSoAs 76 = .ok (.iload 6, 2) := dk_21 6 (dk_at dksX0_isSoAs_3 6 rfl rfl)
theorem dX0_isSoAs_78 : decode cX0_isSoAs 78 = .ok (.ireturn, 1) := dk_172 (dk_at dksX0_isSoAs_3 8 rfl rfl)
theorem dX0_isSoAs_79 : decode cX0_isSoAs 79 = .ok (.astore 7, 2) := dk_58 7 (dk_at dksX0_isSoAs_3 9 rfl rfl)
theorem dX0_isSoAs_81 : decode cX0_isSoAs 81 = .ok (.aload_n 0, 1) := dk_42 (dk_at dksX0_isSoAs_3 11 rfl rfl)
theorem dX0_isSoAs_82 : decode cX0_isSoAs 82 = .ok (.getfield 60, 3) := dk_180 0 60 (dk_at dksX0_isSoAs_3 12 rfl rfl)
theorem dX0_isSoAs_85 : decode cX0_isSoAs 85 = .ok (.iload_n 2, 1) := dk_28 (dk_at dksX0_isSoAs_3 15 rfl rfl)
theorem dX0_isSoAs_86 : decode cX0_isSoAs 86 = .ok (.bipush 10, 2) := dk_16 10 (dk_at dksX0_isSoAs_3 16 rfl rfl)
theorem dX0_isSoAs_88 : decode cX0_isSoAs 88 = .ok (.irem, 1) := dk_112 (dk_at dksX0_isSoAs_3 18 rfl rfl)
theorem dX0_isSoAs_89 : decode cX0_isSoAs 89 = .ok (.aload 5, 2) := dk_25 5 (dk_at dksX0_isSoAs_3 19 rfl rfl)
theorem dX0_isSoAs_91 : decode cX0_isSoAs 91 = .ok (.aastore, 1) := dk_83 (dk_at dksX0_isSoAs_3 21 rfl rfl)
theorem dX0_isSoAs_92 : decode cX0_isSoAs 92 = .ok (.aload 7, 2) := dk_25 7 (dk_at dksX0_isSoAs_3 22 rfl rfl)
theorem dX0_isSoAs_94 : decode cX0_isSoAs 94 = .ok (.athrow, 1) := dk_191 (dk_at dksX0_isSoAs_4 0 rfl rfl)
abbrev cX0_setBy : ByteArray := prog_1_method_70_code
def yX0_setBy : MethodName := ⟨RX0, "setBy", "(Ljava/lang/Object;IIII)I"⟩
def dkwX0_setBy_2 : List UInt8 := [21, 6, 172]
abbrev dktX0_setBy_2 : List UInt8 := dkwX0_setBy_2 ++ []
def dkwX0_setBy_1 : List UInt8 := [182, 1, 212, 153, 0, 10, 4, 21, 7, 120, 167, 0, 4, 3, 128, 54, 6, 132, 7, 1, 167, 255, 219]
abbrev dktX0_setBy_1 : List UInt8 := dkwX0_setBy_1 ++ dktX0_setBy_2
def dkwX0_setBy_0 : List UInt8 := [3, 54, 6, 3, 54, 7, 21, 7, 21, 5, 162, 0, 36, 21, 6, 42, 43, 28, 29, 21, 4, 21, 7]
abbrev dktX0_setBy_0 : List UInt8 := dkwX0_setBy_0 ++ dktX0_setBy_1
theorem dksX0_setBy_0 : cX0_setBy.data.toList.drop 0 = dktX0_setBy_0 := by decide +kernel
theorem dksX0_setBy_1 : cX0_setBy.data.toList.drop 23 = dktX0_setBy_1 := dk_seg dksX0_setBy_0 23 rfl rfl
theorem dksX0_setBy_2 : cX0_setBy.data.toList.drop 46 = dktX0_setBy_2 := dk_seg dksX0_setBy_1 23 rfl rfl
theorem dX0_setBy_0 : decode cX0_setBy 0 = .ok (.iconst 0, 1) := dk_3 (dk_at dksX0_setBy_0 0 rfl rfl)
theorem dX0_setBy_1 : decode cX0_setBy 1 = .ok (.istore 6, 2) := dk_54 6 (dk_at dksX0_setBy_0 1 rfl rfl)
theorem dX0_setBy_3 : decode cX0_setBy 3 = .ok (.iconst 0, 1) := dk_3 (dk_at dksX0_setBy_0 3 rfl rfl)
theorem dX0_setBy_4 : decode cX0_setBy 4 = .ok (.istore 7, 2) := dk_54 7 (dk_at dksX0_setBy_0 4 rfl rfl)
theorem dX0_setBy_6 : decode cX0_setBy 6 = .ok (.iload 7, 2) := dk_21 7 (dk_at dksX0_setBy_0 6 rfl rfl)
theorem dX0_setBy_8 : decode cX0_setBy 8 = .ok (.iload 5, 2) := dk_21 5 (dk_at dksX0_setBy_0 8 rfl rfl)
theorem dX0_setBy_10 : decode cX0_setBy 10 = .ok (.if_icmp .ge 36, 3) := dk_162 0 36 (dk_at dksX0_setBy_0 10 rfl rfl)
theorem dX0_setBy_13 : decode cX0_setBy 13 = .ok (.iload 6, 2) := dk_21 6 (dk_at dksX0_setBy_0 13 rfl rfl)
theorem dX0_setBy_15 : decode cX0_setBy 15 = .ok (.aload_n 0, 1) := dk_42 (dk_at dksX0_setBy_0 15 rfl rfl)
theorem dX0_setBy_16 : decode cX0_setBy 16 = .ok (.aload_n 1, 1) := dk_43 (dk_at dksX0_setBy_0 16 rfl rfl)
theorem dX0_setBy_17 : decode cX0_setBy 17 = .ok (.iload_n 2, 1) := dk_28 (dk_at dksX0_setBy_0 17 rfl rfl)
theorem dX0_setBy_18 : decode cX0_setBy 18 = .ok (.iload_n 3, 1) := dk_29 (dk_at dksX0_setBy_0 18 rfl rfl)
theorem dX0_setBy_19 : decode cX0_setBy 19 = .ok (.iload 4, 2) := dk_21 4 (dk_at dksX0_setBy_0 19 rfl rfl)
theorem dX0_setBy_21 : decode cX0_setBy 21 = .ok (.iload 7, 2) := dk_21 7 (dk_at dksX0_setBy_0 21 rfl rfl)
theorem dX0_setBy_23 : decode cX0_setBy 23 = .ok (.invokevirtual 468, 3) := dk_182 1 212 (dk_at dksX0_setBy_1 0 rfl rfl)
theorem dX0_setBy_26 : decode cX0_setBy 26 = .ok (.ifCond .eq 10, 3) := dk_153 0 10 (dk_at dksX0_setBy_1 3 rfl rfl)
theorem dX0_setBy_29 : decode cX0_setBy 29 = .ok (.iconst 1, 1) := dk_4 (dk_at dksX0_setBy_1 6 rfl rfl)
theorem dX0_setBy_30 : decode cX0_setBy 30 = .ok (.iload 7, 2) := dk_21 7 (dk_at dksX0_setBy_1 7 rfl rfl)
theorem dX0_setBy_32 : decode cX0_setBy 32 = .ok (.ishl, 1) := dk_120 (dk_at dksX0_setBy_1 9 rfl rfl)
theorem dX0_setBy_33 : decode cX0_setBy 33 = .ok (.goto 4, 3) := dk_167 0 4 (dk_at dksX0_setBy_1 10 rfl rfl)
theorem dX0_setBy_36 : decode cX0_setBy 36 = .ok (.iconst 0, 1) := dk_3 (dk_at dksX0_setBy_1 13 rfl rfl)
theorem dX0_setBy_37 : decode cX0_setBy 37 = .ok (.ior, 1) := dk_128 (dk_at dksX0_setBy_1 14 rfl rfl)
theorem dX0_setBy_38 : decode cX0_setBy 38 = .ok (.istore 6, 2) := dk_54 6 (dk_at dksX0_setBy_1 15 rfl rfl)
theorem dX0_setBy_40 : decode cX0_setBy 40 = .ok (.iinc 7 1, 3) := dk_132 7 1 (dk_at dksX0_setBy_1 17 rfl rfl)
theorem dX0_setBy_43 : decode cX0_setBy 43 = .ok (.goto (-37), 3) := dk_167 255 219 (dk_at dksX0_setBy_1 20 rfl rfl)
theorem dX0_setBy_46 : decode cX0_setBy 46 = .ok (.iload 6, 2) := dk_21 6 (dk_at dksX0_setBy_2 0 rfl rfl)
theorem dX0_setBy_48 : decode cX0_setBy 48 = .ok (.ireturn, 1) := dk_172 (dk_at dksX0_setBy_2 2 rfl rfl)
abbrev cX0_isSoBy : ByteArray := prog_1_method_69_code
def yX0_isSoBy : MethodName := ⟨RX0, "isSoBy", "(Ljava/lang/Object;IIII)Z"⟩
def dkwX0_isSoBy_3 : List UInt8 := [16, 10, 112, 21, 6, 182, 0, 103, 25, 8, 191]
abbrev dktX0_isSoBy_3 : List UInt8 := dkwX0_isSoBy_3 ++ []
def dkwX0_isSoBy_2 : List UInt8 := [54, 7, 42, 21, 4, 28, 16, 10, 112, 21, 6, 182, 0, 103, 21, 7, 172, 58, 8, 42, 21, 4, 28]
abbrev dktX0_isSoBy_2 : List UInt8 := dkwX0_isSoBy_2 ++ dktX0_isSoBy_3
def dkwX0_isSoBy_1 : List UInt8 := [42, 43, 28, 16, 10, 108, 28, 16, 10, 112, 29, 182, 1, 200, 2, 160, 0, 7, 4, 167, 0, 4, 3]
abbrev dktX0_isSoBy_1 : List UInt8 := dkwX0_isSoBy_1 ++ dktX0_isSoBy_2
def dkwX0_isSoBy_0 : List UInt8 := [42, 28, 16, 10, 112, 21, 4, 182, 0, 100, 54, 6, 42, 21, 4, 28, 16, 10, 112, 21, 5, 182, 0, 103]
abbrev dktX0_isSoBy_0 : List UInt8 := dkwX0_isSoBy_0 ++ dktX0_isSoBy_1
theorem dksX0_isSoBy_0 : cX0_isSoBy.data.toList.drop 0 = dktX0_isSoBy_0 := by decide +kernel
theorem dksX0_isSoBy_1 : cX0_isSoBy.data.toList.drop 24 = dktX0_isSoBy_1 := dk_seg dksX0_isSoBy_0 24 rfl rfl
theorem dksX0_isSoBy_2 : cX0_isSoBy.data.toList.drop 47 = dktX0_isSoBy_2 := dk_seg dksX0_isSoBy_1 23 rfl rfl
theorem dksX0_isSoBy_3 : cX0_isSoBy.data.toList.drop 70 = dktX0_isSoBy_3 := dk_seg dksX0_isSoBy_2 23 rfl rfl
theorem dX0_isSoBy_0 : decode cX0_isSoBy 0 = .ok (.aload_n 0, 1) := dk_42 (dk_at dksX0_isSoBy_0 0 rfl rfl)
theorem dX0_isSoBy_1 : decode cX0_isSoBy 1 = .ok (.iload_n 2, 1) := dk_28 (dk_at dksX0_isSoBy_0 1 rfl rfl)
theorem dX0_isSoBy_2 : decode cX0_isSoBy 2 = .ok (.bipush 10, 2) := dk_16 10 (dk_at dksX0_isSoBy_0 2 rfl rfl)
theorem dX0_isSoBy_4 : decode cX0_isSoBy 4 = .ok (.irem, 1) := dk_112 (dk_at dksX0_isSoBy_0 4 rfl rfl)
theorem dX0_isSoBy_5 : decode cX0_isSoBy 5 = .ok (.iload 4, 2) := dk_21 4 (dk_at dksX0_isSoBy_0 5 rfl rfl)
theorem dX0_isSoBy_7 : decode cX0_isSoBy 7 = .ok (.invokevirtual 100, 3) := dk_182 0 100 (dk_at dksX0_isSoBy_0 7 rfl rfl)
theorem dX0_isSoBy_10 : decode cX0_isSoBy 10 = .ok (.istore 6, 2) := dk_54 6 (dk_at dksX0_isSoBy_0 10 rfl rfl)
theorem dX0_isSoBy_12 : decode cX0_isSoBy 12 = .ok (.aload_n 0, 1) := dk_42 (dk_at dksX0_isSoBy_0 12 rfl rfl)
theorem dX0_isSoBy_13 : decode cX0_isSoBy 13 = .ok (.iload 4, 2) := dk_21 4 (dk_at dksX0_isSoBy_0 13 rfl rfl)
theorem dX0_isSoBy_15 : decode cX0_isSoBy 15 = .ok (.iload_n 2, 1) := dk_28 (dk_at dksX0_isSoBy_0 15 rfl rfl)
theorem dX0_isSoBy_16 : decode cX0_isSoBy 16 = .ok (.bipush 10, 2) := dk_16 10 (dk_at dksX0_isSoBy_0 16 rfl rfl)
theorem dX0_isSoBy_18 : decode cX0_isSoBy 18 = .ok (.irem, 1) := dk_112 (dk_at dksX0_isSoBy_0 18 rfl rfl)
theorem dX0_isSoBy_19 : decode cX0_isSoBy 19 = .ok (.iload 5, 2) := dk_21 5 (dk_at dksX0_isSoBy_0 19 rfl rfl)
theorem dX0_isSoBy_21 : decode cX0_isSoBy 21 = .ok (.invokevirtual 103, 3) := dk_182 0 103 (dk_at dksX0_isSoBy_0 21 rfl rfl)
theorem dX0_isSoBy_24 : decode cX0_isSoBy 24 = .ok (.aload_n 0, 1) := dk_42 (dk_at dksX0_isSoBy_1 0 rfl rfl)
theorem dX0_isSoBy_25 : decode cX0_isSoBy 25 = .ok (.aload_n 1, 1) := dk_43 (dk_at dksX0_isSoBy_1 1 rfl rfl)
theorem dX0_isSoBy_26 : decode cX0_isSoBy 26 = .ok (.iload_n 2, 1) := dk_28 (dk_at dksX0_isSoBy_1 2 rfl rfl)
theorem dX0_isSoBy_27 : decode cX0_isSoBy 27 = .ok (.bipush 10, 2) := dk_16 10 (dk_at dksX0_isSoBy_1 3 rfl rfl)
theorem dX0_isSoBy_29 : decode cX0_isSoBy 29 = .ok (.idiv, 1) := dk_108 (dk_at dksX0_isSoBy_1 5 rfl rfl)
theorem dX0_isSoBy_30 : decode cX0_isSoBy 30 = .ok (.iload_n 2, 1) := dk_28 (dk_at dksX0_isSoBy_1 6 rfl rfl)
theorem dX0_isSoBy_31 : decode cX0_isSoBy 31 = .ok (.bipush 10, 2) := dk_16 10 (dk_at dksX0_isSoBy_1 7 rfl rfl)
theorem dX0_isSoBy_33 : decode cX0_isSoBy 33 = .ok (.irem, 1) := dk_112 (dk_at dksX0_isSoBy_1 9 rfl rfl)
theorem dX0_isSoBy_34 : decode cX0_isSoBy 34 = .ok (.iload_n 3, 1) := dk_29 (dk_at dksX0_isSoBy_1 10 rfl rfl)
theorem dX0_isSoBy_35 : decode cX0_isSoBy 35 = .ok (.invokevirtual 456, 3) := dk_182 1 200 (dk_at dksX0_isSoBy_1 11 rfl rfl)
theorem dX0_isSoBy_38 : decode cX0_isSoBy 38 = .ok (.iconst (-1), 1) := dk_2 (dk_at dksX0_isSoBy_1 14 rfl rfl)
theorem dX0_isSoBy_39 : decode cX0_isSoBy 39 = .ok (.if_icmp .ne 7, 3) := dk_160 0 7 (dk_at dksX0_isSoBy_1 15 rfl rfl)
theorem dX0_isSoBy_42 : decode cX0_isSoBy 42 = .ok (.iconst 1, 1) := dk_4 (dk_at dksX0_isSoBy_1 18 rfl rfl)
theorem dX0_isSoBy_43 : decode cX0_isSoBy 43 = .ok (.goto 4, 3) := dk_167 0 4 (dk_at dksX0_isSoBy_1 19 rfl rfl)
theorem dX0_isSoBy_46 : decode cX0_isSoBy 46 = .ok (.iconst 0, 1) := dk_3 (dk_at dksX0_isSoBy_1 22 rfl rfl)
theorem dX0_isSoBy_47 : decode cX0_isSoBy 47 = .ok (.istore 7, 2) := dk_54 7 (dk_at dksX0_isSoBy_2 0 rfl rfl)
theorem dX0_isSoBy_49 : decode cX0_isSoBy 49 = .ok (.aload_n 0, 1) := dk_42 (dk_at dksX0_isSoBy_2 2 rfl rfl)
theorem dX0_isSoBy_50 : decode cX0_isSoBy 50 = .ok (.iload 4, 2) := dk_21 4 (dk_at dksX0_isSoBy_2 3 rfl rfl)
theorem dX0_isSoBy_52 : decode cX0_isSoBy 52 = .ok (.iload_n 2, 1) := dk_28 (dk_at dksX0_isSoBy_2 5 rfl rfl)
theorem dX0_isSoBy_53 : decode cX0_isSoBy 53 = .ok (.bipush 10, 2) := dk_16 10 (dk_at dksX0_isSoBy_2 6 rfl rfl)
theorem dX0_isSoBy_55 : decode cX0_isSoBy 55 = .ok (.irem, 1) := dk_112 (dk_at dksX0_isSoBy_2 8 rfl rfl)
theorem dX0_isSoBy_56 : decode cX0_isSoBy 56 = .ok (.iload 6, 2) := dk_21 6 (dk_at dksX0_isSoBy_2 9 rfl rfl)
theorem dX0_isSoBy_58 : decode cX0_isSoBy 58 = .ok (.invokevirtual 103, 3) := dk_182 0 103 (dk_at dksX0_isSoBy_2 11 rfl rfl)
theorem dX0_isSoBy_61 : decode cX0_isSoBy 61 = .ok (.iload 7, 2) := dk_21 7 (dk_at dksX0_isSoBy_2 14 rfl rfl)
theorem dX0_isSoBy_63 : decode cX0_isSoBy 63 = .ok (.ireturn, 1) := dk_172 (dk_at dksX0_isSoBy_2 16 rfl rfl)
theorem dX0_isSoBy_64 : decode cX0_isSoBy 64 = .ok (.astore 8, 2) := dk_58 8 (dk_at dksX0_isSoBy_2 17 rfl rfl)
theorem dX0_isSoBy_66 : decode cX0_isSoBy 66 = .ok (.aload_n 0, 1) := dk_42 (dk_at dksX0_isSoBy_2 19 rfl rfl)
theorem dX0_isSoBy_67 : decode cX0_isSoBy 67 = .ok (.iload 4, 2) := dk_21 4 (dk_at dksX0_isSoBy_2 20 rfl rfl)
theorem dX0_isSoBy_69 : decode cX0_isSoBy 69 = .ok (.iload_n 2, 1) := dk_28 (dk_at dksX0_isSoBy_2 22 rfl rfl)
theorem dX0_isSoBy_70 : decode cX0_isSoBy 70 = .ok (.bipush 10, 2) := dk_16 10 (dk_at dksX0_isSoBy_3 0 rfl rfl)
theorem dX0_isSoBy_72 : decode cX0_isSoBy 72 = .ok (.irem, 1) := dk_112 (dk_at dksX0_isSoBy_3 2 rfl rfl)
theorem dX0_isSoBy_73 : decode cX0_isSoBy 73 = .ok (.iload 6, 2) := dk_21 6 (dk_at dksX0_isSoBy_3 3 rfl rfl)
theorem dX0_isSoBy_75 : decode cX0_isSoBy 75 = .ok (.invokevirtual 103, 3) := dk_182 0 103 (dk_at dksX0_isSoBy_3 5 rfl rfl)
theorem dX0_isSoBy_78 : decode cX0_isSoBy 78 = .ok (.aload 8, 2) := dk_25 8 (dk_at dksX0_isSoBy_3 8 rfl rfl)
theorem dX0_isSoBy_80 : decode cX0_isSoBy 80 = .ok (.athrow, 1) := dk_191 (dk_at dksX0_isSoBy_3 10 rfl rfl)
abbrev cX0_textsOf : ByteArray := prog_1_method_71_code
def yX0_textsOf : MethodName := ⟨RX0, "textsOf", "(Ljava/lang/Object;II)I"⟩
def dkwX0_textsOf_3 : List UInt8 := [167, 0, 14, 58, 7, 42, 21, 4, 181, 1, 72, 25, 7, 191, 21, 5, 172]
abbrev dktX0_textsOf_3 : List UInt8 := dkwX0_textsOf_3 ++ []
def dkwX0_textsOf_2 : List UInt8 := [21, 6, 120, 167, 0, 4, 3, 128, 54, 5, 132, 6, 1, 167, 255, 207, 42, 21, 4, 181, 1, 72]
abbrev dktX0_textsOf_2 : List UInt8 := dkwX0_textsOf_2 ++ dktX0_textsOf_3
def dkwX0_textsOf_1 : List UInt8 := [181, 1, 72, 21, 5, 42, 43, 28, 16, 10, 108, 28, 16, 10, 112, 29, 182, 1, 200, 2, 160, 0, 10, 4]
abbrev dktX0_textsOf_1 : List UInt8 := dkwX0_textsOf_1 ++ dktX0_textsOf_2
def dkwX0_textsOf_0 : List UInt8 := [42, 180, 1, 72, 54, 4, 3, 54, 5, 3, 54, 6, 21, 6, 42, 180, 1, 3, 162, 0, 46, 42, 21, 6]
abbrev dktX0_textsOf_0 : List UInt8 := dkwX0_textsOf_0 ++ dktX0_textsOf_1
theorem dksX0_textsOf_0 : cX0_textsOf.data.toList.drop 0 = dktX0_textsOf_0 := by decide +kernel
theorem dksX0_textsOf_1 : cX0_textsOf.data.toList.drop 24 = dktX0_textsOf_1 := dk_seg dksX0_textsOf_0 24 rfl rfl
theorem dksX0_textsOf_2 : cX0_textsOf.data.toList.drop 48 = dktX0_textsOf_2 := dk_seg dksX0_textsOf_1 24 rfl rfl
theorem dksX0_textsOf_3 : cX0_textsOf.data.toList.drop 70 = dktX0_textsOf_3 := dk_seg dksX0_textsOf_2 22 rfl rfl
theorem dX0_textsOf_0 : decode cX0_textsOf 0 = .ok (.aload_n 0, 1) := dk_42 (dk_at dksX0_textsOf_0 0 rfl rfl)
theorem dX0_textsOf_1 : decode cX0_textsOf 1 = .ok (.getfield 328, 3) := dk_180 1 72 (dk_at dksX0_textsOf_0 1 rfl rfl)
theorem dX0_textsOf_4 : decode cX0_textsOf 4 = .ok (.istore 4, 2) := dk_54 4 (dk_at dksX0_textsOf_0 4 rfl rfl)
theorem dX0_textsOf_6 : decode cX0_textsOf 6 = .ok (.iconst 0, 1) := dk_3 (dk_at dksX0_textsOf_0 6 rfl rfl)
theorem dX0_textsOf_7 : decode cX0_textsOf 7 = .ok (.istore 5, 2) := dk_54 5 (dk_at dksX0_textsOf_0 7 rfl rfl)
theorem dX0_textsOf_9 : decode cX0_textsOf 9 = .ok (.iconst 0, 1) := dk_3 (dk_at dksX0_textsOf_0 9 rfl rfl)
theorem dX0_textsOf_10 : decode cX0_textsOf 10 = .ok (.istore 6, 2) := dk_54 6 (dk_at dksX0_textsOf_0 10 rfl rfl)
theorem dX0_textsOf_12 : decode cX0_textsOf 12 = .ok (.iload 6, 2) := dk_21 6 (dk_at dksX0_textsOf_0 12 rfl rfl)
theorem dX0_textsOf_14 : decode cX0_textsOf 14 = .ok (.aload_n 0, 1) := dk_42 (dk_at dksX0_textsOf_0 14 rfl rfl)
theorem dX0_textsOf_15 : decode cX0_textsOf 15 = .ok (.getfield 259, 3) := dk_180 1 3 (dk_at dksX0_textsOf_0 15 rfl rfl)
theorem dX0_textsOf_18 : decode cX0_textsOf 18 = .ok (.if_icmp .ge 46, 3) := dk_162 0 46 (dk_at dksX0_textsOf_0 18 rfl rfl)
theorem dX0_textsOf_21 : decode cX0_textsOf 21 = .ok (.aload_n 0, 1) := dk_42 (dk_at dksX0_textsOf_0 21 rfl rfl)
theorem dX0_textsOf_22 : decode cX0_textsOf 22 = .ok (.iload 6, 2) := dk_21 6 (dk_at dksX0_textsOf_0 22 rfl rfl)
theorem dX0_textsOf_24 : decode cX0_textsOf 24 = .ok (.putfield 328, 3) := dk_181 1 72 (dk_at dksX0_textsOf_1 0 rfl rfl)
theorem dX0_textsOf_27 : decode cX0_textsOf 27 = .ok (.iload 5, 2) := dk_21 5 (dk_at dksX0_textsOf_1 3 rfl rfl)
theorem dX0_textsOf_29 : decode cX0_textsOf 29 = .ok (.aload_n 0, 1) := dk_42 (dk_at dksX0_textsOf_1 5 rfl rfl)
theorem dX0_textsOf_30 : decode cX0_textsOf 30 = .ok (.aload_n 1, 1) := dk_43 (dk_at dksX0_textsOf_1 6 rfl rfl)
theorem dX0_textsOf_31 : decode cX0_textsOf 31 = .ok (.iload_n 2, 1) := dk_28 (dk_at dksX0_textsOf_1 7 rfl rfl)
theorem dX0_textsOf_32 : decode cX0_textsOf 32 = .ok (.bipush 10, 2) := dk_16 10 (dk_at dksX0_textsOf_1 8 rfl rfl)
theorem dX0_textsOf_34 : decode cX0_textsOf 34 = .ok (.idiv, 1) := dk_108 (dk_at dksX0_textsOf_1 10 rfl rfl)
theorem dX0_textsOf_35 : decode cX0_textsOf 35 = .ok (.iload_n 2, 1) := dk_28 (dk_at dksX0_textsOf_1 11 rfl rfl)
theorem dX0_textsOf_36 : decode cX0_textsOf 36 = .ok (.bipush 10, 2) := dk_16 10 (dk_at dksX0_textsOf_1 12 rfl rfl)
theorem dX0_textsOf_38 : decode cX0_textsOf 38 = .ok (.irem, 1) := dk_112 (dk_at dksX0_textsOf_1 14 rfl rfl)
theorem dX0_textsOf_39 : decode cX0_textsOf 39 = .ok (.iload_n 3, 1) := dk_29 (dk_at dksX0_textsOf_1 15 rfl rfl)
theorem dX0_textsOf_40 : decode cX0_textsOf 40 = .ok (.invokevirtual 456, 3) := dk_182 1 200 (dk_at dksX0_textsOf_1 16 rfl rfl)
theorem dX0_textsOf_43 : decode cX0_textsOf 43 = .ok (.iconst (-1), 1) := dk_2 (dk_at dksX0_textsOf_1 19 rfl rfl)
theorem dX0_textsOf_44 : decode cX0_textsOf 44 = .ok (.if_icmp .ne 10, 3) := dk_160 0 10 (dk_at dksX0_textsOf_1 20 rfl rfl)
theorem dX0_textsOf_47 : decode cX0_textsOf 47 = .ok (.iconst 1, 1) := dk_4 (dk_at dksX0_textsOf_1 23 rfl rfl)
theorem dX0_textsOf_48 : decode cX0_textsOf 48 = .ok (.iload 6, 2) := dk_21 6 (dk_at dksX0_textsOf_2 0 rfl rfl)
theorem dX0_textsOf_50 : decode cX0_textsOf 50 = .ok (.ishl, 1) := dk_120 (dk_at dksX0_textsOf_2 2 rfl rfl)
theorem dX0_textsOf_51 : decode cX0_textsOf 51 = .ok (.goto 4, 3) := dk_167 0 4 (dk_at dksX0_textsOf_2 3 rfl rfl)
theorem dX0_textsOf_54 : decode cX0_textsOf 54 = .ok (.iconst 0, 1) := dk_3 (dk_at dksX0_textsOf_2 6 rfl rfl)
theorem dX0_textsOf_55 : decode cX0_textsOf 55 = .ok (.ior, 1) := dk_128 (dk_at dksX0_textsOf_2 7 rfl rfl)
theorem dX0_textsOf_56 : decode cX0_textsOf 56 = .ok (.istore 5, 2) := dk_54 5 (dk_at dksX0_textsOf_2 8 rfl rfl)
theorem dX0_textsOf_58 : decode cX0_textsOf 58 = .ok (.iinc 6 1, 3) := dk_132 6 1 (dk_at dksX0_textsOf_2 10 rfl rfl)
theorem dX0_textsOf_61 : decode cX0_textsOf 61 = .ok (.goto (-49), 3) := dk_167 255 207 (dk_at dksX0_textsOf_2 13 rfl rfl)
theorem dX0_textsOf_64 : decode cX0_textsOf 64 = .ok (.aload_n 0, 1) := dk_42 (dk_at dksX0_textsOf_2 16 rfl rfl)
theorem dX0_textsOf_65 : decode cX0_textsOf 65 = .ok (.iload 4, 2) := dk_21 4 (dk_at dksX0_textsOf_2 17 rfl rfl)
theorem dX0_textsOf_67 : decode cX0_textsOf 67 = .ok (.putfield 328, 3) := dk_181 1 72 (dk_at dksX0_textsOf_2 19 rfl rfl)
theorem dX0_textsOf_70 : decode cX0_textsOf 70 = .ok (.goto 14, 3) := dk_167 0 14 (dk_at dksX0_textsOf_3 0 rfl rfl)
theorem dX0_textsOf_73 : decode cX0_textsOf 73 = .ok (.astore 7, 2) := dk_58 7 (dk_at dksX0_textsOf_3 3 rfl rfl)
theorem dX0_textsOf_75 : decode cX0_textsOf 75 = .ok (.aload_n 0, 1) := dk_42 (dk_at dksX0_textsOf_3 5 rfl rfl)
theorem dX0_textsOf_76 : decode cX0_textsOf 76 = .ok (.iload 4, 2) := dk_21 4 (dk_at dksX0_textsOf_3 6 rfl rfl)
theorem dX0_textsOf_78 : decode cX0_textsOf 78 = .ok (.putfield 328, 3) := dk_181 1 72 (dk_at dksX0_textsOf_3 8 rfl rfl)
theorem dX0_textsOf_81 : decode cX0_textsOf 81 = .ok (.aload 7, 2) := dk_25 7 (dk_at dksX0_textsOf_3 11 rfl rfl)
theorem dX0_textsOf_83 : decode cX0_textsOf 83 = .ok (.athrow, 1) := dk_191 (dk_at dksX0_textsOf_3 13 rfl rfl)
theorem dX0_textsOf_84 : decode cX0_textsOf 84 = .ok (.iload 5, 2) := dk_21 5 (dk_at dksX0_textsOf_3 14 rfl rfl)
theorem dX0_textsOf_86 : decode cX0_textsOf 86 = .ok (.ireturn, 1) := dk_172 (dk_at dksX0_textsOf_3 16 rfl rfl)
abbrev cX0_film : ByteArray := prog_1_method_73_code
def yX0_film : MethodName := ⟨RX0, "film", "(IIII)I"⟩
def dkwX0_film_3 : List UInt8 := [21, 5, 42, 180, 1, 40, 21, 5, 46, 182, 1, 246, 87, 132, 5, 1, 167, 255, 231, 21, 4, 172]
abbrev dktX0_film_3 : List UInt8 := dkwX0_film_3 ++ []
def dkwX0_film_2 : List UInt8 := [182, 1, 151, 42, 27, 3, 21, 4, 182, 1, 242, 87, 3, 54, 5, 21, 5, 21, 4, 162, 0, 24, 42, 27]
abbrev dktX0_film_2 : List UInt8 := dkwX0_film_2 ++ dktX0_film_3
def dkwX0_film_1 : List UInt8 := [133, 9, 20, 1, 240, 184, 0, 14, 154, 0, 6, 16, 254, 172, 42, 28, 16, 10, 108, 28, 16, 10, 112, 29]
abbrev dktX0_film_1 : List UInt8 := dkwX0_film_1 ++ dktX0_film_2
def dkwX0_film_0 : List UInt8 := [27, 184, 1, 216, 153, 0, 31, 42, 28, 182, 1, 219, 153, 0, 23, 29, 184, 0, 57, 153, 0, 16, 21, 4]
abbrev dktX0_film_0 : List UInt8 := dkwX0_film_0 ++ dktX0_film_1
theorem dksX0_film_0 : cX0_film.data.toList.drop 0 = dktX0_film_0 := by decide +kernel
theorem dksX0_film_1 : cX0_film.data.toList.drop 24 = dktX0_film_1 := dk_seg dksX0_film_0 24 rfl rfl
theorem dksX0_film_2 : cX0_film.data.toList.drop 48 = dktX0_film_2 := dk_seg dksX0_film_1 24 rfl rfl
theorem dksX0_film_3 : cX0_film.data.toList.drop 72 = dktX0_film_3 := dk_seg dksX0_film_2 24 rfl rfl
theorem dX0_film_0 : decode cX0_film 0 = .ok (.iload_n 1, 1) := dk_27 (dk_at dksX0_film_0 0 rfl rfl)
theorem dX0_film_1 : decode cX0_film 1 = .ok (.invokestatic 472, 3) := dk_184 1 216 (dk_at dksX0_film_0 1 rfl rfl)
theorem dX0_film_4 : decode cX0_film 4 = .ok (.ifCond .eq 31, 3) := dk_153 0 31 (dk_at dksX0_film_0 4 rfl rfl)
theorem dX0_film_7 : decode cX0_film 7 = .ok (.aload_n 0, 1) := dk_42 (dk_at dksX0_film_0 7 rfl rfl)
theorem dX0_film_8 : decode cX0_film 8 = .ok (.iload_n 2, 1) := dk_28 (dk_at dksX0_film_0 8 rfl rfl)
theorem dX0_film_9 : decode cX0_film 9 = .ok (.invokevirtual 475, 3) := dk_182 1 219 (dk_at dksX0_film_0 9 rfl rfl)
theorem dX0_film_12 : decode cX0_film 12 = .ok (.ifCond .eq 23, 3) := dk_153 0 23 (dk_at dksX0_film_0 12 rfl rfl)
theorem dX0_film_15 : decode cX0_film 15 = .ok (.iload_n 3, 1) := dk_29 (dk_at dksX0_film_0 15 rfl rfl)
theorem dX0_film_16 : decode cX0_film 16 = .ok (.invokestatic 57, 3) := dk_184 0 57 (dk_at dksX0_film_0 16 rfl rfl)
theorem dX0_film_19 : decode cX0_film 19 = .ok (.ifCond .eq 16, 3) := dk_153 0 16 (dk_at dksX0_film_0 19 rfl rfl)
theorem dX0_film_22 : decode cX0_film 22 = .ok (.iload 4, 2) := dk_21 4 (dk_at dksX0_film_0 22 rfl rfl)
theorem dX0_film_24 : decode cX0_film 24 = .ok (.i2l, 1) := dk_133 (dk_at dksX0_film_1 0 rfl rfl)
theorem dX0_film_25 : decode cX0_film 25 = .ok (.lconst 0, 1) := dk_9 (dk_at dksX0_film_1 1 rfl rfl)
theorem dX0_film_26 : decode cX0_film 26 = .ok (.ldc2_w 496, 3) := dk_20 1 240 (dk_at dksX0_film_1 2 rfl rfl)
theorem dX0_film_29 : decode cX0_film 29 = .ok (.invokestatic 14, 3) := dk_184 0 14 (dk_at dksX0_film_1 5 rfl rfl)
theorem dX0_film_32 : decode cX0_film 32 = .ok (.ifCond .ne 6, 3) := dk_154 0 6 (dk_at dksX0_film_1 8 rfl rfl)
theorem dX0_film_35 : decode cX0_film 35 = .ok (.bipush (-2), 2) := dk_16 254 (dk_at dksX0_film_1 11 rfl rfl)
theorem dX0_film_37 : decode cX0_film 37 = .ok (.ireturn, 1) := dk_172 (dk_at dksX0_film_1 13 rfl rfl)
theorem dX0_film_38 : decode cX0_film 38 = .ok (.aload_n 0, 1) := dk_42 (dk_at dksX0_film_1 14 rfl rfl)
theorem dX0_film_39 : decode cX0_film 39 = .ok (.iload_n 2, 1) := dk_28 (dk_at dksX0_film_1 15 rfl rfl)
theorem dX0_film_40 : decode cX0_film 40 = .ok (.bipush 10, 2) := dk_16 10 (dk_at dksX0_film_1 16 rfl rfl)
theorem dX0_film_42 : decode cX0_film 42 = .ok (.idiv, 1) := dk_108 (dk_at dksX0_film_1 18 rfl rfl)
theorem dX0_film_43 : decode cX0_film 43 = .ok (.iload_n 2, 1) := dk_28 (dk_at dksX0_film_1 19 rfl rfl)
theorem dX0_film_44 : decode cX0_film 44 = .ok (.bipush 10, 2) := dk_16 10 (dk_at dksX0_film_1 20 rfl rfl)
theorem dX0_film_46 : decode cX0_film 46 = .ok (.irem, 1) := dk_112 (dk_at dksX0_film_1 22 rfl rfl)
theorem dX0_film_47 : decode cX0_film 47 = .ok (.iload_n 3, 1) := dk_29 (dk_at dksX0_film_1 23 rfl rfl)
theorem dX0_film_48 : decode cX0_film 48 = .ok (.invokevirtual 407, 3) := dk_182 1 151 (dk_at dksX0_film_2 0 rfl rfl)
theorem dX0_film_51 : decode cX0_film 51 = .ok (.aload_n 0, 1) := dk_42 (dk_at dksX0_film_2 3 rfl rfl)
theorem dX0_film_52 : decode cX0_film 52 = .ok (.iload_n 1, 1) := dk_27 (dk_at dksX0_film_2 4 rfl rfl)
theorem dX0_film_53 : decode cX0_film 53 = .ok (.iconst 0, 1) := dk_3 (dk_at dksX0_film_2 5 rfl rfl)
theorem dX0_film_54 : decode cX0_film 54 = .ok (.iload 4, 2) := dk_21 4 (dk_at dksX0_film_2 6 rfl rfl)
theorem dX0_film_56 : decode cX0_film 56 = .ok (.invokevirtual 498, 3) := dk_182 1 242 (dk_at dksX0_film_2 8 rfl rfl)
theorem dX0_film_59 : decode cX0_film 59 = .ok (.pop, 1) := dk_87 (dk_at dksX0_film_2 11 rfl rfl)
theorem dX0_film_60 : decode cX0_film 60 = .ok (.iconst 0, 1) := dk_3 (dk_at dksX0_film_2 12 rfl rfl)
theorem dX0_film_61 : decode cX0_film 61 = .ok (.istore 5, 2) := dk_54 5 (dk_at dksX0_film_2 13 rfl rfl)
theorem dX0_film_63 : decode cX0_film 63 = .ok (.iload 5, 2) := dk_21 5 (dk_at dksX0_film_2 15 rfl rfl)
theorem dX0_film_65 : decode cX0_film 65 = .ok (.iload 4, 2) := dk_21 4 (dk_at dksX0_film_2 17 rfl rfl)
theorem dX0_film_67 : decode cX0_film 67 = .ok (.if_icmp .ge 24, 3) := dk_162 0 24 (dk_at dksX0_film_2 19 rfl rfl)
theorem dX0_film_70 : decode cX0_film 70 = .ok (.aload_n 0, 1) := dk_42 (dk_at dksX0_film_2 22 rfl rfl)
theorem dX0_film_71 : decode cX0_film 71 = .ok (.iload_n 1, 1) := dk_27 (dk_at dksX0_film_2 23 rfl rfl)
theorem dX0_film_72 : decode cX0_film 72 = .ok (.iload 5, 2) := dk_21 5 (dk_at dksX0_film_3 0 rfl rfl)
theorem dX0_film_74 : decode cX0_film 74 = .ok (.aload_n 0, 1) := dk_42 (dk_at dksX0_film_3 2 rfl rfl)
theorem dX0_film_75 : decode cX0_film 75 = .ok (.getfield 296, 3) := dk_180 1 40 (dk_at dksX0_film_3 3 rfl rfl)
theorem dX0_film_78 : decode cX0_film 78 = .ok (.iload 5, 2) := dk_21 5 (dk_at dksX0_film_3 6 rfl rfl)
theorem dX0_film_80 : decode cX0_film 80 = .ok (.iaload, 1) := dk_46 (dk_at dksX0_film_3 8 rfl rfl)
theorem dX0_film_81 : decode cX0_film 81 = .ok (.invokevirtual 502, 3) := dk_182 1 246 (dk_at dksX0_film_3 9 rfl rfl)
theorem dX0_film_84 : decode cX0_film 84 = .ok (.pop, 1) := dk_87 (dk_at dksX0_film_3 12 rfl rfl)
theorem dX0_film_85 : decode cX0_film 85 = .ok (.iinc 5 1, 3) := dk_132 5 1 (dk_at dksX0_film_3 13 rfl rfl)
theorem dX0_film_88 : decode cX0_film 88 = .ok (.goto (-25), 3) := dk_167 255 231 (dk_at dksX0_film_3 16 rfl rfl)
theorem dX0_film_91 : decode cX0_film 91 = .ok (.iload 4, 2) := dk_21 4 (dk_at dksX0_film_3 19 rfl rfl)
theorem dX0_film_93 : decode cX0_film 93 = .ok (.ireturn, 1) := dk_172 (dk_at dksX0_film_3 21 rfl rfl)
abbrev cX0_sheet : ByteArray := prog_1_method_86_code
def yX0_sheet : MethodName := ⟨RX0, "sheet", "(III)I"⟩
def dkwX0_sheet_3 : List UInt8 := [16, 242, 172]
abbrev dktX0_sheet_3 : List UInt8 := dkwX0_sheet_3 ++ []
def dkwX0_sheet_2 : List UInt8 := [181, 1, 223, 4, 172, 42, 180, 1, 59, 27, 50, 28, 29, 184, 2, 26, 181, 1, 223, 4, 172, 58, 4]
abbrev dktX0_sheet_2 : List UInt8 := dkwX0_sheet_2 ++ dktX0_sheet_3
def dkwX0_sheet_1 : List UInt8 := [159, 0, 12, 29, 16, 40, 164, 0, 6, 16, 254, 172, 28, 2, 160, 0, 15, 42, 180, 1, 59, 27, 50, 1]
abbrev dktX0_sheet_1 : List UInt8 := dkwX0_sheet_1 ++ dktX0_sheet_2
def dkwX0_sheet_0 : List UInt8 := [27, 184, 1, 216, 153, 0, 28, 28, 133, 20, 2, 22, 20, 2, 24, 184, 0, 14, 153, 0, 14, 28, 2]
abbrev dktX0_sheet_0 : List UInt8 := dkwX0_sheet_0 ++ dktX0_sheet_1
theorem dksX0_sheet_0 : cX0_sheet.data.toList.drop 0 = dktX0_sheet_0 := by decide +kernel
theorem dksX0_sheet_1 : cX0_sheet.data.toList.drop 23 = dktX0_sheet_1 := dk_seg dksX0_sheet_0 23 rfl rfl
theorem dksX0_sheet_2 : cX0_sheet.data.toList.drop 47 = dktX0_sheet_2 := dk_seg dksX0_sheet_1 24 rfl rfl
theorem dksX0_sheet_3 : cX0_sheet.data.toList.drop 70 = dktX0_sheet_3 := dk_seg dksX0_sheet_2 23 rfl rfl
theorem dX0_sheet_0 : decode cX0_sheet 0 = .ok (.iload_n 1, 1) := dk_27 (dk_at dksX0_sheet_0 0 rfl rfl)
theorem dX0_sheet_1 : decode cX0_sheet 1 = .ok (.invokestatic 472, 3) := dk_184 1 216 (dk_at dksX0_sheet_0 1 rfl rfl)
theorem dX0_sheet_4 : decode cX0_sheet 4 = .ok (.ifCond .eq 28, 3) := dk_153 0 28 (dk_at dksX0_sheet_0 4 rfl rfl)
theorem dX0_sheet_7 : decode cX0_sheet 7 = .ok (.iload_n 2, 1) := dk_28 (dk_at dksX0_sheet_0 7 rfl rfl)
theorem dX0_sheet_8 : decode cX0_sheet 8 = .ok (.i2l, 1) := dk_133 (dk_at dksX0_sheet_0 8 rfl rfl)
theorem dX0_sheet_9 : decode cX0_sheet 9 = .ok (.ldc2_w 534, 3) := dk_20 2 22 (dk_at dksX0_sheet_0 9 rfl rfl)
theorem dX0_sheet_12 : decode cX0_sheet 12 = .ok (.ldc2_w 536, 3) := dk_20 2 24 (dk_at dksX0_sheet_0 12 rfl rfl)
theorem dX0_sheet_15 : decode cX0_sheet 15 = .ok (.invokestatic 14, 3) := dk_184 0 14 (dk_at dksX0_sheet_0 15 rfl rfl)
theorem dX0_sheet_18 : decode cX0_sheet 18 = .ok (.ifCond .eq 14, 3) := dk_153 0 14 (dk_at dksX0_sheet_0 18 rfl rfl)
theorem dX0_sheet_21 : decode cX0_sheet 21 = .ok (.iload_n 2, 1) := dk_28 (dk_at dksX0_sheet_0 21 rfl rfl)
theorem dX0_sheet_22 : decode cX0_sheet 22 = .ok (.iconst (-1), 1) := dk_2 (dk_at dksX0_sheet_0 22 rfl rfl)
theorem dX0_sheet_23 : decode cX0_sheet 23 = .ok (.if_icmp .eq 12, 3) := dk_159 0 12 (dk_at dksX0_sheet_1 0 rfl rfl)
theorem dX0_sheet_26 : decode cX0_sheet 26 = .ok (.iload_n 3, 1) := dk_29 (dk_at dksX0_sheet_1 3 rfl rfl)
theorem dX0_sheet_27 : decode cX0_sheet 27 = .ok (.bipush 40, 2) := dk_16 40 (dk_at dksX0_sheet_1 4 rfl rfl)
theorem dX0_sheet_29 : decode cX0_sheet 29 = .ok (.if_icmp .le 6, 3) := dk_164 0 6 (dk_at dksX0_sheet_1 6 rfl rfl)
theorem dX0_sheet_32 : decode cX0_sheet 32 = .ok (.bipush (-2), 2) := dk_16 254 (dk_at dksX0_sheet_1 9 rfl rfl)
theorem dX0_sheet_34 : decode cX0_sheet 34 = .ok (.ireturn, 1) := dk_172 (dk_at dksX0_sheet_1 11 rfl rfl)
theorem dX0_sheet_35 : decode cX0_sheet 35 = .ok (.iload_n 2, 1) := dk_28 (dk_at dksX0_sheet_1 12 rfl rfl)
theorem dX0_sheet_36 : decode cX0_sheet 36 = .ok (.iconst (-1), 1) := dk_2 (dk_at dksX0_sheet_1 13 rfl rfl)
theorem dX0_sheet_37 : decode cX0_sheet 37 = .ok (.if_icmp .ne 15, 3) := dk_160 0 15 (dk_at dksX0_sheet_1 14 rfl rfl)
theorem dX0_sheet_40 : decode cX0_sheet 40 = .ok (.aload_n 0, 1) := dk_42 (dk_at dksX0_sheet_1 17 rfl rfl)
theorem dX0_sheet_41 : decode cX0_sheet 41 = .ok (.getfield 315, 3) := dk_180 1 59 (dk_at dksX0_sheet_1 18 rfl rfl)
theorem dX0_sheet_44 : decode cX0_sheet 44 = .ok (.iload_n 1, 1) := dk_27 (dk_at dksX0_sheet_1 21 rfl rfl)
theorem dX0_sheet_45 : decode cX0_sheet 45 = .ok (.aaload, 1) := dk_50 (dk_at dksX0_sheet_1 22 rfl rfl)
theorem dX0_sheet_46 : decode cX0_sheet 46 = .ok (.aconst_null, 1) := dk_1 (dk_at dksX0_sheet_1 23 rfl rfl)
theorem dX0_sheet_47 : decode cX0_sheet 47 = .ok (.putfield 479, 3) := dk_181 1 223 (dk_at dksX0_sheet_2 0 rfl rfl)
theorem dX0_sheet_50 : decode cX0_sheet 50 = .ok (.iconst 1, 1) := dk_4 (dk_at dksX0_sheet_2 3 rfl rfl)
theorem dX0_sheet_51 : decode cX0_sheet 51 = .ok (.ireturn, 1) := dk_172 (dk_at dksX0_sheet_2 4 rfl rfl)
theorem dX0_sheet_52 : decode cX0_sheet 52 = .ok (.aload_n 0, 1) := dk_42 (dk_at dksX0_sheet_2 5 rfl rfl)
theorem dX0_sheet_53 : decode cX0_sheet 53 = .ok (.getfield 315, 3) := dk_180 1 59 (dk_at dksX0_sheet_2 6 rfl rfl)
theorem dX0_sheet_56 : decode cX0_sheet 56 = .ok (.iload_n 1, 1) := dk_27 (dk_at dksX0_sheet_2 9 rfl rfl)
theorem dX0_sheet_57 : decode cX0_sheet 57 = .ok (.aaload, 1) := dk_50 (dk_at dksX0_sheet_2 10 rfl rfl)
theorem dX0_sheet_58 : decode cX0_sheet 58 = .ok (.iload_n 2, 1) := dk_28 (dk_at dksX0_sheet_2 11 rfl rfl)
theorem dX0_sheet_59 : decode cX0_sheet 59 = .ok (.iload_n 3, 1) := dk_29 (dk_at dksX0_sheet_2 12 rfl rfl)
theorem dX0_sheet_60 : decode cX0_sheet 60 = .ok (.invokestatic 538, 3) := dk_184 2 26 (dk_at dksX0_sheet_2 13 rfl rfl)
theorem dX0_sheet_63 : decode cX0_sheet 63 = .ok (.putfield 479, 3) := dk_181 1 223 (dk_at dksX0_sheet_2 16 rfl rfl)
theorem dX0_sheet_66 : decode cX0_sheet 66 = .ok (.iconst 1, 1) := dk_4 (dk_at dksX0_sheet_2 19 rfl rfl)
theorem dX0_sheet_67 : decode cX0_sheet 67 = .ok (.ireturn, 1) := dk_172 (dk_at dksX0_sheet_2 20 rfl rfl)
theorem dX0_sheet_68 : decode cX0_sheet 68 = .ok (.astore 4, 2) := dk_58 4 (dk_at dksX0_sheet_2 21 rfl rfl)
theorem dX0_sheet_70 : decode cX0_sheet 70 = .ok (.bipush (-14), 2) := dk_16 242 (dk_at dksX0_sheet_3 0 rfl rfl)
theorem dX0_sheet_72 : decode cX0_sheet 72 = .ok (.ireturn, 1) := dk_172 (dk_at dksX0_sheet_3 2 rfl rfl)
abbrev cX0_rowOf : ByteArray := prog_1_method_85_code
def yX0_rowOf : MethodName := ⟨RX0, "rowOf", "(II)Ljava/lang/Object;"⟩
def dkwX0_rowOf_2 : List UInt8 := [27, 188, 8, 176, 27, 188, 9, 176, 27, 188, 10, 176]
abbrev dktX0_rowOf_2 : List UInt8 := dkwX0_rowOf_2 ++ []
def dkwX0_rowOf_1 : List UInt8 := [171, 0, 0, 0, 0, 0, 35, 0, 0, 0, 2, 0, 0, 0, 0, 0, 0, 0, 27, 0, 0, 0, 1, 0, 0, 0, 31]
abbrev dktX0_rowOf_1 : List UInt8 := dkwX0_rowOf_1 ++ dktX0_rowOf_2
def dkwX0_rowOf_0 : List UInt8 := [26]
abbrev dktX0_rowOf_0 : List UInt8 := dkwX0_rowOf_0 ++ dktX0_rowOf_1
theorem dksX0_rowOf_0 : cX0_rowOf.data.toList.drop 0 = dktX0_rowOf_0 := by decide +kernel
theorem dksX0_rowOf_1 : cX0_rowOf.data.toList.drop 1 = dktX0_rowOf_1 := dk_seg dksX0_rowOf_0 1 rfl rfl
theorem dksX0_rowOf_2 : cX0_rowOf.data.toList.drop 28 = dktX0_rowOf_2 := dk_seg dksX0_rowOf_1 27 rfl rfl
theorem dX0_rowOf_0 : decode cX0_rowOf 0 = .ok (.iload_n 0, 1) := dk_26 (dk_at dksX0_rowOf_0 0 rfl rfl)
theorem dX0_rowOf_1 : decode cX0_rowOf 1 = .ok (.lookupswitch 35 #[(0, 27), (1, 31)], 27) := by decide +kernel
theorem dX0_rowOf_28 : decode cX0_rowOf 28 = .ok (.iload_n 1, 1) := dk_27 (dk_at dksX0_rowOf_2 0 rfl rfl)
theorem dX0_rowOf_29 : decode cX0_rowOf 29 = .ok (.newarray .byte, 2) := dk_188_8 (dk_at dksX0_rowOf_2 1 rfl rfl)
theorem dX0_rowOf_31 : decode cX0_rowOf 31 = .ok (.areturn, 1) := dk_176 (dk_at dksX0_rowOf_2 3 rfl rfl)
theorem dX0_rowOf_32 : decode cX0_rowOf 32 = .ok (.iload_n 1, 1) := dk_27 (dk_at dksX0_rowOf_2 4 rfl rfl)
theorem dX0_rowOf_33 : decode cX0_rowOf 33 = .ok (.newarray .short, 2) := dk_188_9 (dk_at dksX0_rowOf_2 5 rfl rfl)
theorem dX0_rowOf_35 : decode cX0_rowOf 35 = .ok (.areturn, 1) := dk_176 (dk_at dksX0_rowOf_2 7 rfl rfl)
theorem dX0_rowOf_36 : decode cX0_rowOf 36 = .ok (.iload_n 1, 1) := dk_27 (dk_at dksX0_rowOf_2 8 rfl rfl)
theorem dX0_rowOf_37 : decode cX0_rowOf 37 = .ok (.newarray .int, 2) := dk_188_10 (dk_at dksX0_rowOf_2 9 rfl rfl)
theorem dX0_rowOf_39 : decode cX0_rowOf 39 = .ok (.areturn, 1) := dk_176 (dk_at dksX0_rowOf_2 11 rfl rfl)
abbrev cX0_cell : ByteArray := prog_1_method_88_code
def yX0_cell : MethodName := ⟨RX0, "cell", "(III)I"⟩
def dkwX0_cell_1 : List UInt8 := [172, 58, 4, 16, 245, 172, 58, 4, 16, 244, 172]
abbrev dktX0_cell_1 : List UInt8 := dkwX0_cell_1 ++ []
def dkwX0_cell_0 : List UInt8 := [27, 184, 1, 216, 154, 0, 6, 16, 254, 172, 42, 180, 1, 59, 27, 50, 180, 1, 223, 28, 29, 184, 2, 39]
abbrev dktX0_cell_0 : List UInt8 := dkwX0_cell_0 ++ dktX0_cell_1
theorem dksX0_cell_0 : cX0_cell.data.toList.drop 0 = dktX0_cell_0 := by decide +kernel
theorem dksX0_cell_1 : cX0_cell.data.toList.drop 24 = dktX0_cell_1 := dk_seg dksX0_cell_0 24 rfl rfl
theorem dX0_cell_0 : decode cX0_cell 0 = .ok (.iload_n 1, 1) := dk_27 (dk_at dksX0_cell_0 0 rfl rfl)
theorem dX0_cell_1 : decode cX0_cell 1 = .ok (.invokestatic 472, 3) := dk_184 1 216 (dk_at dksX0_cell_0 1 rfl rfl)
theorem dX0_cell_4 : decode cX0_cell 4 = .ok (.ifCond .ne 6, 3) := dk_154 0 6 (dk_at dksX0_cell_0 4 rfl rfl)
theorem dX0_cell_7 : decode cX0_cell 7 = .ok (.bipush (-2), 2) := dk_16 254 (dk_at dksX0_cell_0 7 rfl rfl)
theorem dX0_cell_9 : decode cX0_cell 9 = .ok (.ireturn, 1) := dk_172 (dk_at dksX0_cell_0 9 rfl rfl)
theorem dX0_cell_10 : decode cX0_cell 10 = .ok (.aload_n 0, 1) := dk_42 (dk_at dksX0_cell_0 10 rfl rfl)
theorem dX0_cell_11 : decode cX0_cell 11 = .ok (.getfield 315, 3) := dk_180 1 59 (dk_at dksX0_cell_0 11 rfl rfl)
theorem dX0_cell_14 : decode cX0_cell 14 = .ok (.iload_n 1, 1) := dk_27 (dk_at dksX0_cell_0 14 rfl rfl)
theorem dX0_cell_15 : decode cX0_cell 15 = .ok (.aaload, 1) := dk_50 (dk_at dksX0_cell_0 15 rfl rfl)
theorem dX0_cell_16 : decode cX0_cell 16 = .ok (.getfield 479, 3) := dk_180 1 223 (dk_at dksX0_cell_0 16 rfl rfl)
theorem dX0_cell_19 : decode cX0_cell 19 = .ok (.iload_n 2, 1) := dk_28 (dk_at dksX0_cell_0 19 rfl rfl)
theorem dX0_cell_20 : decode cX0_cell 20 = .ok (.iload_n 3, 1) := dk_29 (dk_at dksX0_cell_0 20 rfl rfl)
theorem dX0_cell_21 : decode cX0_cell 21 = .ok (.invokestatic 551, 3) := dk_184 2 39 (dk_at dksX0_cell_0 21 rfl rfl)
theorem dX0_cell_24 : decode cX0_cell 24 = .ok (.ireturn, 1) := dk_172 (dk_at dksX0_cell_1 0 rfl rfl)
theorem dX0_cell_25 : decode cX0_cell 25 = .ok (.astore 4, 2) := dk_58 4 (dk_at dksX0_cell_1 1 rfl rfl)
theorem dX0_cell_27 : decode cX0_cell 27 = .ok (.bipush (-11), 2) := dk_16 245 (dk_at dksX0_cell_1 3 rfl rfl)
theorem dX0_cell_29 : decode cX0_cell 29 = .ok (.ireturn, 1) := dk_172 (dk_at dksX0_cell_1 5 rfl rfl)
theorem dX0_cell_30 : decode cX0_cell 30 = .ok (.astore 4, 2) := dk_58 4 (dk_at dksX0_cell_1 6 rfl rfl)
theorem dX0_cell_32 : decode cX0_cell 32 = .ok (.bipush (-12), 2) := dk_16 244 (dk_at dksX0_cell_1 8 rfl rfl)
theorem dX0_cell_34 : decode cX0_cell 34 = .ok (.ireturn, 1) := dk_172 (dk_at dksX0_cell_1 10 rfl rfl)
abbrev cX0_put : ByteArray := prog_1_method_87_code
def yX0_put : MethodName := ⟨RX0, "put", "(Ljava/lang/Object;II)I"⟩
def dkwX0_put_2 : List UInt8 := [28, 147, 86, 167, 0, 19, 27, 42, 192, 2, 38, 190, 184, 2, 33, 42, 192, 2, 38, 27, 28, 79, 4, 172]
abbrev dktX0_put_2 : List UInt8 := dkwX0_put_2 ++ []
def dkwX0_put_1 : List UInt8 := [167, 0, 46, 42, 193, 2, 36, 153, 0, 23, 27, 42, 192, 2, 36, 190, 184, 2, 33, 42, 192, 2, 36, 27]
abbrev dktX0_put_1 : List UInt8 := dkwX0_put_1 ++ dktX0_put_2
def dkwX0_put_0 : List UInt8 := [42, 193, 2, 32, 153, 0, 23, 27, 42, 192, 2, 32, 190, 184, 2, 33, 42, 192, 2, 32, 27, 28, 145, 84]
abbrev dktX0_put_0 : List UInt8 := dkwX0_put_0 ++ dktX0_put_1
theorem dksX0_put_0 : cX0_put.data.toList.drop 0 = dktX0_put_0 := by decide +kernel
theorem dksX0_put_1 : cX0_put.data.toList.drop 24 = dktX0_put_1 := dk_seg dksX0_put_0 24 rfl rfl
theorem dksX0_put_2 : cX0_put.data.toList.drop 48 = dktX0_put_2 := dk_seg dksX0_put_1 24 rfl rfl
theorem dX0_put_0 : decode cX0_put 0 = .ok (.aload_n 0, 1) := dk_42 (dk_at dksX0_put_0 0 rfl rfl)
theorem dX0_put_1 : decode cX0_put 1 = .ok (.instanceof 544, 3) := dk_193 2 32 (dk_at dksX0_put_0 1 rfl rfl)
theorem dX0_put_4 : decode cX0_put 4 = .ok (.ifCond .eq 23, 3) := dk_153 0 23 (dk_at dksX0_put_0 4 rfl rfl)
theorem dX0_put_7 : decode cX0_put 7 = .ok (.iload_n 1, 1) := dk_27 (dk_at dksX0_put_0 7 rfl rfl)
theorem dX0_put_8 : decode cX0_put 8 = .ok (.aload_n 0, 1) := dk_42 (dk_at dksX0_put_0 8 rfl rfl)
theorem dX0_put_9 : decode cX0_put 9 = .ok (.checkcast 544, 3) := dk_192 2 32 (dk_at dksX0_put_0 9 rfl rfl)
theorem dX0_put_12 : decode cX0_put 12 = .ok (.arraylength, 1) := dk_190 (dk_at dksX0_put_0 12 rfl rfl)
theorem dX0_put_13 : decode cX0_put 13 = .ok (.invokestatic 545, 3) := dk_184 2 33 (dk_at dksX0_put_0 13 rfl rfl)
theorem dX0_put_16 : decode cX0_put 16 = .ok (.aload_n 0, 1) := dk_42 (dk_at dksX0_put_0 16 rfl rfl)
theorem dX0_put_17 : decode cX0_put 17 = .ok (.checkcast 544, 3) := dk_192 2 32 (dk_at dksX0_put_0 17 rfl rfl)
theorem dX0_put_20 : decode cX0_put 20 = .ok (.iload_n 1, 1) := dk_27 (dk_at dksX0_put_0 20 rfl rfl)
theorem dX0_put_21 : decode cX0_put 21 = .ok (.iload_n 2, 1) := dk_28 (dk_at dksX0_put_0 21 rfl rfl)
theorem dX0_put_22 : decode cX0_put 22 = .ok (.i2b, 1) := dk_145 (dk_at dksX0_put_0 22 rfl rfl)
theorem dX0_put_23 : decode cX0_put 23 = .ok (.bastore, 1) := dk_84 (dk_at dksX0_put_0 23 rfl rfl)
theorem dX0_put_24 : decode cX0_put 24 = .ok (.goto 46, 3) := dk_167 0 46 (dk_at dksX0_put_1 0 rfl rfl)
theorem dX0_put_27 : decode cX0_put 27 = .ok (.aload_n 0, 1) := dk_42 (dk_at dksX0_put_1 3 rfl rfl)
theorem dX0_put_28 : decode cX0_put 28 = .ok (.instanceof 548, 3) := dk_193 2 36 (dk_at dksX0_put_1 4 rfl rfl)
theorem dX0_put_31 : decode cX0_put 31 = .ok (.ifCond .eq 23, 3) := dk_153 0 23 (dk_at dksX0_put_1 7 rfl rfl)
theorem dX0_put_34 : decode cX0_put 34 = .ok (.iload_n 1, 1) := dk_27 (dk_at dksX0_put_1 10 rfl rfl)
theorem dX0_put_35 : decode cX0_put 35 = .ok (.aload_n 0, 1) := dk_42 (dk_at dksX0_put_1 11 rfl rfl)
theorem dX0_put_36 : decode cX0_put 36 = .ok (.checkcast 548, 3) := dk_192 2 36 (dk_at dksX0_put_1 12 rfl rfl)
theorem dX0_put_39 : decode cX0_put 39 = .ok (.arraylength, 1) := dk_190 (dk_at dksX0_put_1 15 rfl rfl)
theorem dX0_put_40 : decode cX0_put 40 = .ok (.invokestatic 545, 3) := dk_184 2 33 (dk_at dksX0_put_1 16 rfl rfl)
theorem dX0_put_43 : decode cX0_put 43 = .ok (.aload_n 0, 1) := dk_42 (dk_at dksX0_put_1 19 rfl rfl)
theorem dX0_put_44 : decode cX0_put 44 = .ok (.checkcast 548, 3) := dk_192 2 36 (dk_at dksX0_put_1 20 rfl rfl)
theorem dX0_put_47 : decode cX0_put 47 = .ok (.iload_n 1, 1) := dk_27 (dk_at dksX0_put_1 23 rfl rfl)
theorem dX0_put_48 : decode cX0_put 48 = .ok (.iload_n 2, 1) := dk_28 (dk_at dksX0_put_2 0 rfl rfl)
theorem dX0_put_49 : decode cX0_put 49 = .ok (.i2s, 1) := dk_147 (dk_at dksX0_put_2 1 rfl rfl)
theorem dX0_put_50 : decode cX0_put 50 = .ok (.sastore, 1) := dk_86 (dk_at dksX0_put_2 2 rfl rfl)
theorem dX0_put_51 : decode cX0_put 51 = .ok (.goto 19, 3) := dk_167 0 19 (dk_at dksX0_put_2 3 rfl rfl)
theorem dX0_put_54 : decode cX0_put 54 = .ok (.iload_n 1, 1) := dk_27 (dk_at dksX0_put_2 6 rfl rfl)
theorem dX0_put_55 : decode cX0_put 55 = .ok (.aload_n 0, 1) := dk_42 (dk_at dksX0_put_2 7 rfl rfl)
theorem dX0_put_56 : decode cX0_put 56 = .ok (.checkcast 550, 3) := dk_192 2 38 (dk_at dksX0_put_2 8 rfl rfl)
theorem dX0_put_59 : decode cX0_put 59 = .ok (.arraylength, 1) := dk_190 (dk_at dksX0_put_2 11 rfl rfl)
theorem dX0_put_60 : decode cX0_put 60 = .ok (.invokestatic 545, 3) := dk_184 2 33 (dk_at dksX0_put_2 12 rfl rfl)
theorem dX0_put_63 : decode cX0_put 63 = .ok (.aload_n 0, 1) := dk_42 (dk_at dksX0_put_2 15 rfl rfl)
theorem dX0_put_64 : decode cX0_put 64 = .ok (.checkcast 550, 3) := dk_192 2 38 (dk_at dksX0_put_2 16 rfl rfl)
theorem dX0_put_67 : decode cX0_put 67 = .ok (.iload_n 1, 1) := dk_27 (dk_at dksX0_put_2 19 rfl rfl)
theorem dX0_put_68 : decode cX0_put 68 = .ok (.iload_n 2, 1) := dk_28 (dk_at dksX0_put_2 20 rfl rfl)
theorem dX0_put_69 : decode cX0_put 69 = .ok (.iastore, 1) := dk_79 (dk_at dksX0_put_2 21 rfl rfl)
theorem dX0_put_70 : decode cX0_put 70 = .ok (.iconst 1, 1) := dk_4 (dk_at dksX0_put_2 22 rfl rfl)
theorem dX0_put_71 : decode cX0_put 71 = .ok (.ireturn, 1) := dk_172 (dk_at dksX0_put_2 23 rfl rfl)
abbrev cX0_drawn : ByteArray := prog_1_method_76_code
def yX0_drawn : MethodName := ⟨RX0, "drawn", "(III)I"⟩
def dkwX0_drawn_2 : List UInt8 := [172, 58, 5, 42, 182, 1, 253, 25, 5, 191]
abbrev dktX0_drawn_2 : List UInt8 := dkwX0_drawn_2 ++ []
def dkwX0_drawn_1 : List UInt8 := [28, 16, 10, 108, 28, 16, 10, 112, 29, 182, 1, 151, 42, 180, 1, 131, 54, 4, 42, 182, 1, 253, 21, 4]
abbrev dktX0_drawn_1 : List UInt8 := dkwX0_drawn_1 ++ dktX0_drawn_2
def dkwX0_drawn_0 : List UInt8 := [42, 28, 182, 1, 219, 153, 0, 10, 29, 184, 0, 57, 154, 0, 6, 16, 254, 172, 42, 27, 182, 1, 250, 42]
abbrev dktX0_drawn_0 : List UInt8 := dkwX0_drawn_0 ++ dktX0_drawn_1
theorem dksX0_drawn_0 : cX0_drawn.data.toList.drop 0 = dktX0_drawn_0 := by decide +kernel
theorem dksX0_drawn_1 : cX0_drawn.data.toList.drop 24 = dktX0_drawn_1 := dk_seg dksX0_drawn_0 24 rfl rfl
theorem dksX0_drawn_2 : cX0_drawn.data.toList.drop 48 = dktX0_drawn_2 := dk_seg dksX0_drawn_1 24 rfl rfl
theorem dX0_drawn_0 : decode cX0_drawn 0 = .ok (.aload_n 0, 1) := dk_42 (dk_at dksX0_drawn_0 0 rfl rfl)
theorem dX0_drawn_1 : decode cX0_drawn 1 = .ok (.iload_n 2, 1) := dk_28 (dk_at dksX0_drawn_0 1 rfl rfl)
theorem dX0_drawn_2 : decode cX0_drawn 2 = .ok (.invokevirtual 475, 3) := dk_182 1 219 (dk_at dksX0_drawn_0 2 rfl rfl)
theorem dX0_drawn_5 : decode cX0_drawn 5 = .ok (.ifCond .eq 10, 3) := dk_153 0 10 (dk_at dksX0_drawn_0 5 rfl rfl)
theorem dX0_drawn_8 : decode cX0_drawn 8 = .ok (.iload_n 3, 1) := dk_29 (dk_at dksX0_drawn_0 8 rfl rfl)
theorem dX0_drawn_9 : decode cX0_drawn 9 = .ok (.invokestatic 57, 3) := dk_184 0 57 (dk_at dksX0_drawn_0 9 rfl rfl)
theorem dX0_drawn_12 : decode cX0_drawn 12 = .ok (.ifCond .ne 6, 3) := dk_154 0 6 (dk_at dksX0_drawn_0 12 rfl rfl)
theorem dX0_drawn_15 : decode cX0_drawn 15 = .ok (.bipush (-2), 2) := dk_16 254 (dk_at dksX0_drawn_0 15 rfl rfl)
theorem dX0_drawn_17 : decode cX0_drawn 17 = .ok (.ireturn, 1) := dk_172 (dk_at dksX0_drawn_0 17 rfl rfl)
theorem dX0_drawn_18 : decode cX0_drawn 18 = .ok (.aload_n 0, 1) := dk_42 (dk_at dksX0_drawn_0 18 rfl rfl)
theorem dX0_drawn_19 : decode cX0_drawn 19 = .ok (.iload_n 1, 1) := dk_27 (dk_at dksX0_drawn_0 19 rfl rfl)
theorem dX0_drawn_20 : decode cX0_drawn 20 = .ok (.invokevirtual 506, 3) := dk_182 1 250 (dk_at dksX0_drawn_0 20 rfl rfl)
theorem dX0_drawn_23 : decode cX0_drawn 23 = .ok (.aload_n 0, 1) := dk_42 (dk_at dksX0_drawn_0 23 rfl rfl)
theorem dX0_drawn_24 : decode cX0_drawn 24 = .ok (.iload_n 2, 1) := dk_28 (dk_at dksX0_drawn_1 0 rfl rfl)
theorem dX0_drawn_25 : decode cX0_drawn 25 = .ok (.bipush 10, 2) := dk_16 10 (dk_at dksX0_drawn_1 1 rfl rfl)
theorem dX0_drawn_27 : decode cX0_drawn 27 = .ok (.idiv, 1) := dk_108 (dk_at dksX0_drawn_1 3 rfl rfl)
theorem dX0_drawn_28 : decode cX0_drawn 28 = .ok (.iload_n 2, 1) := dk_28 (dk_at dksX0_drawn_1 4 rfl rfl)
theorem dX0_drawn_29 : decode cX0_drawn 29 = .ok (.bipush 10, 2) := dk_16 10 (dk_at dksX0_drawn_1 5 rfl rfl)
theorem dX0_drawn_31 : decode cX0_drawn 31 = .ok (.irem, 1) := dk_112 (dk_at dksX0_drawn_1 7 rfl rfl)
theorem dX0_drawn_32 : decode cX0_drawn 32 = .ok (.iload_n 3, 1) := dk_29 (dk_at dksX0_drawn_1 8 rfl rfl)
theorem dX0_drawn_33 : decode cX0_drawn 33 = .ok (.invokevirtual 407, 3) := dk_182 1 151 (dk_at dksX0_drawn_1 9 rfl rfl)
theorem dX0_drawn_36 : decode cX0_drawn 36 = .ok (.aload_n 0, 1) := dk_42 (dk_at dksX0_drawn_1 12 rfl rfl)
theorem dX0_drawn_37 : decode cX0_drawn 37 = .ok (.getfield 387, 3) := dk_180 1 131 (dk_at dksX0_drawn_1 13 rfl rfl)
theorem dX0_drawn_40 : decode cX0_drawn 40 = .ok (.istore 4, 2) := dk_54 4 (dk_at dksX0_drawn_1 16 rfl rfl)
theorem dX0_drawn_42 : decode cX0_drawn 42 = .ok (.aload_n 0, 1) := dk_42 (dk_at dksX0_drawn_1 18 rfl rfl)
theorem dX0_drawn_43 : decode cX0_drawn 43 = .ok (.invokevirtual 509, 3) := dk_182 1 253 (dk_at dksX0_drawn_1 19 rfl rfl)
theorem dX0_drawn_46 : decode cX0_drawn 46 = .ok (.iload 4, 2) := dk_21 4 (dk_at dksX0_drawn_1 22 rfl rfl)
theorem dX0_drawn_48 : decode cX0_drawn 48 = .ok (.ireturn, 1) := dk_172 (dk_at dksX0_drawn_2 0 rfl rfl)
theorem dX0_drawn_49 : decode cX0_drawn 49 = .ok (.astore 5, 2) := dk_58 5 (dk_at dksX0_drawn_2 1 rfl rfl)
theorem dX0_drawn_51 : decode cX0_drawn 51 = .ok (.aload_n 0, 1) := dk_42 (dk_at dksX0_drawn_2 3 rfl rfl)
theorem dX0_drawn_52 : decode cX0_drawn 52 = .ok (.invokevirtual 509, 3) := dk_182 1 253 (dk_at dksX0_drawn_2 4 rfl rfl)
theorem dX0_drawn_55 : decode cX0_drawn 55 = .ok (.aload 5, 2) := dk_25 5 (dk_at dksX0_drawn_2 7 rfl rfl)
theorem dX0_drawn_57 : decode cX0_drawn 57 = .ok (.athrow, 1) := dk_191 (dk_at dksX0_drawn_2 9 rfl rfl)
abbrev cX0_drawsGoals : ByteArray := prog_1_method_74_code
def yX0_drawsGoals : MethodName := ⟨RX0, "drawsGoals", "(I)V"⟩
def dkwX0_drawsGoals_2 : List UInt8 := [16, 8, 112, 181, 0, 93, 132, 3, 1, 167, 255, 204, 177]
abbrev dktX0_drawsGoals_2 : List UInt8 := dkwX0_drawsGoals_2 ++ []
def dkwX0_drawsGoals_1 : List UInt8 := [180, 1, 44, 29, 42, 180, 0, 60, 29, 50, 180, 0, 93, 79, 42, 180, 0, 60, 29, 50, 28, 16, 9, 124]
abbrev dktX0_drawsGoals_1 : List UInt8 := dkwX0_drawsGoals_1 ++ dktX0_drawsGoals_2
def dkwX0_drawsGoals_0 : List UInt8 := [27, 61, 3, 62, 29, 42, 180, 0, 18, 162, 0, 50, 28, 19, 1, 249, 104, 17, 48, 57, 96, 61, 42]
abbrev dktX0_drawsGoals_0 : List UInt8 := dkwX0_drawsGoals_0 ++ dktX0_drawsGoals_1
theorem dksX0_drawsGoals_0 : cX0_drawsGoals.data.toList.drop 0 = dktX0_drawsGoals_0 := by decide +kernel
theorem dksX0_drawsGoals_1 : cX0_drawsGoals.data.toList.drop 23 = dktX0_drawsGoals_1 := dk_seg dksX0_drawsGoals_0 23 rfl rfl
theorem dksX0_drawsGoals_2 : cX0_drawsGoals.data.toList.drop 47 = dktX0_drawsGoals_2 := dk_seg dksX0_drawsGoals_1 24 rfl rfl
theorem dX0_drawsGoals_0 : decode cX0_drawsGoals 0 = .ok (.iload_n 1, 1) := dk_27 (dk_at dksX0_drawsGoals_0 0 rfl rfl)
theorem dX0_drawsGoals_1 : decode cX0_drawsGoals 1 = .ok (.istore_n 2, 1) := dk_61 (dk_at dksX0_drawsGoals_0 1 rfl rfl)
theorem dX0_drawsGoals_2 : decode cX0_drawsGoals 2 = .ok (.iconst 0, 1) := dk_3 (dk_at dksX0_drawsGoals_0 2 rfl rfl)
theorem dX0_drawsGoals_3 : decode cX0_drawsGoals 3 = .ok (.istore_n 3, 1) := dk_62 (dk_at dksX0_drawsGoals_0 3 rfl rfl)
theorem dX0_drawsGoals_4 : decode cX0_drawsGoals 4 = .ok (.iload_n 3, 1) := dk_29 (dk_at dksX0_drawsGoals_0 4 rfl rfl)
theorem dX0_drawsGoals_5 : decode cX0_drawsGoals 5 = .ok (.aload_n 0, 1) := dk_42 (dk_at dksX0_drawsGoals_0 5 rfl rfl)
theorem dX0_drawsGoals_6 : decode cX0_drawsGoals 6 = .ok (.getfield 18, 3) := dk_180 0 18 (dk_at dksX0_drawsGoals_0 6 rfl rfl)
theorem dX0_drawsGoals_9 : decode cX0_drawsGoals 9 = .ok (.if_icmp .ge 50, 3) := dk_162 0 50 (dk_at dksX0_drawsGoals_0 9 rfl rfl)
theorem dX0_drawsGoals_12 : decode cX0_drawsGoals 12 = .ok (.iload_n 2, 1) := dk_28 (dk_at dksX0_drawsGoals_0 12 rfl rfl)
theorem dX0_drawsGoals_13 : decode cX0_drawsGoals 13 = .ok (.ldc_w 505, 3) := dk_19 1 249 (dk_at dksX0_drawsGoals_0 13 rfl rfl)
theorem dX0_drawsGoals_16 : decode cX0_drawsGoals 16 = .ok (.imul, 1) := dk_104 (dk_at dksX0_drawsGoals_0 16 rfl rfl)
theorem dX0_drawsGoals_17 : decode cX0_drawsGoals 17 = .ok (.sipush 12345, 3) := dk_17 48 57 (dk_at dksX0_drawsGoals_0 17 rfl rfl)
theorem dX0_drawsGoals_20 : decode cX0_drawsGoals 20 = .ok (.iadd, 1) := dk_96 (dk_at dksX0_drawsGoals_0 20 rfl rfl)
theorem dX0_drawsGoals_21 : decode cX0_drawsGoals 21 = .ok (.istore_n 2, 1) := dk_61 (dk_at dksX0_drawsGoals_0 21 rfl rfl)
theorem dX0_drawsGoals_22 : decode cX0_drawsGoals 22 = .ok (.aload_n 0, 1) := dk_42 (dk_at dksX0_drawsGoals_0 22 rfl rfl)
theorem dX0_drawsGoals_23 : decode cX0_drawsGoals 23 = .ok (.getfield 300, 3) := dk_180 1 44 (dk_at dksX0_drawsGoals_1 0 rfl rfl)
theorem dX0_drawsGoals_26 : decode cX0_drawsGoals 26 = .ok (.iload_n 3, 1) := dk_29 (dk_at dksX0_drawsGoals_1 3 rfl rfl)
theorem dX0_drawsGoals_27 : decode cX0_drawsGoals 27 = .ok (.aload_n 0, 1) := dk_42 (dk_at dksX0_drawsGoals_1 4 rfl rfl)
theorem dX0_drawsGoals_28 : decode cX0_drawsGoals 28 = .ok (.getfield 60, 3) := dk_180 0 60 (dk_at dksX0_drawsGoals_1 5 rfl rfl)
theorem dX0_drawsGoals_31 : decode cX0_drawsGoals 31 = .ok (.iload_n 3, 1) := dk_29 (dk_at dksX0_drawsGoals_1 8 rfl rfl)
theorem dX0_drawsGoals_32 : decode cX0_drawsGoals 32 = .ok (.aaload, 1) := dk_50 (dk_at dksX0_drawsGoals_1 9 rfl rfl)
theorem dX0_drawsGoals_33 : decode cX0_drawsGoals 33 = .ok (.getfield 93, 3) := dk_180 0 93 (dk_at dksX0_drawsGoals_1 10 rfl rfl)
theorem dX0_drawsGoals_36 : decode cX0_drawsGoals 36 = .ok (.iastore, 1) := dk_79 (dk_at dksX0_drawsGoals_1 13 rfl rfl)
theorem dX0_drawsGoals_37 : decode cX0_drawsGoals 37 = .ok (.aload_n 0, 1) := dk_42 (dk_at dksX0_drawsGoals_1 14 rfl rfl)
theorem dX0_drawsGoals_38 : decode cX0_drawsGoals 38 = .ok (.getfield 60, 3) := dk_180 0 60 (dk_at dksX0_drawsGoals_1 15 rfl rfl)
theorem dX0_drawsGoals_41 : decode cX0_drawsGoals 41 = .ok (.iload_n 3, 1) := dk_29 (dk_at dksX0_drawsGoals_1 18 rfl rfl)
theorem dX0_drawsGoals_42 : decode cX0_drawsGoals 42 = .ok (.aaload, 1) := dk_50 (dk_at dksX0_drawsGoals_1 19 rfl rfl)
theorem dX0_drawsGoals_43 : decode cX0_drawsGoals 43 = .ok (.iload_n 2, 1) := dk_28 (dk_at dksX0_drawsGoals_1 20 rfl rfl)
theorem dX0_drawsGoals_44 : decode cX0_drawsGoals 44 = .ok (.bipush 9, 2) := dk_16 9 (dk_at dksX0_drawsGoals_1 21 rfl rfl)
theorem dX0_drawsGoals_46 : decode cX0_drawsGoals 46 = .ok (.iushr, 1) := dk_124 (dk_at dksX0_drawsGoals_1 23 rfl rfl)
theorem dX0_drawsGoals_47 : decode cX0_drawsGoals 47 = .ok (.bipush 8, 2) := dk_16 8 (dk_at dksX0_drawsGoals_2 0 rfl rfl)
theorem dX0_drawsGoals_49 : decode cX0_drawsGoals 49 = .ok (.irem, 1) := dk_112 (dk_at dksX0_drawsGoals_2 2 rfl rfl)
theorem dX0_drawsGoals_50 : decode cX0_drawsGoals 50 = .ok (.putfield 93, 3) := dk_181 0 93 (dk_at dksX0_drawsGoals_2 3 rfl rfl)
theorem dX0_drawsGoals_53 : decode cX0_drawsGoals 53 = .ok (.iinc 3 1, 3) := dk_132 3 1 (dk_at dksX0_drawsGoals_2 6 rfl rfl)
theorem dX0_drawsGoals_56 : decode cX0_drawsGoals 56 = .ok (.goto (-52), 3) := dk_167 255 204 (dk_at dksX0_drawsGoals_2 9 rfl rfl)
theorem dX0_drawsGoals_59 : decode cX0_drawsGoals 59 = .ok (.return_, 1) := dk_177 (dk_at dksX0_drawsGoals_2 12 rfl rfl)
abbrev cX0_laysGoals : ByteArray := prog_1_method_75_code
def yX0_laysGoals : MethodName := ⟨RX0, "laysGoals", "()V"⟩
def dkwX0_laysGoals_1 : List UInt8 := [181, 0, 93, 132, 1, 1, 167, 255, 230, 177]
abbrev dktX0_laysGoals_1 : List UInt8 := dkwX0_laysGoals_1 ++ []
def dkwX0_laysGoals_0 : List UInt8 := [3, 60, 27, 42, 180, 0, 18, 162, 0, 24, 42, 180, 0, 60, 27, 50, 42, 180, 1, 44, 27, 46]
abbrev dktX0_laysGoals_0 : List UInt8 := dkwX0_laysGoals_0 ++ dktX0_laysGoals_1
theorem dksX0_laysGoals_0 : cX0_laysGoals.data.toList.drop 0 = dktX0_laysGoals_0 := by decide +kernel
theorem dksX0_laysGoals_1 : cX0_laysGoals.data.toList.drop 22 = dktX0_laysGoals_1 := dk_seg dksX0_laysGoals_0 22 rfl rfl
theorem dX0_laysGoals_0 : decode cX0_laysGoals 0 = .ok (.iconst 0, 1) := dk_3 (dk_at dksX0_laysGoals_0 0 rfl rfl)
theorem dX0_laysGoals_1 : decode cX0_laysGoals 1 = .ok (.istore_n 1, 1) := dk_60 (dk_at dksX0_laysGoals_0 1 rfl rfl)
theorem dX0_laysGoals_2 : decode cX0_laysGoals 2 = .ok (.iload_n 1, 1) := dk_27 (dk_at dksX0_laysGoals_0 2 rfl rfl)
theorem dX0_laysGoals_3 : decode cX0_laysGoals 3 = .ok (.aload_n 0, 1) := dk_42 (dk_at dksX0_laysGoals_0 3 rfl rfl)
theorem dX0_laysGoals_4 : decode cX0_laysGoals 4 = .ok (.getfield 18, 3) := dk_180 0 18 (dk_at dksX0_laysGoals_0 4 rfl rfl)
theorem dX0_laysGoals_7 : decode cX0_laysGoals 7 = .ok (.if_icmp .ge 24, 3) := dk_162 0 24 (dk_at dksX0_laysGoals_0 7 rfl rfl)
theorem dX0_laysGoals_10 : decode cX0_laysGoals 10 = .ok (.aload_n 0, 1) := dk_42 (dk_at dksX0_laysGoals_0 10 rfl rfl)
theorem dX0_laysGoals_11 : decode cX0_laysGoals 11 = .ok (.getfield 60, 3) := dk_180 0 60 (dk_at dksX0_laysGoals_0 11 rfl rfl)
theorem dX0_laysGoals_14 : decode cX0_laysGoals 14 = .ok (.iload_n 1, 1) := dk_27 (dk_at dksX0_laysGoals_0 14 rfl rfl)
theorem dX0_laysGoals_15 : decode cX0_laysGoals 15 = .ok (.aaload, 1) := dk_50 (dk_at dksX0_laysGoals_0 15 rfl rfl)
theorem dX0_laysGoals_16 : decode cX0_laysGoals 16 = .ok (.aload_n 0, 1) := dk_42 (dk_at dksX0_laysGoals_0 16 rfl rfl)
theorem dX0_laysGoals_17 : decode cX0_laysGoals 17 = .ok (.getfield 300, 3) := dk_180 1 44 (dk_at dksX0_laysGoals_0 17 rfl rfl)
theorem dX0_laysGoals_20 : decode cX0_laysGoals 20 = .ok (.iload_n 1, 1) := dk_27 (dk_at dksX0_laysGoals_0 20 rfl rfl)
theorem dX0_laysGoals_21 : decode cX0_laysGoals 21 = .ok (.iaload, 1) := dk_46 (dk_at dksX0_laysGoals_0 21 rfl rfl)
theorem dX0_laysGoals_22 : decode cX0_laysGoals 22 = .ok (.putfield 93, 3) := dk_181 0 93 (dk_at dksX0_laysGoals_1 0 rfl rfl)
theorem dX0_laysGoals_25 : decode cX0_laysGoals 25 = .ok (.iinc 1 1, 3) := dk_132 1 1 (dk_at dksX0_laysGoals_1 3 rfl rfl)
theorem dX0_laysGoals_28 : decode cX0_laysGoals 28 = .ok (.goto (-26), 3) := dk_167 255 230 (dk_at dksX0_laysGoals_1 6 rfl rfl)
theorem dX0_laysGoals_31 : decode cX0_laysGoals 31 = .ok (.return_, 1) := dk_177 (dk_at dksX0_laysGoals_1 9 rfl rfl)
abbrev cX0_chance : ByteArray := prog_1_method_78_code
def yX0_chance : MethodName := ⟨RX0, "chance", "(IIII)J"⟩
def dkwX0_chance_5 : List UInt8 := [167, 0, 5, 28, 133, 22, 7, 109, 173]
abbrev dktX0_chance_5 : List UInt8 := dkwX0_chance_5 ++ []
def dkwX0_chance_4 : List UInt8 := [22, 9, 113, 55, 11, 22, 9, 55, 7, 22, 11, 55, 9, 167, 255, 234, 21, 4, 154, 0, 8, 22, 5]
abbrev dktX0_chance_4 : List UInt8 := dkwX0_chance_4 ++ dktX0_chance_5
def dkwX0_chance_3 : List UInt8 := [132, 7, 1, 167, 255, 225, 22, 5, 55, 7, 28, 133, 55, 9, 22, 9, 9, 148, 153, 0, 21, 22, 7]
abbrev dktX0_chance_3 : List UInt8 := dkwX0_chance_3 ++ dktX0_chance_4
def dkwX0_chance_2 : List UInt8 := [22, 5, 42, 27, 21, 7, 96, 29, 182, 2, 2, 153, 0, 7, 10, 167, 0, 4, 9, 97, 55, 5]
abbrev dktX0_chance_2 : List UInt8 := dkwX0_chance_2 ++ dktX0_chance_3
def dkwX0_chance_1 : List UInt8 := [10, 184, 0, 14, 154, 0, 7, 20, 2, 0, 173, 9, 55, 5, 3, 54, 7, 21, 7, 28, 162, 0, 31]
abbrev dktX0_chance_1 : List UInt8 := dkwX0_chance_1 ++ dktX0_chance_2
def dkwX0_chance_0 : List UInt8 := [28, 133, 10, 20, 1, 240, 184, 0, 14, 153, 0, 22, 42, 29, 182, 1, 219, 153, 0, 14, 21, 4, 133, 9]
abbrev dktX0_chance_0 : List UInt8 := dkwX0_chance_0 ++ dktX0_chance_1
theorem dksX0_chance_0 : cX0_chance.data.toList.drop 0 = dktX0_chance_0 := by decide +kernel
theorem dksX0_chance_1 : cX0_chance.data.toList.drop 24 = dktX0_chance_1 := dk_seg dksX0_chance_0 24 rfl rfl
theorem dksX0_chance_2 : cX0_chance.data.toList.drop 47 = dktX0_chance_2 := dk_seg dksX0_chance_1 23 rfl rfl
theorem dksX0_chance_3 : cX0_chance.data.toList.drop 69 = dktX0_chance_3 := dk_seg dksX0_chance_2 22 rfl rfl
theorem dksX0_chance_4 : cX0_chance.data.toList.drop 92 = dktX0_chance_4 := dk_seg dksX0_chance_3 23 rfl rfl
theorem dksX0_chance_5 : cX0_chance.data.toList.drop 115 = dktX0_chance_5 := dk_seg dksX0_chance_4 23 rfl rfl
theorem dX0_chance_0 : decode cX0_chance 0 = .ok (.iload_n 2, 1) := dk_28 (dk_at dksX0_chance_0 0 rfl rfl)
theorem dX0_chance_1 : decode cX0_chance 1 = .ok (.i2l, 1) := dk_133 (dk_at dksX0_chance_0 1 rfl rfl)
theorem dX0_chance_2 : decode cX0_chance 2 = .ok (.lconst 1, 1) := dk_10 (dk_at dksX0_chance_0 2 rfl rfl)
theorem dX0_chance_3 : decode cX0_chance 3 = .ok (.ldc2_w 496, 3) := dk_20 1 240 (dk_at dksX0_chance_0 3 rfl rfl)
theorem dX0_chance_6 : decode cX0_chance 6 = .ok (.invokestatic 14, 3) := dk_184 0 14 (dk_at dksX0_chance_0 6 rfl rfl)
theorem dX0_chance_9 : decode cX0_chance 9 = .ok (.ifCond .eq 22, 3) := dk_153 0 22 (dk_at dksX0_chance_0 9 rfl rfl)
theorem dX0_chance_12 : decode cX0_chance 12 = .ok (.aload_n 0, 1) := dk_42 (dk_at dksX0_chance_0 12 rfl rfl)
theorem dX0_chance_13 : decode cX0_chance 13 = .ok (.iload_n 3, 1) := dk_29 (dk_at dksX0_chance_0 13 rfl rfl)
theorem dX0_chance_14 : decode cX0_chance 14 = .ok (.invokevirtual 475, 3) := dk_182 1 219 (dk_at dksX0_chance_0 14 rfl rfl)
theorem dX0_chance_17 : decode cX0_chance 17 = .ok (.ifCond .eq 14, 3) := dk_153 0 14 (dk_at dksX0_chance_0 17 rfl rfl)
theorem dX0_chance_20 : decode cX0_chance 20 = .ok (.iload 4, 2) := dk_21 4 (dk_at dksX0_chance_0 20 rfl rfl)
theorem dX0_chance_22 : decode cX0_chance 22 = .ok (.i2l, 1) := dk_133 (dk_at dksX0_chance_0 22 rfl rfl)
theorem dX0_chance_23 : decode cX0_chance 23 = .ok (.lconst 0, 1) := dk_9 (dk_at dksX0_chance_0 23 rfl rfl)
theorem dX0_chance_24 : decode cX0_chance 24 = .ok (.lconst 1, 1) := dk_10 (dk_at dksX0_chance_1 0 rfl rfl)
theorem dX0_chance_25 : decode cX0_chance 25 = .ok (.invokestatic 14, 3) := dk_184 0 14 (dk_at dksX0_chance_1 1 rfl rfl)
theorem dX0_chance_28 : decode cX0_chance 28 = .ok (.ifCond .ne 7, 3) := dk_154 0 7 (dk_at dksX0_chance_1 4 rfl rfl)
theorem dX0_chance_31 : decode cX0_chance 31 = .ok (.ldc2_w 512, 3) := dk_20 2 0 (dk_at dksX0_chance_1 7 rfl rfl)
theorem dX0_chance_34 : decode cX0_chance 34 = .ok (.lreturn, 1) := dk_173 (dk_at dksX0_chance_1 10 rfl rfl)
theorem dX0_chance_35 : decode cX0_chance 35 = .ok (.lconst 0, 1) := dk_9 (dk_at dksX0_chance_1 11 rfl rfl)
theorem dX0_chance_36 : decode cX0_chance 36 = .ok (.lstore 5, 2) := dk_55 5 (dk_at dksX0_chance_1 12 rfl rfl)
theorem dX0_chance_38 : decode cX0_chance 38 = .ok (.iconst 0, 1) := dk_3 (dk_at dksX0_chance_1 14 rfl rfl)
theorem dX0_chance_39 : decode cX0_chance 39 = .ok (.istore 7, 2) := dk_54 7 (dk_at dksX0_chance_1 15 rfl rfl)
theorem dX0_chance_41 : decode cX0_chance 41 = .ok (.iload 7, 2) := dk_21 7 (dk_at dksX0_chance_1 17 rfl rfl)
theorem dX0_chance_43 : decode cX0_chance 43 = .ok (.iload_n 2, 1) := dk_28 (dk_at dksX0_chance_1 19 rfl rfl)
theorem dX0_chance_44 : decode cX0_chance 44 = .ok (.if_icmp .ge 31, 3) := dk_162 0 31 (dk_at dksX0_chance_1 20 rfl rfl)
theorem dX0_chance_47 : decode cX0_chance 47 = .ok (.lload 5, 2) := dk_22 5 (dk_at dksX0_chance_2 0 rfl rfl)
theorem dX0_chance_49 : decode cX0_chance 49 = .ok (.aload_n 0, 1) := dk_42 (dk_at dksX0_chance_2 2 rfl rfl)
theorem dX0_chance_50 : decode cX0_chance 50 = .ok (.iload_n 1, 1) := dk_27 (dk_at dksX0_chance_2 3 rfl rfl)
theorem dX0_chance_51 : decode cX0_chance 51 = .ok (.iload 7, 2) := dk_21 7 (dk_at dksX0_chance_2 4 rfl rfl)
theorem dX0_chance_53 : decode cX0_chance 53 = .ok (.iadd, 1) := dk_96 (dk_at dksX0_chance_2 6 rfl rfl)
theorem dX0_chance_54 : decode cX0_chance 54 = .ok (.iload_n 3, 1) := dk_29 (dk_at dksX0_chance_2 7 rfl rfl)
theorem dX0_chance_55 : decode cX0_chance 55 = .ok (.invokevirtual 514, 3) := dk_182 2 2 (dk_at dksX0_chance_2 8 rfl rfl)
theorem dX0_chance_58 : decode cX0_chance 58 = .ok (.ifCond .eq 7, 3) := dk_153 0 7 (dk_at dksX0_chance_2 11 rfl rfl)
theorem dX0_chance_61 : decode cX0_chance 61 = .ok (.lconst 1, 1) := dk_10 (dk_at dksX0_chance_2 14 rfl rfl)
theorem dX0_chance_62 : decode cX0_chance 62 = .ok (.goto 4, 3) := dk_167 0 4 (dk_at dksX0_chance_2 15 rfl rfl)
theorem dX0_chance_65 : decode cX0_chance 65 = .ok (.lconst 0, 1) := dk_9 (dk_at dksX0_chance_2 18 rfl rfl)
theorem dX0_chance_66 : decode cX0_chance 66 = .ok (.ladd, 1) := dk_97 (dk_at dksX0_chance_2 19 rfl rfl)
theorem dX0_chance_67 : decode cX0_chance 67 = .ok (.lstore 5, 2) := dk_55 5 (dk_at dksX0_chance_2 20 rfl rfl)
theorem dX0_chance_69 : decode cX0_chance 69 = .ok (.iinc 7 1, 3) := dk_132 7 1 (dk_at dksX0_chance_3 0 rfl rfl)
theorem dX0_chance_72 : decode cX0_chance 72 = .ok (.goto (-31), 3) := dk_167 255 225 (dk_at dksX0_chance_3 3 rfl rfl)
theorem dX0_chance_75 : decode cX0_chance 75 = .ok (.lload 5, 2) := dk_22 5 (dk_at dksX0_chance_3 6 rfl rfl)
theorem dX0_chance_77 : decode cX0_chance 77 = .ok (.lstore 7, 2) := dk_55 7 (dk_at dksX0_chance_3 8 rfl rfl)
theorem dX0_chance_79 : decode cX0_chance 79 = .ok (.iload_n 2, 1) := dk_28 (dk_at dksX0_chance_3 10 rfl rfl)
theorem dX0_chance_80 : decode cX0_chance 80 = .ok (.i2l, 1) := dk_133 (dk_at dksX0_chance_3 11 rfl rfl)
theorem dX0_chance_81 : decode cX0_chance 81 = .ok (.lstore 9, 2) := dk_55 9 (dk_at dksX0_chance_3 12 rfl rfl)
theorem dX0_chance_83 : decode cX0_chance 83 = .ok (.lload 9, 2) := dk_22 9 (dk_at dksX0_chance_3 14 rfl rfl)
theorem dX0_chance_85 : decode cX0_chance 85 = .ok (.lconst 0, 1) := dk_9 (dk_at dksX0_chance_3 16 rfl rfl)
theorem dX0_chance_86 : decode cX0_chance 86 = .ok (.lcmp, 1) := dk_148 (dk_at dksX0_chance_3 17 rfl rfl)
theorem dX0_chance_87 : decode cX0_chance 87 = .ok (.ifCond .eq 21, 3) := dk_153 0 21 (dk_at dksX0_chance_3 18 rfl rfl)
theorem dX0_chance_90 : decode cX0_chance 90 = .ok (.lload 7, 2) := dk_22 7 (dk_at dksX0_chance_3 21 rfl rfl)
theorem dX0_chance_92 : decode cX0_chance 92 = .ok (.lload 9, 2) := dk_22 9 (dk_at dksX0_chance_4 0 rfl rfl)
theorem dX0_chance_94 : decode cX0_chance 94 = .ok (.lrem, 1) := dk_113 (dk_at dksX0_chance_4 2 rfl rfl)
theorem dX0_chance_95 : decode cX0_chance 95 = .ok (.lstore 11, 2) := dk_55 11 (dk_at dksX0_chance_4 3 rfl rfl)
theorem dX0_chance_97 : decode cX0_chance 97 = .ok (.lload 9, 2) := dk_22 9 (dk_at dksX0_chance_4 5 rfl rfl)
theorem dX0_chance_99 : decode cX0_chance 99 = .ok (.lstore 7, 2) := dk_55 7 (dk_at dksX0_chance_4 7 rfl rfl)
theorem dX0_chance_101 : decode cX0_chance 101 = .ok (.lload 11, 2) := dk_22 11 (dk_at dksX0_chance_4 9 rfl rfl)
theorem dX0_chance_103 : decode cX0_chance 103 = .ok (.lstore 9, 2) := dk_55 9 (dk_at dksX0_chance_4 11 rfl rfl)
theorem dX0_chance_105 : decode cX0_chance 105 = .ok (.goto (-22), 3) := dk_167 255 234 (dk_at dksX0_chance_4 13 rfl rfl)
theorem dX0_chance_108 : decode cX0_chance 108 = .ok (.iload 4, 2) := dk_21 4 (dk_at dksX0_chance_4 16 rfl rfl)
theorem dX0_chance_110 : decode cX0_chance 110 = .ok (.ifCond .ne 8, 3) := dk_154 0 8 (dk_at dksX0_chance_4 18 rfl rfl)
theorem dX0_chance_113 : decode cX0_chance 113 = .ok (.lload 5, 2) := dk_22 5 (dk_at dksX0_chance_4 21 rfl rfl)
theorem dX0_chance_115 : decode cX0_chance 115 = .ok (.goto 5, 3) := dk_167 0 5 (dk_at dksX0_chance_5 0 rfl rfl)
theorem dX0_chance_118 : decode cX0_chance 118 = .ok (.iload_n 2, 1) := dk_28 (dk_at dksX0_chance_5 3 rfl rfl)
theorem dX0_chance_119 : decode cX0_chance 119 = .ok (.i2l, 1) := dk_133 (dk_at dksX0_chance_5 4 rfl rfl)
theorem dX0_chance_120 : decode cX0_chance 120 = .ok (.lload 7, 2) := dk_22 7 (dk_at dksX0_chance_5 5 rfl rfl)
theorem dX0_chance_122 : decode cX0_chance 122 = .ok (.ldiv, 1) := dk_109 (dk_at dksX0_chance_5 7 rfl rfl)
theorem dX0_chance_123 : decode cX0_chance 123 = .ok (.lreturn, 1) := dk_173 (dk_at dksX0_chance_5 8 rfl rfl)
abbrev cX0_isRightBy : ByteArray := prog_1_method_77_code
def yX0_isRightBy : MethodName := ⟨RX0, "isRightBy", "(II)Z"⟩
def dkwX0_isRightBy_1 : List UInt8 := [172, 58, 4, 42, 182, 1, 253, 25, 4, 191]
abbrev dktX0_isRightBy_1 : List UInt8 := dkwX0_isRightBy_1 ++ []
def dkwX0_isRightBy_0 : List UInt8 := [42, 27, 182, 1, 250, 42, 28, 16, 10, 108, 28, 16, 10, 112, 3, 182, 1, 158, 62, 42, 182, 1, 253, 29]
abbrev dktX0_isRightBy_0 : List UInt8 := dkwX0_isRightBy_0 ++ dktX0_isRightBy_1
theorem dksX0_isRightBy_0 : cX0_isRightBy.data.toList.drop 0 = dktX0_isRightBy_0 := by decide +kernel
theorem dksX0_isRightBy_1 : cX0_isRightBy.data.toList.drop 24 = dktX0_isRightBy_1 := dk_seg dksX0_isRightBy_0 24 rfl rfl
theorem dX0_isRightBy_0 : decode cX0_isRightBy 0 = .ok (.aload_n 0, 1) := dk_42 (dk_at dksX0_isRightBy_0 0 rfl rfl)
theorem dX0_isRightBy_1 : decode cX0_isRightBy 1 = .ok (.iload_n 1, 1) := dk_27 (dk_at dksX0_isRightBy_0 1 rfl rfl)
theorem dX0_isRightBy_2 : decode cX0_isRightBy 2 = .ok (.invokevirtual 506, 3) := dk_182 1 250 (dk_at dksX0_isRightBy_0 2 rfl rfl)
theorem dX0_isRightBy_5 : decode cX0_isRightBy 5 = .ok (.aload_n 0, 1) := dk_42 (dk_at dksX0_isRightBy_0 5 rfl rfl)
theorem dX0_isRightBy_6 : decode cX0_isRightBy 6 = .ok (.iload_n 2, 1) := dk_28 (dk_at dksX0_isRightBy_0 6 rfl rfl)
theorem dX0_isRightBy_7 : decode cX0_isRightBy 7 = .ok (.bipush 10, 2) := dk_16 10 (dk_at dksX0_isRightBy_0 7 rfl rfl)
theorem dX0_isRightBy_9 : decode cX0_isRightBy 9 = .ok (.idiv, 1) := dk_108 (dk_at dksX0_isRightBy_0 9 rfl rfl)
theorem dX0_isRightBy_10 : decode cX0_isRightBy 10 = .ok (.iload_n 2, 1) := dk_28 (dk_at dksX0_isRightBy_0 10 rfl rfl)
theorem dX0_isRightBy_11 : decode cX0_isRightBy 11 = .ok (.bipush 10, 2) := dk_16 10 (dk_at dksX0_isRightBy_0 11 rfl rfl)
theorem dX0_isRightBy_13 : decode cX0_isRightBy 13 = .ok (.irem, 1) := dk_112 (dk_at dksX0_isRightBy_0 13 rfl rfl)
theorem dX0_isRightBy_14 : decode cX0_isRightBy 14 = .ok (.iconst 0, 1) := dk_3 (dk_at dksX0_isRightBy_0 14 rfl rfl)
theorem dX0_isRightBy_15 : decode cX0_isRightBy 15 = .ok (.invokevirtual 414, 3) := dk_182 1 158 (dk_at dksX0_isRightBy_0 15 rfl rfl)
theorem dX0_isRightBy_18 : decode cX0_isRightBy 18 = .ok (.istore_n 3, 1) := dk_62 (dk_at dksX0_isRightBy_0 18 rfl rfl)
theorem dX0_isRightBy_19 : decode cX0_isRightBy 19 = .ok (.aload_n 0, 1) := dk_42 (dk_at dksX0_isRightBy_0 19 rfl rfl)
theorem dX0_isRightBy_20 : decode cX0_isRightBy 20 = .ok (.invokevirtual 509, 3) := dk_182 1 253 (dk_at dksX0_isRightBy_0 20 rfl rfl)
theorem dX0_isRightBy_23 : decode cX0_isRightBy 23 = .ok (.iload_n 3, 1) := dk_29 (dk_at dksX0_isRightBy_0 23 rfl rfl)
theorem dX0_isRightBy_24 : decode cX0_isRightBy 24 = .ok (.ireturn, 1) := dk_172 (dk_at dksX0_isRightBy_1 0 rfl rfl)
theorem dX0_isRightBy_25 : decode cX0_isRightBy 25 = .ok (.astore 4, 2) := dk_58 4 (dk_at dksX0_isRightBy_1 1 rfl rfl)
theorem dX0_isRightBy_27 : decode cX0_isRightBy 27 = .ok (.aload_n 0, 1) := dk_42 (dk_at dksX0_isRightBy_1 3 rfl rfl)
theorem dX0_isRightBy_28 : decode cX0_isRightBy 28 = .ok (.invokevirtual 509, 3) := dk_182 1 253 (dk_at dksX0_isRightBy_1 4 rfl rfl)
theorem dX0_isRightBy_31 : decode cX0_isRightBy 31 = .ok (.aload 4, 2) := dk_25 4 (dk_at dksX0_isRightBy_1 7 rfl rfl)
theorem dX0_isRightBy_33 : decode cX0_isRightBy 33 = .ok (.athrow, 1) := dk_191 (dk_at dksX0_isRightBy_1 9 rfl rfl)
abbrev cX0_image : ByteArray := prog_1_method_79_code
def yX0_image : MethodName := ⟨RX0, "image", "()I"⟩
def dkwX0_image_5 : List UInt8 := [180, 0, 87, 79, 42, 180, 1, 53, 5, 42, 180, 1, 72, 79, 42, 4, 181, 2, 11, 42, 180, 0, 18, 172]
abbrev dktX0_image_5 : List UInt8 := dkwX0_image_5 ++ []
def dkwX0_image_4 : List UInt8 := [132, 1, 1, 167, 255, 194, 42, 180, 1, 53, 3, 42, 180, 0, 18, 79, 42, 180, 1, 53, 4, 42]
abbrev dktX0_image_4 : List UInt8 := dkwX0_image_4 ++ dktX0_image_5
def dkwX0_image_3 : List UInt8 := [50, 180, 0, 93, 79, 42, 180, 1, 50, 5, 50, 27, 42, 180, 0, 60, 27, 50, 180, 0, 110, 79]
abbrev dktX0_image_3 : List UInt8 := dkwX0_image_3 ++ dktX0_image_4
def dkwX0_image_2 : List UInt8 := [50, 27, 42, 180, 0, 60, 27, 50, 180, 0, 90, 79, 42, 180, 1, 50, 4, 50, 27, 42, 180, 0, 60, 27]
abbrev dktX0_image_2 : List UInt8 := dkwX0_image_2 ++ dktX0_image_3
def dkwX0_image_1 : List UInt8 := [184, 2, 5, 132, 1, 1, 167, 255, 228, 3, 60, 27, 42, 180, 0, 18, 162, 0, 60, 42, 180, 1, 50, 3]
abbrev dktX0_image_1 : List UInt8 := dkwX0_image_1 ++ dktX0_image_2
def dkwX0_image_0 : List UInt8 := [3, 60, 27, 16, 8, 162, 0, 28, 42, 180, 0, 72, 27, 50, 3, 42, 180, 1, 47, 27, 50, 3, 16, 8]
abbrev dktX0_image_0 : List UInt8 := dkwX0_image_0 ++ dktX0_image_1
theorem dksX0_image_0 : cX0_image.data.toList.drop 0 = dktX0_image_0 := by decide +kernel
theorem dksX0_image_1 : cX0_image.data.toList.drop 24 = dktX0_image_1 := dk_seg dksX0_image_0 24 rfl rfl
theorem dksX0_image_2 : cX0_image.data.toList.drop 48 = dktX0_image_2 := dk_seg dksX0_image_1 24 rfl rfl
theorem dksX0_image_3 : cX0_image.data.toList.drop 72 = dktX0_image_3 := dk_seg dksX0_image_2 24 rfl rfl
theorem dksX0_image_4 : cX0_image.data.toList.drop 94 = dktX0_image_4 := dk_seg dksX0_image_3 22 rfl rfl
theorem dksX0_image_5 : cX0_image.data.toList.drop 116 = dktX0_image_5 := dk_seg dksX0_image_4 22 rfl rfl
theorem dX0_image_0 : decode cX0_image 0 = .ok (.iconst 0, 1) := dk_3 (dk_at dksX0_image_0 0 rfl rfl)
theorem dX0_image_1 : decode cX0_image 1 = .ok (.istore_n 1, 1) := dk_60 (dk_at dksX0_image_0 1 rfl rfl)
theorem dX0_image_2 : decode cX0_image 2 = .ok (.iload_n 1, 1) := dk_27 (dk_at dksX0_image_0 2 rfl rfl)
theorem dX0_image_3 : decode cX0_image 3 = .ok (.bipush 8, 2) := dk_16 8 (dk_at dksX0_image_0 3 rfl rfl)
theorem dX0_image_5 : decode cX0_image 5 = .ok (.if_icmp .ge 28, 3) := dk_162 0 28 (dk_at dksX0_image_0 5 rfl rfl)
theorem dX0_image_8 : decode cX0_image 8 = .ok (.aload_n 0, 1) := dk_42 (dk_at dksX0_image_0 8 rfl rfl)
theorem dX0_image_9 : decode cX0_image 9 = .ok (.getfield 72, 3) := dk_180 0 72 (dk_at dksX0_image_0 9 rfl rfl)
theorem dX0_image_12 : decode cX0_image 12 = .ok (.iload_n 1, 1) := dk_27 (dk_at dksX0_image_0 12 rfl rfl)
theorem dX0_image_13 : decode cX0_image 13 = .ok (.aaload, 1) := dk_50 (dk_at dksX0_image_0 13 rfl rfl)
theorem dX0_image_14 : decode cX0_image 14 = .ok (.iconst 0, 1) := dk_3 (dk_at dksX0_image_0 14 rfl rfl)
theorem dX0_image_15 : decode cX0_image 15 = .ok (.aload_n 0, 1) := dk_42 (dk_at dksX0_image_0 15 rfl rfl)
theorem dX0_image_16 : decode cX0_image 16 = .ok (.getfield 303, 3) := dk_180 1 47 (dk_at dksX0_image_0 16 rfl rfl)
theorem dX0_image_19 : decode cX0_image 19 = .ok (.iload_n 1, 1) := dk_27 (dk_at dksX0_image_0 19 rfl rfl)
theorem dX0_image_20 : decode cX0_image 20 = .ok (.aaload, 1) := dk_50 (dk_at dksX0_image_0 20 rfl rfl)
theorem dX0_image_21 : decode cX0_image 21 = .ok (.iconst 0, 1) := dk_3 (dk_at dksX0_image_0 21 rfl rfl)
theorem dX0_image_22 : decode cX0_image 22 = .ok (.bipush 8, 2) := dk_16 8 (dk_at dksX0_image_0 22 rfl rfl)
theorem dX0_image_24 : decode cX0_image 24 = .ok (.invokestatic 517, 3) := dk_184 2 5 (dk_at dksX0_image_1 0 rfl rfl)
theorem dX0_image_27 : decode cX0_image 27 = .ok (.iinc 1 1, 3) := dk_132 1 1 (dk_at dksX0_image_1 3 rfl rfl)
theorem dX0_image_30 : decode cX0_image 30 = .ok (.goto (-28), 3) := dk_167 255 228 (dk_at dksX0_image_1 6 rfl rfl)
theorem dX0_image_33 : decode cX0_image 33 = .ok (.iconst 0, 1) := dk_3 (dk_at dksX0_image_1 9 rfl rfl)
theorem dX0_image_34 : decode cX0_image 34 = .ok (.istore_n 1, 1) := dk_60 (dk_at dksX0_image_1 10 rfl rfl)
theorem dX0_image_35 : decode cX0_image 35 = .ok (.iload_n 1, 1) := dk_27 (dk_at dksX0_image_1 11 rfl rfl)
theorem dX0_image_36 : decode cX0_image 36 = .ok (.aload_n 0, 1) := dk_42 (dk_at dksX0_image_1 12 rfl rfl)
theorem dX0_image_37 : decode cX0_image 37 = .ok (.getfield 18, 3) := dk_180 0 18 (dk_at dksX0_image_1 13 rfl rfl)
theorem dX0_image_40 : decode cX0_image 40 = .ok (.if_icmp .ge 60, 3) := dk_162 0 60 (dk_at dksX0_image_1 16 rfl rfl)
theorem dX0_image_43 : decode cX0_image 43 = .ok (.aload_n 0, 1) := dk_42 (dk_at dksX0_image_1 19 rfl rfl)
theorem dX0_image_44 : decode cX0_image 44 = .ok (.getfield 306, 3) := dk_180 1 50 (dk_at dksX0_image_1 20 rfl rfl)
theorem dX0_image_47 : decode cX0_image 47 = .ok (.iconst 0, 1) := dk_3 (dk_at dksX0_image_1 23 rfl rfl)
theorem dX0_image_48 : decode cX0_image 48 = .ok (.aaload, 1) := dk_50 (dk_at dksX0_image_2 0 rfl rfl)
theorem dX0_image_49 : decode cX0_image 49 = .ok (.iload_n 1, 1) := dk_27 (dk_at dksX0_image_2 1 rfl rfl)
theorem dX0_image_50 : decode cX0_image 50 = .ok (.aload_n 0, 1) := dk_42 (dk_at dksX0_image_2 2 rfl rfl)
theorem dX0_image_51 : decode cX0_image 51 = .ok (.getfield 60, 3) := dk_180 0 60 (dk_at dksX0_image_2 3 rfl rfl)
theorem dX0_image_54 : decode cX0_image 54 = .ok (.iload_n 1, 1) := dk_27 (dk_at dksX0_image_2 6 rfl rfl)
theorem dX0_image_55 : decode cX0_image 55 = .ok (.aaload, 1) := dk_50 (dk_at dksX0_image_2 7 rfl rfl)
theorem dX0_image_56 : decode cX0_image 56 = .ok (.getfield 90, 3) := dk_180 0 90 (dk_at dksX0_image_2 8 rfl rfl)
theorem dX0_image_59 : decode cX0_image 59 = .ok (.iastore, 1) := dk_79 (dk_at dksX0_image_2 11 rfl rfl)
theorem dX0_image_60 : decode cX0_image 60 = .ok (.aload_n 0, 1) := dk_42 (dk_at dksX0_image_2 12 rfl rfl)
theorem dX0_image_61 : decode cX0_image 61 = .ok (.getfield 306, 3) := dk_180 1 50 (dk_at dksX0_image_2 13 rfl rfl)
theorem dX0_image_64 : decode cX0_image 64 = .ok (.iconst 1, 1) := dk_4 (dk_at dksX0_image_2 16 rfl rfl)
theorem dX0_image_65 : decode cX0_image 65 = .ok (.aaload, 1) := dk_50 (dk_at dksX0_image_2 17 rfl rfl)
theorem dX0_image_66 : decode cX0_image 66 = .ok (.iload_n 1, 1) := dk_27 (dk_at dksX0_image_2 18 rfl rfl)
theorem dX0_image_67 : decode cX0_image 67 = .ok (.aload_n 0, 1) := dk_42 (dk_at dksX0_image_2 19 rfl rfl)
theorem dX0_image_68 : decode cX0_image 68 = .ok (.getfield 60, 3) := dk_180 0 60 (dk_at dksX0_image_2 20 rfl rfl)
theorem dX0_image_71 : decode cX0_image 71 = .ok (.iload_n 1, 1) := dk_27 (dk_at dksX0_image_2 23 rfl rfl)
theorem dX0_image_72 : decode cX0_image 72 = .ok (.aaload, 1) := dk_50 (dk_at dksX0_image_3 0 rfl rfl)
theorem dX0_image_73 : decode cX0_image 73 = .ok (.getfield 93, 3) := dk_180 0 93 (dk_at dksX0_image_3 1 rfl rfl)
theorem dX0_image_76 : decode cX0_image 76 = .ok (.iastore, 1) := dk_79 (dk_at dksX0_image_3 4 rfl rfl)
theorem dX0_image_77 : decode cX0_image 77 = .ok (.aload_n 0, 1) := dk_42 (dk_at dksX0_image_3 5 rfl rfl)
theorem dX0_image_78 : decode cX0_image 78 = .ok (.getfield 306, 3) := dk_180 1 50 (dk_at dksX0_image_3 6 rfl rfl)
theorem dX0_image_81 : decode cX0_image 81 = .ok (.iconst 2, 1) := dk_5 (dk_at dksX0_image_3 9 rfl rfl)
theorem dX0_image_82 : decode cX0_image 82 = .ok (.aaload, 1) := dk_50 (dk_at dksX0_image_3 10 rfl rfl)
theorem dX0_image_83 : decode cX0_image 83 = .ok (.iload_n 1, 1) := dk_27 (dk_at dksX0_image_3 11 rfl rfl)
theorem dX0_image_84 : decode cX0_image 84 = .ok (.aload_n 0, 1) := dk_42 (dk_at dksX0_image_3 12 rfl rfl)
theorem dX0_image_85 : decode cX0_image 85 = .ok (.getfield 60, 3) := dk_180 0 60 (dk_at dksX0_image_3 13 rfl rfl)
theorem dX0_image_88 : decode cX0_image 88 = .ok (.iload_n 1, 1) := dk_27 (dk_at dksX0_image_3 16 rfl rfl)
theorem dX0_image_89 : decode cX0_image 89 = .ok (.aaload, 1) := dk_50 (dk_at dksX0_image_3 17 rfl rfl)
theorem dX0_image_90 : decode cX0_image 90 = .ok (.getfield 110, 3) := dk_180 0 110 (dk_at dksX0_image_3 18 rfl rfl)
theorem dX0_image_93 : decode cX0_image 93 = .ok (.iastore, 1) := dk_79 (dk_at dksX0_image_3 21 rfl rfl)
theorem dX0_image_94 : decode cX0_image 94 = .ok (.iinc 1 1, 3) := dk_132 1 1 (dk_at dksX0_image_4 0 rfl rfl)
theorem dX0_image_97 : decode cX0_image 97 = .ok (.goto (-62), 3) := dk_167 255 194 (dk_at dksX0_image_4 3 rfl rfl)
theorem dX0_image_100 : decode cX0_image 100 = .ok (.aload_n 0, 1) := dk_42 (dk_at dksX0_image_4 6 rfl rfl)
theorem dX0_image_101 : decode cX0_image 101 = .ok (.getfield 309, 3) := dk_180 1 53 (dk_at dksX0_image_4 7 rfl rfl)
theorem dX0_image_104 : decode cX0_image 104 = .ok (.iconst 0, 1) := dk_3 (dk_at dksX0_image_4 10 rfl rfl)
theorem dX0_image_105 : decode cX0_image 105 = .ok (.aload_n 0, 1) := dk_42 (dk_at dksX0_image_4 11 rfl rfl)
theorem dX0_image_106 : decode cX0_image 106 = .ok (.getfield 18, 3) := dk_180 0 18 (dk_at dksX0_image_4 12 rfl rfl)
theorem dX0_image_109 : decode cX0_image 109 = .ok (.iastore, 1) := dk_79 (dk_at dksX0_image_4 15 rfl rfl)
theorem dX0_image_110 : decode cX0_image 110 = .ok (.aload_n 0, 1) := dk_42 (dk_at dksX0_image_4 16 rfl rfl)
theorem dX0_image_111 : decode cX0_image 111 = .ok (.getfield 309, 3) := dk_180 1 53 (dk_at dksX0_image_4 17 rfl rfl)
theorem dX0_image_114 : decode cX0_image 114 = .ok (.iconst 1, 1) := dk_4 (dk_at dksX0_image_4 20 rfl rfl)
theorem dX0_image_115 : decode cX0_image 115 = .ok (.aload_n 0, 1) := dk_42 (dk_at dksX0_image_4 21 rfl rfl)
theorem dX0_image_116 : decode cX0_image 116 = .ok (.getfield 87, 3) := dk_180 0 87 (dk_at dksX0_image_5 0 rfl rfl)
theorem dX0_image_119 : decode cX0_image 119 = .ok (.iastore, 1) := dk_79 (dk_at dksX0_image_5 3 rfl rfl)
theorem dX0_image_120 : decode cX0_image 120 = .ok (.aload_n 0, 1) := dk_42 (dk_at dksX0_image_5 4 rfl rfl)
theorem dX0_image_121 : decode cX0_image 121 = .ok (.getfield 309, 3) := dk_180 1 53 (dk_at dksX0_image_5 5 rfl rfl)
theorem dX0_image_124 : decode cX0_image 124 = .ok (.iconst 2, 1) := dk_5 (dk_at dksX0_image_5 8 rfl rfl)
theorem dX0_image_125 : decode cX0_image 125 = .ok (.aload_n 0, 1) := dk_42 (dk_at dksX0_image_5 9 rfl rfl)
theorem dX0_image_126 : decode cX0_image 126 = .ok (.getfield 328, 3) := dk_180 1 72 (dk_at dksX0_image_5 10 rfl rfl)
theorem dX0_image_129 : decode cX0_image 129 = .ok (.iastore, 1) := dk_79 (dk_at dksX0_image_5 13 rfl rfl)
theorem dX0_image_130 : decode cX0_image 130 = .ok (.aload_n 0, 1) := dk_42 (dk_at dksX0_image_5 14 rfl rfl)
theorem dX0_image_131 : decode cX0_image 131 = .ok (.iconst 1, 1) := dk_4 (dk_at dksX0_image_5 15 rfl rfl)
theorem dX0_image_132 : decode cX0_image 132 = .ok (.putfield 523, 3) := dk_181 2 11 (dk_at dksX0_image_5 16 rfl rfl)
theorem dX0_image_135 : decode cX0_image 135 = .ok (.aload_n 0, 1) := dk_42 (dk_at dksX0_image_5 19 rfl rfl)
theorem dX0_image_136 : decode cX0_image 136 = .ok (.getfield 18, 3) := dk_180 0 18 (dk_at dksX0_image_5 20 rfl rfl)
theorem dX0_image_139 : decode cX0_image 139 = .ok (.ireturn, 1) := dk_172 (dk_at dksX0_image_5 23 rfl rfl)
abbrev cX0_back : ByteArray := prog_1_method_80_code
def yX0_back : MethodName := ⟨RX0, "back", "()I"⟩
def dkwX0_back_6 : List UInt8 := [167, 255, 194, 42, 180, 0, 18, 172]
abbrev dktX0_back_6 : List UInt8 := dkwX0_back_6 ++ []
def dkwX0_back_5 : List UInt8 := [181, 0, 93, 42, 180, 0, 60, 27, 50, 42, 180, 1, 50, 5, 50, 27, 46, 181, 0, 110, 132, 1, 1]
abbrev dktX0_back_5 : List UInt8 := dkwX0_back_5 ++ dktX0_back_6
def dkwX0_back_4 : List UInt8 := [180, 1, 50, 3, 50, 27, 46, 181, 0, 90, 42, 180, 0, 60, 27, 50, 42, 180, 1, 50, 4, 50, 27, 46]
abbrev dktX0_back_4 : List UInt8 := dkwX0_back_4 ++ dktX0_back_5
def dkwX0_back_3 : List UInt8 := [5, 46, 181, 1, 72, 3, 60, 27, 42, 180, 0, 18, 162, 0, 60, 42, 180, 0, 60, 27, 50, 42]
abbrev dktX0_back_3 : List UInt8 := dkwX0_back_3 ++ dktX0_back_4
def dkwX0_back_2 : List UInt8 := [42, 180, 1, 53, 3, 46, 181, 0, 18, 42, 42, 180, 1, 53, 4, 46, 181, 0, 87, 42, 42, 180, 1, 53]
abbrev dktX0_back_2 : List UInt8 := dkwX0_back_2 ++ dktX0_back_3
def dkwX0_back_1 : List UInt8 := [3, 42, 180, 0, 72, 27, 50, 3, 16, 8, 184, 2, 5, 132, 1, 1, 167, 255, 228, 42, 182, 0, 75, 42]
abbrev dktX0_back_1 : List UInt8 := dkwX0_back_1 ++ dktX0_back_2
def dkwX0_back_0 : List UInt8 := [42, 180, 2, 11, 154, 0, 6, 16, 253, 172, 3, 60, 27, 16, 8, 162, 0, 28, 42, 180, 1, 47, 27, 50]
abbrev dktX0_back_0 : List UInt8 := dkwX0_back_0 ++ dktX0_back_1
theorem dksX0_back_0 : cX0_back.data.toList.drop 0 = dktX0_back_0 := by decide +kernel
theorem dksX0_back_1 : cX0_back.data.toList.drop 24 = dktX0_back_1 := dk_seg dksX0_back_0 24 rfl rfl
theorem dksX0_back_2 : cX0_back.data.toList.drop 48 = dktX0_back_2 := dk_seg dksX0_back_1 24 rfl rfl
theorem dksX0_back_3 : cX0_back.data.toList.drop 72 = dktX0_back_3 := dk_seg dksX0_back_2 24 rfl rfl
theorem dksX0_back_4 : cX0_back.data.toList.drop 94 = dktX0_back_4 := dk_seg dksX0_back_3 22 rfl rfl
theorem dksX0_back_5 : cX0_back.data.toList.drop 118 = dktX0_back_5 := dk_seg dksX0_back_4 24 rfl rfl
theorem dksX0_back_6 : cX0_back.data.toList.drop 141 = dktX0_back_6 := dk_seg dksX0_back_5 23 rfl rfl
theorem dX0_back_0 : decode cX0_back 0 = .ok (.aload_n 0, 1) := dk_42 (dk_at dksX0_back_0 0 rfl rfl)
theorem dX0_back_1 : decode cX0_back 1 = .ok (.getfield 523, 3) := dk_180 2 11 (dk_at dksX0_back_0 1 rfl rfl)
theorem dX0_back_4 : decode cX0_back 4 = .ok (.ifCond .ne 6, 3) := dk_154 0 6 (dk_at dksX0_back_0 4 rfl rfl)
theorem dX0_back_7 : decode cX0_back 7 = .ok (.bipush (-3), 2) := dk_16 253 (dk_at dksX0_back_0 7 rfl rfl)
theorem dX0_back_9 : decode cX0_back 9 = .ok (.ireturn, 1) := dk_172 (dk_at dksX0_back_0 9 rfl rfl)
theorem dX0_back_10 : decode cX0_back 10 = .ok (.iconst 0, 1) := dk_3 (dk_at dksX0_back_0 10 rfl rfl)
theorem dX0_back_11 : decode cX0_back 11 = .ok (.istore_n 1, 1) := dk_60 (dk_at dksX0_back_0 11 rfl rfl)
theorem dX0_back_12 : decode cX0_back 12 = .ok (.iload_n 1, 1) := dk_27 (dk_at dksX0_back_0 12 rfl rfl)
theorem dX0_back_13 : decode cX0_back 13 = .ok (.bipush 8, 2) := dk_16 8 (dk_at dksX0_back_0 13 rfl rfl)
theorem dX0_back_15 : decode cX0_back 15 = .ok (.if_icmp .ge 28, 3) := dk_162 0 28 (dk_at dksX0_back_0 15 rfl rfl)
theorem dX0_back_18 : decode cX0_back 18 = .ok (.aload_n 0, 1) := dk_42 (dk_at dksX0_back_0 18 rfl rfl)
theorem dX0_back_19 : decode cX0_back 19 = .ok (.getfield 303, 3) := dk_180 1 47 (dk_at dksX0_back_0 19 rfl rfl)
theorem dX0_back_22 : decode cX0_back 22 = .ok (.iload_n 1, 1) := dk_27 (dk_at dksX0_back_0 22 rfl rfl)
theorem dX0_back_23 : decode cX0_back 23 = .ok (.aaload, 1) := dk_50 (dk_at dksX0_back_0 23 rfl rfl)
theorem dX0_back_24 : decode cX0_back 24 = .ok (.iconst 0, 1) := dk_3 (dk_at dksX0_back_1 0 rfl rfl)
theorem dX0_back_25 : decode cX0_back 25 = .ok (.aload_n 0, 1) := dk_42 (dk_at dksX0_back_1 1 rfl rfl)
theorem dX0_back_26 : decode cX0_back 26 = .ok (.getfield 72, 3) := dk_180 0 72 (dk_at dksX0_back_1 2 rfl rfl)
theorem dX0_back_29 : decode cX0_back 29 = .ok (.iload_n 1, 1) := dk_27 (dk_at dksX0_back_1 5 rfl rfl)
theorem dX0_back_30 : decode cX0_back 30 = .ok (.aaload, 1) := dk_50 (dk_at dksX0_back_1 6 rfl rfl)
theorem dX0_back_31 : decode cX0_back 31 = .ok (.iconst 0, 1) := dk_3 (dk_at dksX0_back_1 7 rfl rfl)
theorem dX0_back_32 : decode cX0_back 32 = .ok (.bipush 8, 2) := dk_16 8 (dk_at dksX0_back_1 8 rfl rfl)
theorem dX0_back_34 : decode cX0_back 34 = .ok (.invokestatic 517, 3) := dk_184 2 5 (dk_at dksX0_back_1 10 rfl rfl)
theorem dX0_back_37 : decode cX0_back 37 = .ok (.iinc 1 1, 3) := dk_132 1 1 (dk_at dksX0_back_1 13 rfl rfl)
theorem dX0_back_40 : decode cX0_back 40 = .ok (.goto (-28), 3) := dk_167 255 228 (dk_at dksX0_back_1 16 rfl rfl)
theorem dX0_back_43 : decode cX0_back 43 = .ok (.aload_n 0, 1) := dk_42 (dk_at dksX0_back_1 19 rfl rfl)
theorem dX0_back_44 : decode cX0_back 44 = .ok (.invokevirtual 75, 3) := dk_182 0 75 (dk_at dksX0_back_1 20 rfl rfl)
theorem dX0_back_47 : decode cX0_back 47 = .ok (.aload_n 0, 1) := dk_42 (dk_at dksX0_back_1 23 rfl rfl)
theorem dX0_back_48 : decode cX0_back 48 = .ok (.aload_n 0, 1) := dk_42 (dk_at dksX0_back_2 0 rfl rfl)
theorem dX0_back_49 : decode cX0_back 49 = .ok (.getfield 309, 3) := dk_180 1 53 (dk_at dksX0_back_2 1 rfl rfl)
theorem dX0_back_52 : decode cX0_back 52 = .ok (.iconst 0, 1) := dk_3 (dk_at dksX0_back_2 4 rfl rfl)
theorem dX0_back_53 : decode cX0_back 53 = .ok (.iaload, 1) := dk_46 (dk_at dksX0_back_2 5 rfl rfl)
theorem dX0_back_54 : decode cX0_back 54 = .ok (.putfield 18, 3) := dk_181 0 18 (dk_at dksX0_back_2 6 rfl rfl)
theorem dX0_back_57 : decode cX0_back 57 = .ok (.aload_n 0, 1) := dk_42 (dk_at dksX0_back_2 9 rfl rfl)
theorem dX0_back_58 : decode cX0_back 58 = .ok (.aload_n 0, 1) := dk_42 (dk_at dksX0_back_2 10 rfl rfl)
theorem dX0_back_59 : decode cX0_back 59 = .ok (.getfield 309, 3) := dk_180 1 53 (dk_at dksX0_back_2 11 rfl rfl)
theorem dX0_back_62 : decode cX0_back 62 = .ok (.iconst 1, 1) := dk_4 (dk_at dksX0_back_2 14 rfl rfl)
theorem dX0_back_63 : decode cX0_back 63 = .ok (.iaload, 1) := dk_46 (dk_at dksX0_back_2 15 rfl rfl)
theorem dX0_back_64 : decode cX0_back 64 = .ok (.putfield 87, 3) := dk_181 0 87 (dk_at dksX0_back_2 16 rfl rfl)
theorem dX0_back_67 : decode cX0_back 67 = .ok (.aload_n 0, 1) := dk_42 (dk_at dksX0_back_2 19 rfl rfl)
theorem dX0_back_68 : decode cX0_back 68 = .ok (.aload_n 0, 1) := dk_42 (dk_at dksX0_back_2 20 rfl rfl)
theorem dX0_back_69 : decode cX0_back 69 = .ok (.getfield 309, 3) := dk_180 1 53 (dk_at dksX0_back_2 21 rfl rfl)
theorem dX0_back_72 : decode cX0_back 72 = .ok (.iconst 2, 1) := dk_5 (dk_at dksX0_back_3 0 rfl rfl)
theorem dX0_back_73 : decode cX0_back 73 = .ok (.iaload, 1) := dk_46 (dk_at dksX0_back_3 1 rfl rfl)
theorem dX0_back_74 : decode cX0_back 74 = .ok (.putfield 328, 3) := dk_181 1 72 (dk_at dksX0_back_3 2 rfl rfl)
theorem dX0_back_77 : decode cX0_back 77 = .ok (.iconst 0, 1) := dk_3 (dk_at dksX0_back_3 5 rfl rfl)
theorem dX0_back_78 : decode cX0_back 78 = .ok (.istore_n 1, 1) := dk_60 (dk_at dksX0_back_3 6 rfl rfl)
theorem dX0_back_79 : decode cX0_back 79 = .ok (.iload_n 1, 1) := dk_27 (dk_at dksX0_back_3 7 rfl rfl)
theorem dX0_back_80 : decode cX0_back 80 = .ok (.aload_n 0, 1) := dk_42 (dk_at dksX0_back_3 8 rfl rfl)
theorem dX0_back_81 : decode cX0_back 81 = .ok (.getfield 18, 3) := dk_180 0 18 (dk_at dksX0_back_3 9 rfl rfl)
theorem dX0_back_84 : decode cX0_back 84 = .ok (.if_icmp .ge 60, 3) := dk_162 0 60 (dk_at dksX0_back_3 12 rfl rfl)
theorem dX0_back_87 : decode cX0_back 87 = .ok (.aload_n 0, 1) := dk_42 (dk_at dksX0_back_3 15 rfl rfl)
theorem dX0_back_88 : decode cX0_back 88 = .ok (.getfield 60, 3) := dk_180 0 60 (dk_at dksX0_back_3 16 rfl rfl)
theorem dX0_back_91 : decode cX0_back 91 = .ok (.iload_n 1, 1) := dk_27 (dk_at dksX0_back_3 19 rfl rfl)
theorem dX0_back_92 : decode cX0_back 92 = .ok (.aaload, 1) := dk_50 (dk_at dksX0_back_3 20 rfl rfl)
theorem dX0_back_93 : decode cX0_back 93 = .ok (.aload_n 0, 1) := dk_42 (dk_at dksX0_back_3 21 rfl rfl)
theorem dX0_back_94 : decode cX0_back 94 = .ok (.getfield 306, 3) := dk_180 1 50 (dk_at dksX0_back_4 0 rfl rfl)
theorem dX0_back_97 : decode cX0_back 97 = .ok (.iconst 0, 1) := dk_3 (dk_at dksX0_back_4 3 rfl rfl)
theorem dX0_back_98 : decode cX0_back 98 = .ok (.aaload, 1) := dk_50 (dk_at dksX0_back_4 4 rfl rfl)
theorem dX0_back_99 : decode cX0_back 99 = .ok (.iload_n 1, 1) := dk_27 (dk_at dksX0_back_4 5 rfl rfl)
theorem dX0_back_100 : decode cX0_back 100 = .ok (.iaload, 1) := dk_46 (dk_at dksX0_back_4 6 rfl rfl)
theorem dX0_back_101 : decode cX0_back 101 = .ok (.putfield 90, 3) := dk_181 0 90 (dk_at dksX0_back_4 7 rfl rfl)
theorem dX0_back_104 : decode cX0_back 104 = .ok (.aload_n 0, 1) := dk_42 (dk_at dksX0_back_4 10 rfl rfl)
theorem dX0_back_105 : decode cX0_back 105 = .ok (.getfield 60, 3) := dk_180 0 60 (dk_at dksX0_back_4 11 rfl rfl)
theorem dX0_back_108 : decode cX0_back 108 = .ok (.iload_n 1, 1) := dk_27 (dk_at dksX0_back_4 14 rfl rfl)
theorem dX0_back_109 : decode cX0_back 109 = .ok (.aaload, 1) := dk_50 (dk_at dksX0_back_4 15 rfl rfl)
theorem dX0_back_110 : decode cX0_back 110 = .ok (.aload_n 0, 1) := dk_42 (dk_at dksX0_back_4 16 rfl rfl)
theorem dX0_back_111 : decode cX0_back 111 = .ok (.getfield 306, 3) := dk_180 1 50 (dk_at dksX0_back_4 17 rfl rfl)
theorem dX0_back_114 : decode cX0_back 114 = .ok (.iconst 1, 1) := dk_4 (dk_at dksX0_back_4 20 rfl rfl)
theorem dX0_back_115 : decode cX0_back 115 = .ok (.aaload, 1) := dk_50 (dk_at dksX0_back_4 21 rfl rfl)
theorem dX0_back_116 : decode cX0_back 116 = .ok (.iload_n 1, 1) := dk_27 (dk_at dksX0_back_4 22 rfl rfl)
theorem dX0_back_117 : decode cX0_back 117 = .ok (.iaload, 1) := dk_46 (dk_at dksX0_back_4 23 rfl rfl)
theorem dX0_back_118 : decode cX0_back 118 = .ok (.putfield 93, 3) := dk_181 0 93 (dk_at dksX0_back_5 0 rfl rfl)
theorem dX0_back_121 : decode cX0_back 121 = .ok (.aload_n 0, 1) := dk_42 (dk_at dksX0_back_5 3 rfl rfl)
theorem dX0_back_122 : decode cX0_back 122 = .ok (.getfield 60, 3) := dk_180 0 60 (dk_at dksX0_back_5 4 rfl rfl)
theorem dX0_back_125 : decode cX0_back 125 = .ok (.iload_n 1, 1) := dk_27 (dk_at dksX0_back_5 7 rfl rfl)
theorem dX0_back_126 : decode cX0_back 126 = .ok (.aaload, 1) := dk_50 (dk_at dksX0_back_5 8 rfl rfl)
theorem dX0_back_127 : decode cX0_back 127 = .ok (.aload_n 0, 1) := dk_42 (dk_at dksX0_back_5 9 rfl rfl)
theorem dX0_back_128 : decode cX0_back 128 = .ok (.getfield 306, 3) := dk_180 1 50 (dk_at dksX0_back_5 10 rfl rfl)
theorem dX0_back_131 : decode cX0_back 131 = .ok (.iconst 2, 1) := dk_5 (dk_at dksX0_back_5 13 rfl rfl)
theorem dX0_back_132 : decode cX0_back 132 = .ok (.aaload, 1) := dk_50 (dk_at dksX0_back_5 14 rfl rfl)
theorem dX0_back_133 : decode cX0_back 133 = .ok (.iload_n 1, 1) := dk_27 (dk_at dksX0_back_5 15 rfl rfl)
theorem dX0_back_134 : decode cX0_back 134 = .ok (.iaload, 1) := dk_46 (dk_at dksX0_back_5 16 rfl rfl)
theorem dX0_back_135 : decode cX0_back 135 = .ok (.putfield 110, 3) := dk_181 0 110 (dk_at dksX0_back_5 17 rfl rfl)
theorem dX0_back_138 : decode cX0_back 138 = .ok (.iinc 1 1, 3) := dk_132 1 1 (dk_at dksX0_back_5 20 rfl rfl)
theorem dX0_back_141 : decode cX0_back 141 = .ok (.goto (-62), 3) := dk_167 255 194 (dk_at dksX0_back_6 0 rfl rfl)
theorem dX0_back_144 : decode cX0_back 144 = .ok (.aload_n 0, 1) := dk_42 (dk_at dksX0_back_6 3 rfl rfl)
theorem dX0_back_145 : decode cX0_back 145 = .ok (.getfield 18, 3) := dk_180 0 18 (dk_at dksX0_back_6 4 rfl rfl)
theorem dX0_back_148 : decode cX0_back 148 = .ok (.ireturn, 1) := dk_172 (dk_at dksX0_back_6 7 rfl rfl)
abbrev cX0_count : ByteArray := prog_1_method_83_code
def yX0_count : MethodName := ⟨RX0, "count", "(I)I"⟩
def dkwX0_count_3 : List UInt8 := [172, 42, 180, 1, 72, 172, 16, 254, 172]
abbrev dktX0_count_3 : List UInt8 := dkwX0_count_3 ++ []
def dkwX0_count_2 : List UInt8 := [42, 180, 0, 18, 172, 42, 182, 2, 14, 172, 42, 182, 2, 17, 172, 42, 180, 1, 3, 172, 42, 180, 0, 248]
abbrev dktX0_count_2 : List UInt8 := dkwX0_count_2 ++ dktX0_count_3
def dkwX0_count_1 : List UInt8 := [170, 0, 0, 0, 0, 0, 69, 0, 0, 0, 0, 0, 0, 0, 5, 0, 0, 0, 39, 0, 0, 0, 44, 0, 0, 0, 49, 0, 0, 0, 54, 0, 0, 0, 59, 0, 0, 0, 64]
abbrev dktX0_count_1 : List UInt8 := dkwX0_count_1 ++ dktX0_count_2
def dkwX0_count_0 : List UInt8 := [27]
abbrev dktX0_count_0 : List UInt8 := dkwX0_count_0 ++ dktX0_count_1
theorem dksX0_count_0 : cX0_count.data.toList.drop 0 = dktX0_count_0 := by decide +kernel
theorem dksX0_count_1 : cX0_count.data.toList.drop 1 = dktX0_count_1 := dk_seg dksX0_count_0 1 rfl rfl
theorem dksX0_count_2 : cX0_count.data.toList.drop 40 = dktX0_count_2 := dk_seg dksX0_count_1 39 rfl rfl
theorem dksX0_count_3 : cX0_count.data.toList.drop 64 = dktX0_count_3 := dk_seg dksX0_count_2 24 rfl rfl
theorem dX0_count_0 : decode cX0_count 0 = .ok (.iload_n 1, 1) := dk_27 (dk_at dksX0_count_0 0 rfl rfl)
theorem dX0_count_1 : decode cX0_count 1 = .ok (.tableswitch 69 0 5 #[39, 44, 49, 54, 59, 64], 39) := by decide +kernel
theorem dX0_count_40 : decode cX0_count 40 = .ok (.aload_n 0, 1) := dk_42 (dk_at dksX0_count_2 0 rfl rfl)
theorem dX0_count_41 : decode cX0_count 41 = .ok (.getfield 18, 3) := dk_180 0 18 (dk_at dksX0_count_2 1 rfl rfl)
theorem dX0_count_44 : decode cX0_count 44 = .ok (.ireturn, 1) := dk_172 (dk_at dksX0_count_2 4 rfl rfl)
theorem dX0_count_45 : decode cX0_count 45 = .ok (.aload_n 0, 1) := dk_42 (dk_at dksX0_count_2 5 rfl rfl)
theorem dX0_count_46 : decode cX0_count 46 = .ok (.invokevirtual 526, 3) := dk_182 2 14 (dk_at dksX0_count_2 6 rfl rfl)
theorem dX0_count_49 : decode cX0_count 49 = .ok (.ireturn, 1) := dk_172 (dk_at dksX0_count_2 9 rfl rfl)
theorem dX0_count_50 : decode cX0_count 50 = .ok (.aload_n 0, 1) := dk_42 (dk_at dksX0_count_2 10 rfl rfl)
theorem dX0_count_51 : decode cX0_count 51 = .ok (.invokevirtual 529, 3) := dk_182 2 17 (dk_at dksX0_count_2 11 rfl rfl)
theorem dX0_count_54 : decode cX0_count 54 = .ok (.ireturn, 1) := dk_172 (dk_at dksX0_count_2 14 rfl rfl)
theorem dX0_count_55 : decode cX0_count 55 = .ok (.aload_n 0, 1) := dk_42 (dk_at dksX0_count_2 15 rfl rfl)
theorem dX0_count_56 : decode cX0_count 56 = .ok (.getfield 259, 3) := dk_180 1 3 (dk_at dksX0_count_2 16 rfl rfl)
theorem dX0_count_59 : decode cX0_count 59 = .ok (.ireturn, 1) := dk_172 (dk_at dksX0_count_2 19 rfl rfl)
theorem dX0_count_60 : decode cX0_count 60 = .ok (.aload_n 0, 1) := dk_42 (dk_at dksX0_count_2 20 rfl rfl)
theorem dX0_count_61 : decode cX0_count 61 = .ok (.getfield 248, 3) := dk_180 0 248 (dk_at dksX0_count_2 21 rfl rfl)
theorem dX0_count_64 : decode cX0_count 64 = .ok (.ireturn, 1) := dk_172 (dk_at dksX0_count_3 0 rfl rfl)
theorem dX0_count_65 : decode cX0_count 65 = .ok (.aload_n 0, 1) := dk_42 (dk_at dksX0_count_3 1 rfl rfl)
theorem dX0_count_66 : decode cX0_count 66 = .ok (.getfield 328, 3) := dk_180 1 72 (dk_at dksX0_count_3 2 rfl rfl)
theorem dX0_count_69 : decode cX0_count 69 = .ok (.ireturn, 1) := dk_172 (dk_at dksX0_count_3 5 rfl rfl)
theorem dX0_count_70 : decode cX0_count 70 = .ok (.bipush (-2), 2) := dk_16 254 (dk_at dksX0_count_3 6 rfl rfl)
theorem dX0_count_72 : decode cX0_count 72 = .ok (.ireturn, 1) := dk_172 (dk_at dksX0_count_3 8 rfl rfl)
abbrev cX0_roadMany : ByteArray := prog_1_method_81_code
def yX0_roadMany : MethodName := ⟨RX0, "roadMany", "()I"⟩
def dkwX0_roadMany_2 : List UInt8 := [132, 2, 1, 167, 255, 212, 27, 172]
abbrev dktX0_roadMany_2 : List UInt8 := dkwX0_roadMany_2 ++ []
def dkwX0_roadMany_1 : List UInt8 := [180, 0, 72, 28, 50, 29, 46, 154, 0, 7, 3, 167, 0, 4, 4, 96, 60, 132, 3, 1, 167, 255, 228]
abbrev dktX0_roadMany_1 : List UInt8 := dkwX0_roadMany_1 ++ dktX0_roadMany_2
def dkwX0_roadMany_0 : List UInt8 := [3, 60, 3, 61, 28, 16, 8, 162, 0, 44, 28, 4, 96, 62, 29, 16, 8, 162, 0, 28, 27, 42]
abbrev dktX0_roadMany_0 : List UInt8 := dkwX0_roadMany_0 ++ dktX0_roadMany_1
theorem dksX0_roadMany_0 : cX0_roadMany.data.toList.drop 0 = dktX0_roadMany_0 := by decide +kernel
theorem dksX0_roadMany_1 : cX0_roadMany.data.toList.drop 22 = dktX0_roadMany_1 := dk_seg dksX0_roadMany_0 22 rfl rfl
theorem dksX0_roadMany_2 : cX0_roadMany.data.toList.drop 45 = dktX0_roadMany_2 := dk_seg dksX0_roadMany_1 23 rfl rfl
theorem dX0_roadMany_0 : decode cX0_roadMany 0 = .ok (.iconst 0, 1) := dk_3 (dk_at dksX0_roadMany_0 0 rfl rfl)
theorem dX0_roadMany_1 : decode cX0_roadMany 1 = .ok (.istore_n 1, 1) := dk_60 (dk_at dksX0_roadMany_0 1 rfl rfl)
theorem dX0_roadMany_2 : decode cX0_roadMany 2 = .ok (.iconst 0, 1) := dk_3 (dk_at dksX0_roadMany_0 2 rfl rfl)
theorem dX0_roadMany_3 : decode cX0_roadMany 3 = .ok (.istore_n 2, 1) := dk_61 (dk_at dksX0_roadMany_0 3 rfl rfl)
theorem dX0_roadMany_4 : decode cX0_roadMany 4 = .ok (.iload_n 2, 1) := dk_28 (dk_at dksX0_roadMany_0 4 rfl rfl)
theorem dX0_roadMany_5 : decode cX0_roadMany 5 = .ok (.bipush 8, 2) := dk_16 8 (dk_at dksX0_roadMany_0 5 rfl rfl)
theorem dX0_roadMany_7 : decode cX0_roadMany 7 = .ok (.if_icmp .ge 44, 3) := dk_162 0 44 (dk_at dksX0_roadMany_0 7 rfl rfl)
theorem dX0_roadMany_10 : decode cX0_roadMany 10 = .ok (.iload_n 2, 1) := dk_28 (dk_at dksX0_roadMany_0 10 rfl rfl)
theorem dX0_roadMany_11 : decode cX0_roadMany 11 = .ok (.iconst 1, 1) := dk_4 (dk_at dksX0_roadMany_0 11 rfl rfl)
theorem dX0_roadMany_12 : decode cX0_roadMany 12 = .ok (.iadd, 1) := dk_96 (dk_at dksX0_roadMany_0 12 rfl rfl)
theorem dX0_roadMany_13 : decode cX0_roadMany 13 = .ok (.istore_n 3, 1) := dk_62 (dk_at dksX0_roadMany_0 13 rfl rfl)
theorem dX0_roadMany_14 : decode cX0_roadMany 14 = .ok (.iload_n 3, 1) := dk_29 (dk_at dksX0_roadMany_0 14 rfl rfl)
theorem dX0_roadMany_15 : decode cX0_roadMany 15 = .ok (.bipush 8, 2) := dk_16 8 (dk_at dksX0_roadMany_0 15 rfl rfl)
theorem dX0_roadMany_17 : decode cX0_roadMany 17 = .ok (.if_icmp .ge 28, 3) := dk_162 0 28 (dk_at dksX0_roadMany_0 17 rfl rfl)
theorem dX0_roadMany_20 : decode cX0_roadMany 20 = .ok (.iload_n 1, 1) := dk_27 (dk_at dksX0_roadMany_0 20 rfl rfl)
theorem dX0_roadMany_21 : decode cX0_roadMany 21 = .ok (.aload_n 0, 1) := dk_42 (dk_at dksX0_roadMany_0 21 rfl rfl)
theorem dX0_roadMany_22 : decode cX0_roadMany 22 = .ok (.getfield 72, 3) := dk_180 0 72 (dk_at dksX0_roadMany_1 0 rfl rfl)
theorem dX0_roadMany_25 : decode cX0_roadMany 25 = .ok (.iload_n 2, 1) := dk_28 (dk_at dksX0_roadMany_1 3 rfl rfl)
theorem dX0_roadMany_26 : decode cX0_roadMany 26 = .ok (.aaload, 1) := dk_50 (dk_at dksX0_roadMany_1 4 rfl rfl)
theorem dX0_roadMany_27 : decode cX0_roadMany 27 = .ok (.iload_n 3, 1) := dk_29 (dk_at dksX0_roadMany_1 5 rfl rfl)
theorem dX0_roadMany_28 : decode cX0_roadMany 28 = .ok (.iaload, 1) := dk_46 (dk_at dksX0_roadMany_1 6 rfl rfl)
theorem dX0_roadMany_29 : decode cX0_roadMany 29 = .ok (.ifCond .ne 7, 3) := dk_154 0 7 (dk_at dksX0_roadMany_1 7 rfl rfl)
theorem dX0_roadMany_32 : decode cX0_roadMany 32 = .ok (.iconst 0, 1) := dk_3 (dk_at dksX0_roadMany_1 10 rfl rfl)
theorem dX0_roadMany_33 : decode cX0_roadMany 33 = .ok (.goto 4, 3) := dk_167 0 4 (dk_at dksX0_roadMany_1 11 rfl rfl)
theorem dX0_roadMany_36 : decode cX0_roadMany 36 = .ok (.iconst 1, 1) := dk_4 (dk_at dksX0_roadMany_1 14 rfl rfl)
theorem dX0_roadMany_37 : decode cX0_roadMany 37 = .ok (.iadd, 1) := dk_96 (dk_at dksX0_roadMany_1 15 rfl rfl)
theorem dX0_roadMany_38 : decode cX0_roadMany 38 = .ok (.istore_n 1, 1) := dk_60 (dk_at dksX0_roadMany_1 16 rfl rfl)
theorem dX0_roadMany_39 : decode cX0_roadMany 39 = .ok (.iinc 3 1, 3) := dk_132 3 1 (dk_at dksX0_roadMany_1 17 rfl rfl)
theorem dX0_roadMany_42 : decode cX0_roadMany 42 = .ok (.goto (-28), 3) := dk_167 255 228 (dk_at dksX0_roadMany_1 20 rfl rfl)
theorem dX0_roadMany_45 : decode cX0_roadMany 45 = .ok (.iinc 2 1, 3) := dk_132 2 1 (dk_at dksX0_roadMany_2 0 rfl rfl)
theorem dX0_roadMany_48 : decode cX0_roadMany 48 = .ok (.goto (-44), 3) := dk_167 255 212 (dk_at dksX0_roadMany_2 3 rfl rfl)
theorem dX0_roadMany_51 : decode cX0_roadMany 51 = .ok (.iload_n 1, 1) := dk_27 (dk_at dksX0_roadMany_2 6 rfl rfl)
theorem dX0_roadMany_52 : decode cX0_roadMany 52 = .ok (.ireturn, 1) := dk_172 (dk_at dksX0_roadMany_2 7 rfl rfl)
abbrev cX0_riddenAll : ByteArray := prog_1_method_82_code
def yX0_riddenAll : MethodName := ⟨RX0, "riddenAll", "()I"⟩
def dkwX0_riddenAll_1 : List UInt8 := [132, 2, 1, 167, 255, 233, 27, 172]
abbrev dktX0_riddenAll_1 : List UInt8 := dkwX0_riddenAll_1 ++ []
def dkwX0_riddenAll_0 : List UInt8 := [3, 60, 3, 61, 28, 42, 180, 0, 18, 162, 0, 21, 27, 42, 180, 0, 60, 28, 50, 180, 0, 110, 96, 60]
abbrev dktX0_riddenAll_0 : List UInt8 := dkwX0_riddenAll_0 ++ dktX0_riddenAll_1
theorem dksX0_riddenAll_0 : cX0_riddenAll.data.toList.drop 0 = dktX0_riddenAll_0 := by decide +kernel
theorem dksX0_riddenAll_1 : cX0_riddenAll.data.toList.drop 24 = dktX0_riddenAll_1 := dk_seg dksX0_riddenAll_0 24 rfl rfl
theorem dX0_riddenAll_0 : decode cX0_riddenAll 0 = .ok (.iconst 0, 1) := dk_3 (dk_at dksX0_riddenAll_0 0 rfl rfl)
theorem dX0_riddenAll_1 : decode cX0_riddenAll 1 = .ok (.istore_n 1, 1) := dk_60 (dk_at dksX0_riddenAll_0 1 rfl rfl)
theorem dX0_riddenAll_2 : decode cX0_riddenAll 2 = .ok (.iconst 0, 1) := dk_3 (dk_at dksX0_riddenAll_0 2 rfl rfl)
theorem dX0_riddenAll_3 : decode cX0_riddenAll 3 = .ok (.istore_n 2, 1) := dk_61 (dk_at dksX0_riddenAll_0 3 rfl rfl)
theorem dX0_riddenAll_4 : decode cX0_riddenAll 4 = .ok (.iload_n 2, 1) := dk_28 (dk_at dksX0_riddenAll_0 4 rfl rfl)
theorem dX0_riddenAll_5 : decode cX0_riddenAll 5 = .ok (.aload_n 0, 1) := dk_42 (dk_at dksX0_riddenAll_0 5 rfl rfl)
theorem dX0_riddenAll_6 : decode cX0_riddenAll 6 = .ok (.getfield 18, 3) := dk_180 0 18 (dk_at dksX0_riddenAll_0 6 rfl rfl)
theorem dX0_riddenAll_9 : decode cX0_riddenAll 9 = .ok (.if_icmp .ge 21, 3) := dk_162 0 21 (dk_at dksX0_riddenAll_0 9 rfl rfl)
theorem dX0_riddenAll_12 : decode cX0_riddenAll 12 = .ok (.iload_n 1, 1) := dk_27 (dk_at dksX0_riddenAll_0 12 rfl rfl)
theorem dX0_riddenAll_13 : decode cX0_riddenAll 13 = .ok (.aload_n 0, 1) := dk_42 (dk_at dksX0_riddenAll_0 13 rfl rfl)
theorem dX0_riddenAll_14 : decode cX0_riddenAll 14 = .ok (.getfield 60, 3) := dk_180 0 60 (dk_at dksX0_riddenAll_0 14 rfl rfl)
theorem dX0_riddenAll_17 : decode cX0_riddenAll 17 = .ok (.iload_n 2, 1) := dk_28 (dk_at dksX0_riddenAll_0 17 rfl rfl)
theorem dX0_riddenAll_18 : decode cX0_riddenAll 18 = .ok (.aaload, 1) := dk_50 (dk_at dksX0_riddenAll_0 18 rfl rfl)
theorem dX0_riddenAll_19 : decode cX0_riddenAll 19 = .ok (.getfield 110, 3) := dk_180 0 110 (dk_at dksX0_riddenAll_0 19 rfl rfl)
theorem dX0_riddenAll_22 : decode cX0_riddenAll 22 = .ok (.iadd, 1) := dk_96 (dk_at dksX0_riddenAll_0 22 rfl rfl)
theorem dX0_riddenAll_23 : decode cX0_riddenAll 23 = .ok (.istore_n 1, 1) := dk_60 (dk_at dksX0_riddenAll_0 23 rfl rfl)
theorem dX0_riddenAll_24 : decode cX0_riddenAll 24 = .ok (.iinc 2 1, 3) := dk_132 2 1 (dk_at dksX0_riddenAll_1 0 rfl rfl)
theorem dX0_riddenAll_27 : decode cX0_riddenAll 27 = .ok (.goto (-23), 3) := dk_167 255 233 (dk_at dksX0_riddenAll_1 3 rfl rfl)
theorem dX0_riddenAll_30 : decode cX0_riddenAll 30 = .ok (.iload_n 1, 1) := dk_27 (dk_at dksX0_riddenAll_1 6 rfl rfl)
theorem dX0_riddenAll_31 : decode cX0_riddenAll 31 = .ok (.ireturn, 1) := dk_172 (dk_at dksX0_riddenAll_1 7 rfl rfl)
abbrev cX0_copy : ByteArray := prog_1_method_93_code
def yX0_copy : MethodName := ⟨RX0, "copy", "(IIIII)I"⟩
def dkwX0_copy_6 : List UInt8 := [172, 25, 6, 28, 25, 7, 21, 4, 21, 5, 184, 2, 5, 21, 5, 172]
abbrev dktX0_copy_6 : List UInt8 := dkwX0_copy_6 ++ []
def dkwX0_copy_5 : List UInt8 := [163, 0, 22, 21, 5, 21, 8, 28, 100, 163, 0, 13, 21, 5, 21, 9, 21, 4, 100, 164, 0, 6, 16, 244]
abbrev dktX0_copy_5 : List UInt8 := dkwX0_copy_5 ++ dktX0_copy_6
def dkwX0_copy_4 : List UInt8 := [155, 0, 44, 28, 155, 0, 40, 21, 4, 155, 0, 35, 28, 21, 8, 163, 0, 29, 21, 4, 21, 9]
abbrev dktX0_copy_4 : List UInt8 := dkwX0_copy_4 ++ dktX0_copy_5
def dkwX0_copy_3 : List UInt8 := [25, 6, 184, 1, 188, 184, 1, 192, 54, 8, 25, 7, 25, 7, 184, 1, 188, 184, 1, 192, 54, 9, 21, 5]
abbrev dktX0_copy_3 : List UInt8 := dkwX0_copy_3 ++ dktX0_copy_4
def dkwX0_copy_2 : List UInt8 := [199, 0, 6, 16, 245, 172, 25, 6, 184, 1, 188, 25, 7, 184, 1, 188, 159, 0, 6, 16, 243, 172, 25, 6]
abbrev dktX0_copy_2 : List UInt8 := dkwX0_copy_2 ++ dktX0_copy_3
def dkwX0_copy_1 : List UInt8 := [180, 1, 223, 58, 6, 42, 180, 1, 59, 29, 50, 180, 1, 223, 58, 7, 25, 6, 198, 0, 8, 25, 7]
abbrev dktX0_copy_1 : List UInt8 := dkwX0_copy_1 ++ dktX0_copy_2
def dkwX0_copy_0 : List UInt8 := [27, 184, 1, 216, 153, 0, 10, 29, 184, 1, 216, 154, 0, 6, 16, 254, 172, 42, 180, 1, 59, 27, 50]
abbrev dktX0_copy_0 : List UInt8 := dkwX0_copy_0 ++ dktX0_copy_1
theorem dksX0_copy_0 : cX0_copy.data.toList.drop 0 = dktX0_copy_0 := by decide +kernel
theorem dksX0_copy_1 : cX0_copy.data.toList.drop 23 = dktX0_copy_1 := dk_seg dksX0_copy_0 23 rfl rfl
theorem dksX0_copy_2 : cX0_copy.data.toList.drop 46 = dktX0_copy_2 := dk_seg dksX0_copy_1 23 rfl rfl
theorem dksX0_copy_3 : cX0_copy.data.toList.drop 70 = dktX0_copy_3 := dk_seg dksX0_copy_2 24 rfl rfl
theorem dksX0_copy_4 : cX0_copy.data.toList.drop 94 = dktX0_copy_4 := dk_seg dksX0_copy_3 24 rfl rfl
theorem dksX0_copy_5 : cX0_copy.data.toList.drop 116 = dktX0_copy_5 := dk_seg dksX0_copy_4 22 rfl rfl
theorem dksX0_copy_6 : cX0_copy.data.toList.drop 140 = dktX0_copy_6 := dk_seg dksX0_copy_5 24 rfl rfl
theorem dX0_copy_0 : decode cX0_copy 0 = .ok (.iload_n 1, 1) := dk_27 (dk_at dksX0_copy_0 0 rfl rfl)
theorem dX0_copy_1 : decode cX0_copy 1 = .ok (.invokestatic 472, 3) := dk_184 1 216 (dk_at dksX0_copy_0 1 rfl rfl)
theorem dX0_copy_4 : decode cX0_copy 4 = .ok (.ifCond .eq 10, 3) := dk_153 0 10 (dk_at dksX0_copy_0 4 rfl rfl)
theorem dX0_copy_7 : decode cX0_copy 7 = .ok (.iload_n 3, 1) := dk_29 (dk_at dksX0_copy_0 7 rfl rfl)
theorem dX0_copy_8 : decode cX0_copy 8 = .ok (.invokestatic 472, 3) := dk_184 1 216 (dk_at dksX0_copy_0 8 rfl rfl)
theorem dX0_copy_11 : decode cX0_copy 11 = .ok (.ifCond .ne 6, 3) := dk_154 0 6 (dk_at dksX0_copy_0 11 rfl rfl)
theorem dX0_copy_14 : decode cX0_copy 14 = .ok (.bipush (-2), 2) := dk_16 254 (dk_at dksX0_copy_0 14 rfl rfl)
theorem dX0_copy_16 : decode cX0_copy 16 = .ok (.ireturn, 1) := dk_172 (dk_at dksX0_copy_0 16 rfl rfl)
theorem dX0_copy_17 : decode cX0_copy 17 = .ok (.aload_n 0, 1) := dk_42 (dk_at dksX0_copy_0 17 rfl rfl)
theorem dX0_copy_18 : decode cX0_copy 18 = .ok (.getfield 315, 3) := dk_180 1 59 (dk_at dksX0_copy_0 18 rfl rfl)
theorem dX0_copy_21 : decode cX0_copy 21 = .ok (.iload_n 1, 1) := dk_27 (dk_at dksX0_copy_0 21 rfl rfl)
theorem dX0_copy_22 : decode cX0_copy 22 = .ok (.aaload, 1) := dk_50 (dk_at dksX0_copy_0 22 rfl rfl)
theorem dX0_copy_23 : decode cX0_copy 23 = .ok (.getfield 479, 3) := dk_180 1 223 (dk_at dksX0_copy_1 0 rfl rfl)
theorem dX0_copy_26 : decode cX0_copy 26 = .ok (.astore 6, 2) := dk_58 6 (dk_at dksX0_copy_1 3 rfl rfl)
theorem dX0_copy_28 : decode cX0_copy 28 = .ok (.aload_n 0, 1) := dk_42 (dk_at dksX0_copy_1 5 rfl rfl)
theorem dX0_copy_29 : decode cX0_copy 29 = .ok (.getfield 315, 3) := dk_180 1 59 (dk_at dksX0_copy_1 6 rfl rfl)
theorem dX0_copy_32 : decode cX0_copy 32 = .ok (.iload_n 3, 1) := dk_29 (dk_at dksX0_copy_1 9 rfl rfl)
theorem dX0_copy_33 : decode cX0_copy 33 = .ok (.aaload, 1) := dk_50 (dk_at dksX0_copy_1 10 rfl rfl)
theorem dX0_copy_34 : decode cX0_copy 34 = .ok (.getfield 479, 3) := dk_180 1 223 (dk_at dksX0_copy_1 11 rfl rfl)
theorem dX0_copy_37 : decode cX0_copy 37 = .ok (.astore 7, 2) := dk_58 7 (dk_at dksX0_copy_1 14 rfl rfl)
theorem dX0_copy_39 : decode cX0_copy 39 = .ok (.aload 6, 2) := dk_25 6 (dk_at dksX0_copy_1 16 rfl rfl)
theorem dX0_copy_41 : decode cX0_copy 41 = .ok (.ifnull 8, 3) := dk_198 0 8 (dk_at dksX0_copy_1 18 rfl rfl)
theorem dX0_copy_44 : decode cX0_copy 44 = .ok (.aload 7, 2) := dk_25 7 (dk_at dksX0_copy_1 21 rfl rfl)
theorem dX0_copy_46 : decode cX0_copy 46 = .ok (.ifnonnull 6, 3) := dk_199 0 6 (dk_at dksX0_copy_2 0 rfl rfl)
theorem dX0_copy_49 : decode cX0_copy 49 = .ok (.bipush (-11), 2) := dk_16 245 (dk_at dksX0_copy_2 3 rfl rfl)
theorem dX0_copy_51 : decode cX0_copy 51 = .ok (.ireturn, 1) := dk_172 (dk_at dksX0_copy_2 5 rfl rfl)
theorem dX0_copy_52 : decode cX0_copy 52 = .ok (.aload 6, 2) := dk_25 6 (dk_at dksX0_copy_2 6 rfl rfl)
theorem dX0_copy_54 : decode cX0_copy 54 = .ok (.invokestatic 444, 3) := dk_184 1 188 (dk_at dksX0_copy_2 8 rfl rfl)
theorem dX0_copy_57 : decode cX0_copy 57 = .ok (.aload 7, 2) := dk_25 7 (dk_at dksX0_copy_2 11 rfl rfl)
theorem dX0_copy_59 : decode cX0_copy 59 = .ok (.invokestatic 444, 3) := dk_184 1 188 (dk_at dksX0_copy_2 13 rfl rfl)
theorem dX0_copy_62 : decode cX0_copy 62 = .ok (.if_icmp .eq 6, 3) := dk_159 0 6 (dk_at dksX0_copy_2 16 rfl rfl)
theorem dX0_copy_65 : decode cX0_copy 65 = .ok (.bipush (-13), 2) := dk_16 243 (dk_at dksX0_copy_2 19 rfl rfl)
theorem dX0_copy_67 : decode cX0_copy 67 = .ok (.ireturn, 1) := dk_172 (dk_at dksX0_copy_2 21 rfl rfl)
theorem dX0_copy_68 : decode cX0_copy 68 = .ok (.aload 6, 2) := dk_25 6 (dk_at dksX0_copy_2 22 rfl rfl)
theorem dX0_copy_70 : decode cX0_copy 70 = .ok (.aload 6, 2) := dk_25 6 (dk_at dksX0_copy_3 0 rfl rfl)
theorem dX0_copy_72 : decode cX0_copy 72 = .ok (.invokestatic 444, 3) := dk_184 1 188 (dk_at dksX0_copy_3 2 rfl rfl)
theorem dX0_copy_75 : decode cX0_copy 75 = .ok (.invokestatic 448, 3) := dk_184 1 192 (dk_at dksX0_copy_3 5 rfl rfl)
theorem dX0_copy_78 : decode cX0_copy 78 = .ok (.istore 8, 2) := dk_54 8 (dk_at dksX0_copy_3 8 rfl rfl)
theorem dX0_copy_80 : decode cX0_copy 80 = .ok (.aload 7, 2) := dk_25 7 (dk_at dksX0_copy_3 10 rfl rfl)
theorem dX0_copy_82 : decode cX0_copy 82 = .ok (.aload 7, 2) := dk_25 7 (dk_at dksX0_copy_3 12 rfl rfl)
theorem dX0_copy_84 : decode cX0_copy 84 = .ok (.invokestatic 444, 3) := dk_184 1 188 (dk_at dksX0_copy_3 14 rfl rfl)
theorem dX0_copy_87 : decode cX0_copy 87 = .ok (.invokestatic 448, 3) := dk_184 1 192 (dk_at dksX0_copy_3 17 rfl rfl)
theorem dX0_copy_90 : decode cX0_copy 90 = .ok (.istore 9, 2) := dk_54 9 (dk_at dksX0_copy_3 20 rfl rfl)
theorem dX0_copy_92 : decode cX0_copy 92 = .ok (.iload 5, 2) := dk_21 5 (dk_at dksX0_copy_3 22 rfl rfl)
theorem dX0_copy_94 : decode cX0_copy 94 = .ok (.ifCond .lt 44, 3) := dk_155 0 44 (dk_at dksX0_copy_4 0 rfl rfl)
theorem dX0_copy_97 : decode cX0_copy 97 = .ok (.iload_n 2, 1) := dk_28 (dk_at dksX0_copy_4 3 rfl rfl)
theorem dX0_copy_98 : decode cX0_copy 98 = .ok (.ifCond .lt 40, 3) := dk_155 0 40 (dk_at dksX0_copy_4 4 rfl rfl)
theorem dX0_copy_101 : decode cX0_copy 101 = .ok (.iload 4, 2) := dk_21 4 (dk_at dksX0_copy_4 7 rfl rfl)
theorem dX0_copy_103 : decode cX0_copy 103 = .ok (.ifCond .lt 35, 3) := dk_155 0 35 (dk_at dksX0_copy_4 9 rfl rfl)
theorem dX0_copy_106 : decode cX0_copy 106 = .ok (.iload_n 2, 1) := dk_28 (dk_at dksX0_copy_4 12 rfl rfl)
theorem dX0_copy_107 : decode cX0_copy 107 = .ok (.iload 8, 2) := dk_21 8 (dk_at dksX0_copy_4 13 rfl rfl)
theorem dX0_copy_109 : decode cX0_copy 109 = .ok (.if_icmp .gt 29, 3) := dk_163 0 29 (dk_at dksX0_copy_4 15 rfl rfl)
theorem dX0_copy_112 : decode cX0_copy 112 = .ok (.iload 4, 2) := dk_21 4 (dk_at dksX0_copy_4 18 rfl rfl)
theorem dX0_copy_114 : decode cX0_copy 114 = .ok (.iload 9, 2) := dk_21 9 (dk_at dksX0_copy_4 20 rfl rfl)
theorem dX0_copy_116 : decode cX0_copy 116 = .ok (.if_icmp .gt 22, 3) := dk_163 0 22 (dk_at dksX0_copy_5 0 rfl rfl)
theorem dX0_copy_119 : decode cX0_copy 119 = .ok (.iload 5, 2) := dk_21 5 (dk_at dksX0_copy_5 3 rfl rfl)
theorem dX0_copy_121 : decode cX0_copy 121 = .ok (.iload 8, 2) := dk_21 8 (dk_at dksX0_copy_5 5 rfl rfl)
theorem dX0_copy_123 : decode cX0_copy 123 = .ok (.iload_n 2, 1) := dk_28 (dk_at dksX0_copy_5 7 rfl rfl)
theorem dX0_copy_124 : decode cX0_copy 124 = .ok (.isub, 1) := dk_100 (dk_at dksX0_copy_5 8 rfl rfl)
theorem dX0_copy_125 : decode cX0_copy 125 = .ok (.if_icmp .gt 13, 3) := dk_163 0 13 (dk_at dksX0_copy_5 9 rfl rfl)
theorem dX0_copy_128 : decode cX0_copy 128 = .ok (.iload 5, 2) := dk_21 5 (dk_at dksX0_copy_5 12 rfl rfl)
theorem dX0_copy_130 : decode cX0_copy 130 = .ok (.iload 9, 2) := dk_21 9 (dk_at dksX0_copy_5 14 rfl rfl)
theorem dX0_copy_132 : decode cX0_copy 132 = .ok (.iload 4, 2) := dk_21 4 (dk_at dksX0_copy_5 16 rfl rfl)
theorem dX0_copy_134 : decode cX0_copy 134 = .ok (.isub, 1) := dk_100 (dk_at dksX0_copy_5 18 rfl rfl)
theorem dX0_copy_135 : decode cX0_copy 135 = .ok (.if_icmp .le 6, 3) := dk_164 0 6 (dk_at dksX0_copy_5 19 rfl rfl)
theorem dX0_copy_138 : decode cX0_copy 138 = .ok (.bipush (-12), 2) := dk_16 244 (dk_at dksX0_copy_5 22 rfl rfl)
theorem dX0_copy_140 : decode cX0_copy 140 = .ok (.ireturn, 1) := dk_172 (dk_at dksX0_copy_6 0 rfl rfl)
theorem dX0_copy_141 : decode cX0_copy 141 = .ok (.aload 6, 2) := dk_25 6 (dk_at dksX0_copy_6 1 rfl rfl)
theorem dX0_copy_143 : decode cX0_copy 143 = .ok (.iload_n 2, 1) := dk_28 (dk_at dksX0_copy_6 3 rfl rfl)
theorem dX0_copy_144 : decode cX0_copy 144 = .ok (.aload 7, 2) := dk_25 7 (dk_at dksX0_copy_6 4 rfl rfl)
theorem dX0_copy_146 : decode cX0_copy 146 = .ok (.iload 4, 2) := dk_21 4 (dk_at dksX0_copy_6 6 rfl rfl)
theorem dX0_copy_148 : decode cX0_copy 148 = .ok (.iload 5, 2) := dk_21 5 (dk_at dksX0_copy_6 8 rfl rfl)
theorem dX0_copy_150 : decode cX0_copy 150 = .ok (.invokestatic 517, 3) := dk_184 2 5 (dk_at dksX0_copy_6 10 rfl rfl)
theorem dX0_copy_153 : decode cX0_copy 153 = .ok (.iload 5, 2) := dk_21 5 (dk_at dksX0_copy_6 13 rfl rfl)
theorem dX0_copy_155 : decode cX0_copy 155 = .ok (.ireturn, 1) := dk_172 (dk_at dksX0_copy_6 15 rfl rfl)
abbrev cX0_people : ByteArray := prog_1_method_95_code
def yX0_people : MethodName := ⟨RX0, "people", "(IIII)I"⟩
def dkwX0_people_2 : List UInt8 := [21, 4, 182, 2, 50, 172, 58, 5, 16, 243, 172, 58, 5, 16, 245, 172, 58, 5, 16, 244, 172]
abbrev dktX0_people_2 : List UInt8 := dkwX0_people_2 ++ []
def dkwX0_people_1 : List UInt8 := [20, 1, 221, 184, 0, 14, 154, 0, 6, 16, 254, 172, 42, 42, 180, 1, 59, 27, 50, 180, 1, 223, 28, 29]
abbrev dktX0_people_1 : List UInt8 := dkwX0_people_1 ++ dktX0_people_2
def dkwX0_people_0 : List UInt8 := [27, 184, 1, 216, 153, 0, 28, 28, 133, 9, 20, 2, 24, 184, 0, 14, 153, 0, 16, 21, 4, 133, 9]
abbrev dktX0_people_0 : List UInt8 := dkwX0_people_0 ++ dktX0_people_1
theorem dksX0_people_0 : cX0_people.data.toList.drop 0 = dktX0_people_0 := by decide +kernel
theorem dksX0_people_1 : cX0_people.data.toList.drop 23 = dktX0_people_1 := dk_seg dksX0_people_0 23 rfl rfl
theorem dksX0_people_2 : cX0_people.data.toList.drop 47 = dktX0_people_2 := dk_seg dksX0_people_1 24 rfl rfl
theorem dX0_people_0 : decode cX0_people 0 = .ok (.iload_n 1, 1) := dk_27 (dk_at dksX0_people_0 0 rfl rfl)
theorem dX0_people_1 : decode cX0_people 1 = .ok (.invokestatic 472, 3) := dk_184 1 216 (dk_at dksX0_people_0 1 rfl rfl)
theorem dX0_people_4 : decode cX0_people 4 = .ok (.ifCond .eq 28, 3) := dk_153 0 28 (dk_at dksX0_people_0 4 rfl rfl)
theorem dX0_people_7 : decode cX0_people 7 = .ok (.iload_n 2, 1) := dk_28 (dk_at dksX0_people_0 7 rfl rfl)
theorem dX0_people_8 : decode cX0_people 8 = .ok (.i2l, 1) := dk_133 (dk_at dksX0_people_0 8 rfl rfl)
theorem dX0_people_9 : decode cX0_people 9 = .ok (.lconst 0, 1) := dk_9 (dk_at dksX0_people_0 9 rfl rfl)
theorem dX0_people_10 : decode cX0_people 10 = .ok (.ldc2_w 536, 3) := dk_20 2 24 (dk_at dksX0_people_0 10 rfl rfl)
theorem dX0_people_13 : decode cX0_people 13 = .ok (.invokestatic 14, 3) := dk_184 0 14 (dk_at dksX0_people_0 13 rfl rfl)
theorem dX0_people_16 : decode cX0_people 16 = .ok (.ifCond .eq 16, 3) := dk_153 0 16 (dk_at dksX0_people_0 16 rfl rfl)
theorem dX0_people_19 : decode cX0_people 19 = .ok (.iload 4, 2) := dk_21 4 (dk_at dksX0_people_0 19 rfl rfl)
theorem dX0_people_21 : decode cX0_people 21 = .ok (.i2l, 1) := dk_133 (dk_at dksX0_people_0 21 rfl rfl)
theorem dX0_people_22 : decode cX0_people 22 = .ok (.lconst 0, 1) := dk_9 (dk_at dksX0_people_0 22 rfl rfl)
theorem dX0_people_23 : decode cX0_people 23 = .ok (.ldc2_w 477, 3) := dk_20 1 221 (dk_at dksX0_people_1 0 rfl rfl)
theorem dX0_people_26 : decode cX0_people 26 = .ok (.invokestatic 14, 3) := dk_184 0 14 (dk_at dksX0_people_1 3 rfl rfl)
theorem dX0_people_29 : decode cX0_people 29 = .ok (.ifCond .ne 6, 3) := dk_154 0 6 (dk_at dksX0_people_1 6 rfl rfl)
theorem dX0_people_32 : decode cX0_people 32 = .ok (.bipush (-2), 2) := dk_16 254 (dk_at dksX0_people_1 9 rfl rfl)
theorem dX0_people_34 : decode cX0_people 34 = .ok (.ireturn, 1) := dk_172 (dk_at dksX0_people_1 11 rfl rfl)
theorem dX0_people_35 : decode cX0_people 35 = .ok (.aload_n 0, 1) := dk_42 (dk_at dksX0_people_1 12 rfl rfl)
theorem dX0_people_36 : decode cX0_people 36 = .ok (.aload_n 0, 1) := dk_42 (dk_at dksX0_people_1 13 rfl rfl)
theorem dX0_people_37 : decode cX0_people 37 = .ok (.getfield 315, 3) := dk_180 1 59 (dk_at dksX0_people_1 14 rfl rfl)
theorem dX0_people_40 : decode cX0_people 40 = .ok (.iload_n 1, 1) := dk_27 (dk_at dksX0_people_1 17 rfl rfl)
theorem dX0_people_41 : decode cX0_people 41 = .ok (.aaload, 1) := dk_50 (dk_at dksX0_people_1 18 rfl rfl)
theorem dX0_people_42 : decode cX0_people 42 = .ok (.getfield 479, 3) := dk_180 1 223 (dk_at dksX0_people_1 19 rfl rfl)
theorem dX0_people_45 : decode cX0_people 45 = .ok (.iload_n 2, 1) := dk_28 (dk_at dksX0_people_1 22 rfl rfl)
theorem dX0_people_46 : decode cX0_people 46 = .ok (.iload_n 3, 1) := dk_29 (dk_at dksX0_people_1 23 rfl rfl)
theorem dX0_people_47 : decode cX0_people 47 = .ok (.iload 4, 2) := dk_21 4 (dk_at dksX0_people_2 0 rfl rfl)
theorem dX0_people_49 : decode cX0_people 49 = .ok (.invokevirtual 562, 3) := dk_182 2 50 (dk_at dksX0_people_2 2 rfl rfl)
theorem dX0_people_52 : decode cX0_people 52 = .ok (.ireturn, 1) := dk_172 (dk_at dksX0_people_2 5 rfl rfl)
theorem dX0_people_53 : decode cX0_people 53 = .ok (.astore 5, 2) := dk_58 5 (dk_at dksX0_people_2 6 rfl rfl)
theorem dX0_people_55 : decode cX0_people 55 = .ok (.bipush (-13), 2) := dk_16 243 (dk_at dksX0_people_2 8 rfl rfl)
theorem dX0_people_57 : decode cX0_people 57 = .ok (.ireturn, 1) := dk_172 (dk_at dksX0_people_2 10 rfl rfl)
theorem dX0_people_58 : decode cX0_people 58 = .ok (.astore 5, 2) := dk_58 5 (dk_at dksX0_people_2 11 rfl rfl)
theorem dX0_people_60 : decode cX0_people 60 = .ok (.bipush (-11), 2) := dk_16 245 (dk_at dksX0_people_2 13 rfl rfl)
theorem dX0_people_62 : decode cX0_people 62 = .ok (.ireturn, 1) := dk_172 (dk_at dksX0_people_2 15 rfl rfl)
theorem dX0_people_63 : decode cX0_people 63 = .ok (.astore 5, 2) := dk_58 5 (dk_at dksX0_people_2 16 rfl rfl)
theorem dX0_people_65 : decode cX0_people 65 = .ok (.bipush (-12), 2) := dk_16 244 (dk_at dksX0_people_2 18 rfl rfl)
theorem dX0_people_67 : decode cX0_people 67 = .ok (.ireturn, 1) := dk_172 (dk_at dksX0_people_2 20 rfl rfl)
abbrev cX0_came : ByteArray := prog_1_method_94_code
def yX0_came : MethodName := ⟨RX0, "came", "(Ljava/lang/Object;III)I"⟩
def dkwX0_came_3 : List UInt8 := [155, 0, 7, 4, 167, 0, 4, 3, 96, 54, 6, 132, 7, 1, 167, 255, 184, 21, 6, 172]
abbrev dktX0_came_3 : List UInt8 := dkwX0_came_3 ++ []
def dkwX0_came_2 : List UInt8 := [21, 6, 42, 21, 8, 21, 9, 43, 28, 29, 6, 21, 7, 104, 96, 5, 96, 184, 1, 196, 182, 2, 47]
abbrev dktX0_came_2 : List UInt8 := dkwX0_came_2 ++ dktX0_came_3
def dkwX0_came_1 : List UInt8 := [21, 7, 104, 96, 184, 1, 196, 54, 8, 43, 28, 29, 6, 21, 7, 104, 96, 4, 96, 184, 1, 196, 54, 9]
abbrev dktX0_came_1 : List UInt8 := dkwX0_came_1 ++ dktX0_came_2
def dkwX0_came_0 : List UInt8 := [43, 28, 184, 1, 192, 54, 5, 3, 54, 6, 3, 54, 7, 21, 7, 21, 4, 162, 0, 71, 43, 28, 29, 6]
abbrev dktX0_came_0 : List UInt8 := dkwX0_came_0 ++ dktX0_came_1
theorem dksX0_came_0 : cX0_came.data.toList.drop 0 = dktX0_came_0 := by decide +kernel
theorem dksX0_came_1 : cX0_came.data.toList.drop 24 = dktX0_came_1 := dk_seg dksX0_came_0 24 rfl rfl
theorem dksX0_came_2 : cX0_came.data.toList.drop 48 = dktX0_came_2 := dk_seg dksX0_came_1 24 rfl rfl
theorem dksX0_came_3 : cX0_came.data.toList.drop 71 = dktX0_came_3 := dk_seg dksX0_came_2 23 rfl rfl
theorem dX0_came_0 : decode cX0_came 0 = .ok (.aload_n 1, 1) := dk_43 (dk_at dksX0_came_0 0 rfl rfl)
theorem dX0_came_1 : decode cX0_came 1 = .ok (.iload_n 2, 1) := dk_28 (dk_at dksX0_came_0 1 rfl rfl)
theorem dX0_came_2 : decode cX0_came 2 = .ok (.invokestatic 448, 3) := dk_184 1 192 (dk_at dksX0_came_0 2 rfl rfl)
theorem dX0_came_5 : decode cX0_came 5 = .ok (.istore 5, 2) := dk_54 5 (dk_at dksX0_came_0 5 rfl rfl)
theorem dX0_came_7 : decode cX0_came 7 = .ok (.iconst 0, 1) := dk_3 (dk_at dksX0_came_0 7 rfl rfl)
theorem dX0_came_8 : decode cX0_came 8 = .ok (.istore 6, 2) := dk_54 6 (dk_at dksX0_came_0 8 rfl rfl)
theorem dX0_came_10 : decode cX0_came 10 = .ok (.iconst 0, 1) := dk_3 (dk_at dksX0_came_0 10 rfl rfl)
theorem dX0_came_11 : decode cX0_came 11 = .ok (.istore 7, 2) := dk_54 7 (dk_at dksX0_came_0 11 rfl rfl)
theorem dX0_came_13 : decode cX0_came 13 = .ok (.iload 7, 2) := dk_21 7 (dk_at dksX0_came_0 13 rfl rfl)
theorem dX0_came_15 : decode cX0_came 15 = .ok (.iload 4, 2) := dk_21 4 (dk_at dksX0_came_0 15 rfl rfl)
theorem dX0_came_17 : decode cX0_came 17 = .ok (.if_icmp .ge 71, 3) := dk_162 0 71 (dk_at dksX0_came_0 17 rfl rfl)
theorem dX0_came_20 : decode cX0_came 20 = .ok (.aload_n 1, 1) := dk_43 (dk_at dksX0_came_0 20 rfl rfl)
theorem dX0_came_21 : decode cX0_came 21 = .ok (.iload_n 2, 1) := dk_28 (dk_at dksX0_came_0 21 rfl rfl)
theorem dX0_came_22 : decode cX0_came 22 = .ok (.iload_n 3, 1) := dk_29 (dk_at dksX0_came_0 22 rfl rfl)
theorem dX0_came_23 : decode cX0_came 23 = .ok (.iconst 3, 1) := dk_6 (dk_at dksX0_came_0 23 rfl rfl)
theorem dX0_came_24 : decode cX0_came 24 = .ok (.iload 7, 2) := dk_21 7 (dk_at dksX0_came_1 0 rfl rfl)
theorem dX0_came_26 : decode cX0_came 26 = .ok (.imul, 1) := dk_104 (dk_at dksX0_came_1 2 rfl rfl)
theorem dX0_came_27 : decode cX0_came 27 = .ok (.iadd, 1) := dk_96 (dk_at dksX0_came_1 3 rfl rfl)
theorem dX0_came_28 : decode cX0_came 28 = .ok (.invokestatic 452, 3) := dk_184 1 196 (dk_at dksX0_came_1 4 rfl rfl)
theorem dX0_came_31 : decode cX0_came 31 = .ok (.istore 8, 2) := dk_54 8 (dk_at dksX0_came_1 7 rfl rfl)
theorem dX0_came_33 : decode cX0_came 33 = .ok (.aload_n 1, 1) := dk_43 (dk_at dksX0_came_1 9 rfl rfl)
theorem dX0_came_34 : decode cX0_came 34 = .ok (.iload_n 2, 1) := dk_28 (dk_at dksX0_came_1 10 rfl rfl)
theorem dX0_came_35 : decode cX0_came 35 = .ok (.iload_n 3, 1) := dk_29 (dk_at dksX0_came_1 11 rfl rfl)
theorem dX0_came_36 : decode cX0_came 36 = .ok (.iconst 3, 1) := dk_6 (dk_at dksX0_came_1 12 rfl rfl)
theorem dX0_came_37 : decode cX0_came 37 = .ok (.iload 7, 2) := dk_21 7 (dk_at dksX0_came_1 13 rfl rfl)
theorem dX0_came_39 : decode cX0_came 39 = .ok (.imul, 1) := dk_104 (dk_at dksX0_came_1 15 rfl rfl)
theorem dX0_came_40 : decode cX0_came 40 = .ok (.iadd, 1) := dk_96 (dk_at dksX0_came_1 16 rfl rfl)
theorem dX0_came_41 : decode cX0_came 41 = .ok (.iconst 1, 1) := dk_4 (dk_at dksX0_came_1 17 rfl rfl)
theorem dX0_came_42 : decode cX0_came 42 = .ok (.iadd, 1) := dk_96 (dk_at dksX0_came_1 18 rfl rfl)
theorem dX0_came_43 : decode cX0_came 43 = .ok (.invokestatic 452, 3) := dk_184 1 196 (dk_at dksX0_came_1 19 rfl rfl)
theorem dX0_came_46 : decode cX0_came 46 = .ok (.istore 9, 2) := dk_54 9 (dk_at dksX0_came_1 22 rfl rfl)
theorem dX0_came_48 : decode cX0_came 48 = .ok (.iload 6, 2) := dk_21 6 (dk_at dksX0_came_2 0 rfl rfl)
theorem dX0_came_50 : decode cX0_came 50 = .ok (.aload_n 0, 1) := dk_42 (dk_at dksX0_came_2 2 rfl rfl)
theorem dX0_came_51 : decode cX0_came 51 = .ok (.iload 8, 2) := dk_21 8 (dk_at dksX0_came_2 3 rfl rfl)
theorem dX0_came_53 : decode cX0_came 53 = .ok (.iload 9, 2) := dk_21 9 (dk_at dksX0_came_2 5 rfl rfl)
theorem dX0_came_55 : decode cX0_came 55 = .ok (.aload_n 1, 1) := dk_43 (dk_at dksX0_came_2 7 rfl rfl)
theorem dX0_came_56 : decode cX0_came 56 = .ok (.iload_n 2, 1) := dk_28 (dk_at dksX0_came_2 8 rfl rfl)
theorem dX0_came_57 : decode cX0_came 57 = .ok (.iload_n 3, 1) := dk_29 (dk_at dksX0_came_2 9 rfl rfl)
theorem dX0_came_58 : decode cX0_came 58 = .ok (.iconst 3, 1) := dk_6 (dk_at dksX0_came_2 10 rfl rfl)
theorem dX0_came_59 : decode cX0_came 59 = .ok (.iload 7, 2) := dk_21 7 (dk_at dksX0_came_2 11 rfl rfl)
theorem dX0_came_61 : decode cX0_came 61 = .ok (.imul, 1) := dk_104 (dk_at dksX0_came_2 13 rfl rfl)
theorem dX0_came_62 : decode cX0_came 62 = .ok (.iadd, 1) := dk_96 (dk_at dksX0_came_2 14 rfl rfl)
theorem dX0_came_63 : decode cX0_came 63 = .ok (.iconst 2, 1) := dk_5 (dk_at dksX0_came_2 15 rfl rfl)
theorem dX0_came_64 : decode cX0_came 64 = .ok (.iadd, 1) := dk_96 (dk_at dksX0_came_2 16 rfl rfl)
theorem dX0_came_65 : decode cX0_came 65 = .ok (.invokestatic 452, 3) := dk_184 1 196 (dk_at dksX0_came_2 17 rfl rfl)
theorem dX0_came_68 : decode cX0_came 68 = .ok (.invokevirtual 559, 3) := dk_182 2 47 (dk_at dksX0_came_2 20 rfl rfl)
theorem dX0_came_71 : decode cX0_came 71 = .ok (.ifCond .lt 7, 3) := dk_155 0 7 (dk_at dksX0_came_3 0 rfl rfl)
theorem dX0_came_74 : decode cX0_came 74 = .ok (.iconst 1, 1) := dk_4 (dk_at dksX0_came_3 3 rfl rfl)
theorem dX0_came_75 : decode cX0_came 75 = .ok (.goto 4, 3) := dk_167 0 4 (dk_at dksX0_came_3 4 rfl rfl)
theorem dX0_came_78 : decode cX0_came 78 = .ok (.iconst 0, 1) := dk_3 (dk_at dksX0_came_3 7 rfl rfl)
theorem dX0_came_79 : decode cX0_came 79 = .ok (.iadd, 1) := dk_96 (dk_at dksX0_came_3 8 rfl rfl)
theorem dX0_came_80 : decode cX0_came 80 = .ok (.istore 6, 2) := dk_54 6 (dk_at dksX0_came_3 9 rfl rfl)
theorem dX0_came_82 : decode cX0_came 82 = .ok (.iinc 7 1, 3) := dk_132 7 1 (dk_at dksX0_came_3 11 rfl rfl)
theorem dX0_came_85 : decode cX0_came 85 = .ok (.goto (-72), 3) := dk_167 255 184 (dk_at dksX0_came_3 14 rfl rfl)
theorem dX0_came_88 : decode cX0_came 88 = .ok (.iload 6, 2) := dk_21 6 (dk_at dksX0_came_3 17 rfl rfl)
theorem dX0_came_90 : decode cX0_came 90 = .ok (.ireturn, 1) := dk_172 (dk_at dksX0_came_3 19 rfl rfl)
abbrev cX0_taken : ByteArray := prog_1_method_97_code
def yX0_taken : MethodName := ⟨RX0, "taken", "(II)I"⟩
def dkwX0_taken_2 : List UInt8 := [172]
abbrev dktX0_taken_2 : List UInt8 := dkwX0_taken_2 ++ []
def dkwX0_taken_1 : List UInt8 := [180, 0, 60, 27, 50, 167, 0, 4, 1, 28, 184, 2, 55, 180, 0, 90, 172, 78, 16, 245, 172, 78, 16, 243]
abbrev dktX0_taken_1 : List UInt8 := dkwX0_taken_1 ++ dktX0_taken_2
def dkwX0_taken_0 : List UInt8 := [28, 133, 9, 20, 0, 53, 184, 0, 14, 154, 0, 6, 16, 254, 172, 42, 27, 182, 0, 22, 153, 0, 12, 42]
abbrev dktX0_taken_0 : List UInt8 := dkwX0_taken_0 ++ dktX0_taken_1
theorem dksX0_taken_0 : cX0_taken.data.toList.drop 0 = dktX0_taken_0 := by decide +kernel
theorem dksX0_taken_1 : cX0_taken.data.toList.drop 24 = dktX0_taken_1 := dk_seg dksX0_taken_0 24 rfl rfl
theorem dksX0_taken_2 : cX0_taken.data.toList.drop 48 = dktX0_taken_2 := dk_seg dksX0_taken_1 24 rfl rfl
theorem dX0_taken_0 : decode cX0_taken 0 = .ok (.iload_n 2, 1) := dk_28 (dk_at dksX0_taken_0 0 rfl rfl)
theorem dX0_taken_1 : decode cX0_taken 1 = .ok (.i2l, 1) := dk_133 (dk_at dksX0_taken_0 1 rfl rfl)
theorem dX0_taken_2 : decode cX0_taken 2 = .ok (.lconst 0, 1) := dk_9 (dk_at dksX0_taken_0 2 rfl rfl)
theorem dX0_taken_3 : decode cX0_taken 3 = .ok (.ldc2_w 53, 3) := dk_20 0 53 (dk_at dksX0_taken_0 3 rfl rfl)
theorem dX0_taken_6 : decode cX0_taken 6 = .ok (.invokestatic 14, 3) := dk_184 0 14 (dk_at dksX0_taken_0 6 rfl rfl)
theorem dX0_taken_9 : decode cX0_taken 9 = .ok (.ifCond .ne 6, 3) := dk_154 0 6 (dk_at dksX0_taken_0 9 rfl rfl)
theorem dX0_taken_12 : decode cX0_taken 12 = .ok (.bipush (-2), 2) := dk_16 254 (dk_at dksX0_taken_0 12 rfl rfl)
theorem dX0_taken_14 : decode cX0_taken 14 = .ok (.ireturn, 1) := dk_172 (dk_at dksX0_taken_0 14 rfl rfl)
theorem dX0_taken_15 : decode cX0_taken 15 = .ok (.aload_n 0, 1) := dk_42 (dk_at dksX0_taken_0 15 rfl rfl)
theorem dX0_taken_16 : decode cX0_taken 16 = .ok (.iload_n 1, 1) := dk_27 (dk_at dksX0_taken_0 16 rfl rfl)
theorem dX0_taken_17 : decode cX0_taken 17 = .ok (.invokevirtual 22, 3) := dk_182 0 22 (dk_at dksX0_taken_0 17 rfl rfl)
theorem dX0_taken_20 : decode cX0_taken 20 = .ok (.ifCond .eq 12, 3) := dk_153 0 12 (dk_at dksX0_taken_0 20 rfl rfl)
theorem dX0_taken_23 : decode cX0_taken 23 = .ok (.aload_n 0, 1) := dk_42 (dk_at dksX0_taken_0 23 rfl rfl)
theorem dX0_taken_24 : decode cX0_taken 24 = .ok (.getfield 60, 3) := dk_180 0 60 (dk_at dksX0_taken_1 0 rfl rfl)
theorem dX0_taken_27 : decode cX0_taken 27 = .ok (.iload_n 1, 1) := dk_27 (dk_at dksX0_taken_1 3 rfl rfl)
theorem dX0_taken_28 : decode cX0_taken 28 = .ok (.aaload, 1) := dk_50 (dk_at dksX0_taken_1 4 rfl rfl)
theorem dX0_taken_29 : decode cX0_taken 29 = .ok (.goto 4, 3) := dk_167 0 4 (dk_at dksX0_taken_1 5 rfl rfl)
theorem dX0_taken_32 : decode cX0_taken 32 = .ok (.aconst_null, 1) := dk_1 (dk_at dksX0_taken_1 8 rfl rfl)
theorem dX0_taken_33 : decode cX0_taken 33 = .ok (.iload_n 2, 1) := dk_28 (dk_at dksX0_taken_1 9 rfl rfl)
theorem dX0_taken_34 : decode cX0_taken 34 = .ok (.invokestatic 567, 3) := dk_184 2 55 (dk_at dksX0_taken_1 10 rfl rfl)
theorem dX0_taken_37 : decode cX0_taken 37 = .ok (.getfield 90, 3) := dk_180 0 90 (dk_at dksX0_taken_1 13 rfl rfl)
theorem dX0_taken_40 : decode cX0_taken 40 = .ok (.ireturn, 1) := dk_172 (dk_at dksX0_taken_1 16 rfl rfl)
theorem dX0_taken_41 : decode cX0_taken 41 = .ok (.astore_n 3, 1) := dk_78 (dk_at dksX0_taken_1 17 rfl rfl)
theorem dX0_taken_42 : decode cX0_taken 42 = .ok (.bipush (-11), 2) := dk_16 245 (dk_at dksX0_taken_1 18 rfl rfl)
theorem dX0_taken_44 : decode cX0_taken 44 = .ok (.ireturn, 1) := dk_172 (dk_at dksX0_taken_1 20 rfl rfl)
theorem dX0_taken_45 : decode cX0_taken 45 = .ok (.astore_n 3, 1) := dk_78 (dk_at dksX0_taken_1 21 rfl rfl)
theorem dX0_taken_46 : decode cX0_taken 46 = .ok (.bipush (-13), 2) := dk_16 243 (dk_at dksX0_taken_1 22 rfl rfl)
theorem dX0_taken_48 : decode cX0_taken 48 = .ok (.ireturn, 1) := dk_172 (dk_at dksX0_taken_2 0 rfl rfl)
abbrev cX0_as : ByteArray := prog_1_method_96_code
def yX0_as : MethodName := ⟨RX0, "as", "(LTandemKeepsAPlace$Rider;I)LTandemKeepsAPlace$Rider;"⟩
def dkwX0_as_3 : List UInt8 := [176, 42, 176]
abbrev dktX0_as_3 : List UInt8 := dkwX0_as_3 ++ []
def dkwX0_as_2 : List UInt8 := [42, 192, 0, 32, 176, 42, 192, 0, 38, 176, 42, 192, 0, 41, 176, 42, 192, 0, 44, 176, 42, 192, 0, 47]
abbrev dktX0_as_2 : List UInt8 := dkwX0_as_2 ++ dktX0_as_3
def dkwX0_as_1 : List UInt8 := [170, 0, 0, 0, 0, 0, 60, 0, 0, 0, 1, 0, 0, 0, 5, 0, 0, 0, 35, 0, 0, 0, 40, 0, 0, 0, 45, 0, 0, 0, 50, 0, 0, 0, 55]
abbrev dktX0_as_1 : List UInt8 := dkwX0_as_1 ++ dktX0_as_2
def dkwX0_as_0 : List UInt8 := [27]
abbrev dktX0_as_0 : List UInt8 := dkwX0_as_0 ++ dktX0_as_1
theorem dksX0_as_0 : cX0_as.data.toList.drop 0 = dktX0_as_0 := by decide +kernel
theorem dksX0_as_1 : cX0_as.data.toList.drop 1 = dktX0_as_1 := dk_seg dksX0_as_0 1 rfl rfl
theorem dksX0_as_2 : cX0_as.data.toList.drop 36 = dktX0_as_2 := dk_seg dksX0_as_1 35 rfl rfl
theorem dksX0_as_3 : cX0_as.data.toList.drop 60 = dktX0_as_3 := dk_seg dksX0_as_2 24 rfl rfl
theorem dX0_as_0 : decode cX0_as 0 = .ok (.iload_n 1, 1) := dk_27 (dk_at dksX0_as_0 0 rfl rfl)
theorem dX0_as_1 : decode cX0_as 1 = .ok (.tableswitch 60 1 5 #[35, 40, 45, 50, 55], 35) := by decide +kernel
theorem dX0_as_36 : decode cX0_as 36 = .ok (.aload_n 0, 1) := dk_42 (dk_at dksX0_as_2 0 rfl rfl)
theorem dX0_as_37 : decode cX0_as 37 = .ok (.checkcast 32, 3) := dk_192 0 32 (dk_at dksX0_as_2 1 rfl rfl)
theorem dX0_as_40 : decode cX0_as 40 = .ok (.areturn, 1) := dk_176 (dk_at dksX0_as_2 4 rfl rfl)
theorem dX0_as_41 : decode cX0_as 41 = .ok (.aload_n 0, 1) := dk_42 (dk_at dksX0_as_2 5 rfl rfl)
theorem dX0_as_42 : decode cX0_as 42 = .ok (.checkcast 38, 3) := dk_192 0 38 (dk_at dksX0_as_2 6 rfl rfl)
theorem dX0_as_45 : decode cX0_as 45 = .ok (.areturn, 1) := dk_176 (dk_at dksX0_as_2 9 rfl rfl)
theorem dX0_as_46 : decode cX0_as 46 = .ok (.aload_n 0, 1) := dk_42 (dk_at dksX0_as_2 10 rfl rfl)
theorem dX0_as_47 : decode cX0_as 47 = .ok (.checkcast 41, 3) := dk_192 0 41 (dk_at dksX0_as_2 11 rfl rfl)
theorem dX0_as_50 : decode cX0_as 50 = .ok (.areturn, 1) := dk_176 (dk_at dksX0_as_2 14 rfl rfl)
theorem dX0_as_51 : decode cX0_as 51 = .ok (.aload_n 0, 1) := dk_42 (dk_at dksX0_as_2 15 rfl rfl)
theorem dX0_as_52 : decode cX0_as 52 = .ok (.checkcast 44, 3) := dk_192 0 44 (dk_at dksX0_as_2 16 rfl rfl)
theorem dX0_as_55 : decode cX0_as 55 = .ok (.areturn, 1) := dk_176 (dk_at dksX0_as_2 19 rfl rfl)
theorem dX0_as_56 : decode cX0_as 56 = .ok (.aload_n 0, 1) := dk_42 (dk_at dksX0_as_2 20 rfl rfl)
theorem dX0_as_57 : decode cX0_as 57 = .ok (.checkcast 47, 3) := dk_192 0 47 (dk_at dksX0_as_2 21 rfl rfl)
theorem dX0_as_60 : decode cX0_as 60 = .ok (.areturn, 1) := dk_176 (dk_at dksX0_as_3 0 rfl rfl)
theorem dX0_as_61 : decode cX0_as 61 = .ok (.aload_n 0, 1) := dk_42 (dk_at dksX0_as_3 1 rfl rfl)
theorem dX0_as_62 : decode cX0_as 62 = .ok (.areturn, 1) := dk_176 (dk_at dksX0_as_3 2 rfl rfl)
theorem q131 : (Jvm.Cond.initialized "TandemKeepsAPlace") ∈ lw_all := lw_g (lw_at lw_m1 1 rfl) rfl
theorem q163 : (Jvm.Cond.instanceMethod ({ cls := "TandemKeepsAPlace", name := "person", desc := "(III)I" } : Jvm.MethodName)) ∈ lw_all := lw_g (lw_at lw_m1 33 rfl) rfl
theorem q164 : (Jvm.Cond.selects "TandemKeepsAPlace" ({ cls := "TandemKeepsAPlace", name := "person", desc := "(III)I" } : Jvm.MethodName) ({ cls := "TandemKeepsAPlace", name := "person", desc := "(III)I" } : Jvm.MethodName)) ∈ lw_all := lw_g (lw_at lw_m1 34 rfl) rfl
theorem q165 : (Jvm.Cond.code ({ cls := "TandemKeepsAPlace", name := "person", desc := "(III)I" } : Jvm.MethodName) prog_1_method_9_code (4 : Nat) (Option.some Jvm.ClassFile.FieldType.int)) ∈ lw_all := lw_g (lw_at lw_m1 35 rfl) rfl
theorem q166 : (Jvm.Cond.constantLong "TandemKeepsAPlace" (53 : Nat) (5 : Int64)) ∈ lw_all := lw_g (lw_at lw_m1 36 rfl) rfl
theorem q167 : (Jvm.Cond.methodLink "TandemKeepsAPlace" (14 : Nat) ({ cls := "TandemKeepsAPlace", name := "in", desc := "(JJJ)Z" } : Jvm.MethodName)) ∈ lw_all := lw_g (lw_at lw_m1 37 rfl) rfl
theorem q168 : (Jvm.Cond.static ({ cls := "TandemKeepsAPlace", name := "in", desc := "(JJJ)Z" } : Jvm.MethodName)) ∈ lw_all := lw_g (lw_at lw_m1 38 rfl) rfl
theorem q169 : (Jvm.Cond.code ({ cls := "TandemKeepsAPlace", name := "in", desc := "(JJJ)Z" } : Jvm.MethodName) prog_1_method_1_code (6 : Nat) (Option.some Jvm.ClassFile.FieldType.boolean)) ∈ lw_all := lw_g (lw_at lw_m1 39 rfl) rfl
theorem q170 : (Jvm.Cond.constantLong "TandemKeepsAPlace" (55 : Nat) (9 : Int64)) ∈ lw_all := lw_g (lw_at lw_m1 40 rfl) rfl
theorem q171 : (Jvm.Cond.methodLink "TandemKeepsAPlace" (57 : Nat) ({ cls := "TandemKeepsAPlace", name := "isPlace", desc := "(I)Z" } : Jvm.MethodName)) ∈ lw_all := lw_g (lw_at lw_m1 41 rfl) rfl
theorem q172 : (Jvm.Cond.static ({ cls := "TandemKeepsAPlace", name := "isPlace", desc := "(I)Z" } : Jvm.MethodName)) ∈ lw_all := lw_g (lw_at lw_m1 42 rfl) rfl
theorem q173 : (Jvm.Cond.code ({ cls := "TandemKeepsAPlace", name := "isPlace", desc := "(I)Z" } : Jvm.MethodName) prog_1_method_4_code (1 : Nat) (Option.some Jvm.ClassFile.FieldType.boolean)) ∈ lw_all := lw_g (lw_at lw_m1 43 rfl) rfl
theorem q174 : (Jvm.Cond.constantLong "TandemKeepsAPlace" (12 : Nat) (7 : Int64)) ∈ lw_all := lw_g (lw_at lw_m1 44 rfl) rfl
theorem q175 : (Jvm.Cond.methodLink "TandemKeepsAPlace" (64 : Nat) ({ cls := "TandemKeepsAPlace", name := "made", desc := "(III)LTandemKeepsAPlace$Rider;" } : Jvm.MethodName)) ∈ lw_all := lw_g (lw_at lw_m1 45 rfl) rfl
theorem q176 : (Jvm.Cond.static ({ cls := "TandemKeepsAPlace", name := "made", desc := "(III)LTandemKeepsAPlace$Rider;" } : Jvm.MethodName)) ∈ lw_all := lw_g (lw_at lw_m1 46 rfl) rfl
theorem q177 : (Jvm.Cond.code ({ cls := "TandemKeepsAPlace", name := "made", desc := "(III)LTandemKeepsAPlace$Rider;" } : Jvm.MethodName) prog_1_method_8_code (3 : Nat) (Option.some (Jvm.ClassFile.FieldType.object "TandemKeepsAPlace$Rider"))) ∈ lw_all := lw_g (lw_at lw_m1 47 rfl) rfl
theorem q178 : (Jvm.Cond.classLink "TandemKeepsAPlace" (32 : Nat) "TandemKeepsAPlace$Clerk") ∈ lw_all := lw_g (lw_at lw_m1 48 rfl) rfl
theorem q180 : (Jvm.Cond.methodLink "TandemKeepsAPlace" (34 : Nat) ({ cls := "TandemKeepsAPlace$Clerk", name := "<init>", desc := "(II)V" } : Jvm.MethodName)) ∈ lw_all := lw_g (lw_at lw_m1 50 rfl) rfl
theorem q197 : (Jvm.Cond.fieldLink "TandemKeepsAPlace" (90 : Nat) "TandemKeepsAPlace$Rider" "number" "I") ∈ lw_all := lw_g (lw_at lw_m1 67 rfl) rfl
theorem q200 : (Jvm.Cond.fieldLink "TandemKeepsAPlace" (93 : Nat) "TandemKeepsAPlace$Rider" "goal" "I") ∈ lw_all := lw_g (lw_at lw_m1 70 rfl) rfl
theorem q202 : (Jvm.Cond.fieldLink "TandemKeepsAPlace" (110 : Nat) "TandemKeepsAPlace$Rider" "ridden" "I") ∈ lw_all := lw_g (lw_at lw_m1 72 rfl) rfl
theorem q210 : (Jvm.Cond.classLink "TandemKeepsAPlace" (38 : Nat) "TandemKeepsAPlace$Strong") ∈ lw_all := lw_g (lw_at lw_m1 80 rfl) rfl
theorem q212 : (Jvm.Cond.methodLink "TandemKeepsAPlace" (40 : Nat) ({ cls := "TandemKeepsAPlace$Strong", name := "<init>", desc := "(II)V" } : Jvm.MethodName)) ∈ lw_all := lw_g (lw_at lw_m1 82 rfl) rfl
theorem q220 : (Jvm.Cond.classLink "TandemKeepsAPlace" (41 : Nat) "TandemKeepsAPlace$Mistress") ∈ lw_all := lw_g (lw_at lw_m1 90 rfl) rfl
theorem q222 : (Jvm.Cond.methodLink "TandemKeepsAPlace" (43 : Nat) ({ cls := "TandemKeepsAPlace$Mistress", name := "<init>", desc := "(II)V" } : Jvm.MethodName)) ∈ lw_all := lw_g (lw_at lw_m1 92 rfl) rfl
theorem q230 : (Jvm.Cond.classLink "TandemKeepsAPlace" (44 : Nat) "TandemKeepsAPlace$Dead") ∈ lw_all := lw_g (lw_at lw_m1 100 rfl) rfl
theorem q232 : (Jvm.Cond.methodLink "TandemKeepsAPlace" (46 : Nat) ({ cls := "TandemKeepsAPlace$Dead", name := "<init>", desc := "(II)V" } : Jvm.MethodName)) ∈ lw_all := lw_g (lw_at lw_m1 102 rfl) rfl
theorem q240 : (Jvm.Cond.classLink "TandemKeepsAPlace" (47 : Nat) "TandemKeepsAPlace$Timid") ∈ lw_all := lw_g (lw_at lw_m1 110 rfl) rfl
theorem q242 : (Jvm.Cond.methodLink "TandemKeepsAPlace" (49 : Nat) ({ cls := "TandemKeepsAPlace$Timid", name := "<init>", desc := "(II)V" } : Jvm.MethodName)) ∈ lw_all := lw_g (lw_at lw_m1 112 rfl) rfl
theorem q250 : (Jvm.Cond.classLink "TandemKeepsAPlace" (50 : Nat) "TandemKeepsAPlace$Rider") ∈ lw_all := lw_g (lw_at lw_m1 120 rfl) rfl
theorem q252 : (Jvm.Cond.methodLink "TandemKeepsAPlace" (52 : Nat) ({ cls := "TandemKeepsAPlace$Rider", name := "<init>", desc := "(II)V" } : Jvm.MethodName)) ∈ lw_all := lw_g (lw_at lw_m1 122 rfl) rfl
theorem q258 : (Jvm.Cond.instanceMethod ({ cls := "TandemKeepsAPlace", name := "road", desc := "(III)I" } : Jvm.MethodName)) ∈ lw_all := lw_g (lw_at lw_m1 128 rfl) rfl
theorem q259 : (Jvm.Cond.selects "TandemKeepsAPlace" ({ cls := "TandemKeepsAPlace", name := "road", desc := "(III)I" } : Jvm.MethodName) ({ cls := "TandemKeepsAPlace", name := "road", desc := "(III)I" } : Jvm.MethodName)) ∈ lw_all := lw_g (lw_at lw_m1 129 rfl) rfl
theorem q260 : (Jvm.Cond.code ({ cls := "TandemKeepsAPlace", name := "road", desc := "(III)I" } : Jvm.MethodName) prog_1_method_12_code (5 : Nat) (Option.some Jvm.ClassFile.FieldType.int)) ∈ lw_all := lw_g (lw_at lw_m1 130 rfl) rfl
theorem q261 : (Jvm.Cond.constantLong "TandemKeepsAPlace" (79 : Nat) (99 : Int64)) ∈ lw_all := lw_g (lw_at lw_m1 131 rfl) rfl
theorem q262 : (Jvm.Cond.methodLink "TandemKeepsAPlace" (81 : Nat) ({ cls := "TandemKeepsAPlace", name := "lays", desc := "(III)V" } : Jvm.MethodName)) ∈ lw_all := lw_g (lw_at lw_m1 132 rfl) rfl
theorem q263 : (Jvm.Cond.privateMethod ({ cls := "TandemKeepsAPlace", name := "lays", desc := "(III)V" } : Jvm.MethodName)) ∈ lw_tbl := lw_at lw_m1 133 rfl
theorem q264 : (Jvm.Cond.instanceMethod ({ cls := "TandemKeepsAPlace", name := "lays", desc := "(III)V" } : Jvm.MethodName)) ∈ lw_all := lw_g (lw_at lw_m1 134 rfl) rfl
theorem q265 : (Jvm.Cond.instantiable "TandemKeepsAPlace" (37 : Nat)) ∈ lw_all := lw_g (lw_at lw_m1 135 rfl) rfl
theorem q266 : (Jvm.Cond.code ({ cls := "TandemKeepsAPlace", name := "lays", desc := "(III)V" } : Jvm.MethodName) prog_1_method_11_code (4 : Nat) (Option.none : Option Jvm.ClassFile.FieldType)) ∈ lw_all := lw_g (lw_at lw_m1 136 rfl) rfl
theorem q267 : (Jvm.Cond.methodLink "TandemKeepsAPlace" (75 : Nat) ({ cls := "TandemKeepsAPlace", name := "tellsFar", desc := "()V" } : Jvm.MethodName)) ∈ lw_all := lw_g (lw_at lw_m1 137 rfl) rfl
theorem q268 : (Jvm.Cond.privateMethod ({ cls := "TandemKeepsAPlace", name := "tellsFar", desc := "()V" } : Jvm.MethodName)) ∈ lw_tbl := lw_at lw_m1 138 rfl
theorem q269 : (Jvm.Cond.instanceMethod ({ cls := "TandemKeepsAPlace", name := "tellsFar", desc := "()V" } : Jvm.MethodName)) ∈ lw_all := lw_g (lw_at lw_m1 139 rfl) rfl
theorem q270 : (Jvm.Cond.code ({ cls := "TandemKeepsAPlace", name := "tellsFar", desc := "()V" } : Jvm.MethodName) prog_1_method_10_code (4 : Nat) (Option.none : Option Jvm.ClassFile.FieldType)) ∈ lw_all := lw_g (lw_at lw_m1 140 rfl) rfl
theorem q271 : (Jvm.Cond.methodLink "TandemKeepsAPlace" (1 : Nat) ({ cls := "java/lang/Math", name := "min", desc := "(II)I" } : Jvm.MethodName)) ∈ lw_all := lw_g (lw_at lw_m1 141 rfl) rfl
theorem q275 : (Jvm.Cond.instanceMethod ({ cls := "TandemKeepsAPlace", name := "far", desc := "(II)I" } : Jvm.MethodName)) ∈ lw_all := lw_g (lw_at lw_m1 145 rfl) rfl
theorem q276 : (Jvm.Cond.selects "TandemKeepsAPlace" ({ cls := "TandemKeepsAPlace", name := "far", desc := "(II)I" } : Jvm.MethodName) ({ cls := "TandemKeepsAPlace", name := "far", desc := "(II)I" } : Jvm.MethodName)) ∈ lw_all := lw_g (lw_at lw_m1 146 rfl) rfl
theorem q277 : (Jvm.Cond.code ({ cls := "TandemKeepsAPlace", name := "far", desc := "(II)I" } : Jvm.MethodName) prog_1_method_13_code (3 : Nat) (Option.some Jvm.ClassFile.FieldType.int)) ∈ lw_all := lw_g (lw_at lw_m1 147 rfl) rfl
theorem q279 : (Jvm.Cond.instanceMethod ({ cls := "TandemKeepsAPlace", name := "set", desc := "(III)I" } : Jvm.MethodName)) ∈ lw_all := lw_g (lw_at lw_m1 149 rfl) rfl
theorem q280 : (Jvm.Cond.selects "TandemKeepsAPlace" ({ cls := "TandemKeepsAPlace", name := "set", desc := "(III)I" } : Jvm.MethodName) ({ cls := "TandemKeepsAPlace", name := "set", desc := "(III)I" } : Jvm.MethodName)) ∈ lw_all := lw_g (lw_at lw_m1 150 rfl) rfl
theorem q281 : (Jvm.Cond.code ({ cls := "TandemKeepsAPlace", name := "set", desc := "(III)I" } : Jvm.MethodName) prog_1_method_16_code (5 : Nat) (Option.some Jvm.ClassFile.FieldType.int)) ∈ lw_all := lw_g (lw_at lw_m1 151 rfl) rfl
theorem q282 : (Jvm.Cond.methodLink "TandemKeepsAPlace" (96 : Nat) ({ cls := "TandemKeepsAPlace", name := "isSo", desc := "(III)Z" } : Jvm.MethodName)) ∈ lw_all := lw_g (lw_at lw_m1 152 rfl) rfl
theorem q283 : (Jvm.Cond.privateMethod ({ cls := "TandemKeepsAPlace", name := "isSo", desc := "(III)Z" } : Jvm.MethodName)) ∈ lw_tbl := lw_at lw_m1 153 rfl
theorem q284 : (Jvm.Cond.instanceMethod ({ cls := "TandemKeepsAPlace", name := "isSo", desc := "(III)Z" } : Jvm.MethodName)) ∈ lw_all := lw_g (lw_at lw_m1 154 rfl) rfl
theorem q285 : (Jvm.Cond.code ({ cls := "TandemKeepsAPlace", name := "isSo", desc := "(III)Z" } : Jvm.MethodName) prog_1_method_14_code (4 : Nat) (Option.some Jvm.ClassFile.FieldType.boolean)) ∈ lw_all := lw_g (lw_at lw_m1 155 rfl) rfl
theorem q286 : (Jvm.Cond.constantLong "TandemKeepsAPlace" (85 : Nat) (23 : Int64)) ∈ lw_all := lw_g (lw_at lw_m1 156 rfl) rfl
theorem q287 : (Jvm.Cond.methodLink "TandemKeepsAPlace" (22 : Nat) ({ cls := "TandemKeepsAPlace", name := "isOne", desc := "(I)Z" } : Jvm.MethodName)) ∈ lw_all := lw_g (lw_at lw_m1 157 rfl) rfl
theorem q288 : (Jvm.Cond.privateMethod ({ cls := "TandemKeepsAPlace", name := "isOne", desc := "(I)Z" } : Jvm.MethodName)) ∈ lw_tbl := lw_at lw_m1 158 rfl
theorem q289 : (Jvm.Cond.instanceMethod ({ cls := "TandemKeepsAPlace", name := "isOne", desc := "(I)Z" } : Jvm.MethodName)) ∈ lw_all := lw_g (lw_at lw_m1 159 rfl) rfl
theorem q290 : (Jvm.Cond.code ({ cls := "TandemKeepsAPlace", name := "isOne", desc := "(I)Z" } : Jvm.MethodName) prog_1_method_5_code (2 : Nat) (Option.some Jvm.ClassFile.FieldType.boolean)) ∈ lw_all := lw_g (lw_at lw_m1 160 rfl) rfl
theorem q291 : (Jvm.Cond.methodLink "TandemKeepsAPlace" (100 : Nat) ({ cls := "TandemKeepsAPlace", name := "told", desc := "(II)I" } : Jvm.MethodName)) ∈ lw_all := lw_g (lw_at lw_m1 161 rfl) rfl
theorem q292 : (Jvm.Cond.instanceMethod ({ cls := "TandemKeepsAPlace", name := "told", desc := "(II)I" } : Jvm.MethodName)) ∈ lw_all := lw_g (lw_at lw_m1 162 rfl) rfl
theorem q293 : (Jvm.Cond.selects "TandemKeepsAPlace" ({ cls := "TandemKeepsAPlace", name := "told", desc := "(II)I" } : Jvm.MethodName) ({ cls := "TandemKeepsAPlace", name := "told", desc := "(II)I" } : Jvm.MethodName)) ∈ lw_all := lw_g (lw_at lw_m1 163 rfl) rfl
theorem q294 : (Jvm.Cond.code ({ cls := "TandemKeepsAPlace", name := "told", desc := "(II)I" } : Jvm.MethodName) prog_1_method_18_code (3 : Nat) (Option.some Jvm.ClassFile.FieldType.int)) ∈ lw_all := lw_g (lw_at lw_m1 164 rfl) rfl
theorem q295 : (Jvm.Cond.methodLink "TandemKeepsAPlace" (117 : Nat) ({ cls := "TandemKeepsAPlace", name := "toldOf", desc := "(II)I" } : Jvm.MethodName)) ∈ lw_all := lw_g (lw_at lw_m1 165 rfl) rfl
theorem q296 : (Jvm.Cond.privateMethod ({ cls := "TandemKeepsAPlace", name := "toldOf", desc := "(II)I" } : Jvm.MethodName)) ∈ lw_tbl := lw_at lw_m1 166 rfl
theorem q297 : (Jvm.Cond.instanceMethod ({ cls := "TandemKeepsAPlace", name := "toldOf", desc := "(II)I" } : Jvm.MethodName)) ∈ lw_all := lw_g (lw_at lw_m1 167 rfl) rfl
theorem q298 : (Jvm.Cond.code ({ cls := "TandemKeepsAPlace", name := "toldOf", desc := "(II)I" } : Jvm.MethodName) prog_1_method_17_code (3 : Nat) (Option.some Jvm.ClassFile.FieldType.int)) ∈ lw_all := lw_g (lw_at lw_m1 168 rfl) rfl
theorem q299 : (Jvm.Cond.methodLink "TandemKeepsAPlace" (106 : Nat) ({ cls := "TandemKeepsAPlace$Rider", name := "kind", desc := "()I" } : Jvm.MethodName)) ∈ lw_all := lw_g (lw_at lw_m1 169 rfl) rfl
theorem q324 : (Jvm.Cond.methodLink "TandemKeepsAPlace" (113 : Nat) ({ cls := "TandemKeepsAPlace", name := "rulesOf", desc := "(I)I" } : Jvm.MethodName)) ∈ lw_all := lw_g (lw_at lw_m1 194 rfl) rfl
theorem q325 : (Jvm.Cond.privateMethod ({ cls := "TandemKeepsAPlace", name := "rulesOf", desc := "(I)I" } : Jvm.MethodName)) ∈ lw_tbl := lw_at lw_m1 195 rfl
theorem q326 : (Jvm.Cond.instanceMethod ({ cls := "TandemKeepsAPlace", name := "rulesOf", desc := "(I)I" } : Jvm.MethodName)) ∈ lw_all := lw_g (lw_at lw_m1 196 rfl) rfl
theorem q327 : (Jvm.Cond.code ({ cls := "TandemKeepsAPlace", name := "rulesOf", desc := "(I)I" } : Jvm.MethodName) prog_1_method_62_code (5 : Nat) (Option.some Jvm.ClassFile.FieldType.int)) ∈ lw_all := lw_g (lw_at lw_m1 197 rfl) rfl
theorem q328 : (Jvm.Cond.methodLink "TandemKeepsAPlace" (382 : Nat) ({ cls := "TandemKeepsAPlace", name := "steers", desc := "(II)I" } : Jvm.MethodName)) ∈ lw_all := lw_g (lw_at lw_m1 198 rfl) rfl
theorem q329 : (Jvm.Cond.privateMethod ({ cls := "TandemKeepsAPlace", name := "steers", desc := "(II)I" } : Jvm.MethodName)) ∈ lw_tbl := lw_at lw_m1 199 rfl
theorem q330 : (Jvm.Cond.instanceMethod ({ cls := "TandemKeepsAPlace", name := "steers", desc := "(II)I" } : Jvm.MethodName)) ∈ lw_all := lw_g (lw_at lw_m1 200 rfl) rfl
theorem q331 : (Jvm.Cond.code ({ cls := "TandemKeepsAPlace", name := "steers", desc := "(II)I" } : Jvm.MethodName) prog_1_method_47_code (5 : Nat) (Option.some Jvm.ClassFile.FieldType.int)) ∈ lw_all := lw_g (lw_at lw_m1 201 rfl) rfl
theorem q332 : (Jvm.Cond.methodLink "TandemKeepsAPlace" (364 : Nat) ({ cls := "TandemKeepsAPlace", name := "pullOf", desc := "(IIZ)I" } : Jvm.MethodName)) ∈ lw_all := lw_g (lw_at lw_m1 202 rfl) rfl
theorem q333 : (Jvm.Cond.privateMethod ({ cls := "TandemKeepsAPlace", name := "pullOf", desc := "(IIZ)I" } : Jvm.MethodName)) ∈ lw_tbl := lw_at lw_m1 203 rfl
theorem q334 : (Jvm.Cond.instanceMethod ({ cls := "TandemKeepsAPlace", name := "pullOf", desc := "(IIZ)I" } : Jvm.MethodName)) ∈ lw_all := lw_g (lw_at lw_m1 204 rfl) rfl
theorem q335 : (Jvm.Cond.code ({ cls := "TandemKeepsAPlace", name := "pullOf", desc := "(IIZ)I" } : Jvm.MethodName) prog_1_method_44_code (4 : Nat) (Option.some Jvm.ClassFile.FieldType.int)) ∈ lw_all := lw_g (lw_at lw_m1 205 rfl) rfl
theorem q336 : (Jvm.Cond.methodLink "TandemKeepsAPlace" (346 : Nat) ({ cls := "TandemKeepsAPlace", name := "says", desc := "(IIIZ)I" } : Jvm.MethodName)) ∈ lw_all := lw_g (lw_at lw_m1 206 rfl) rfl
theorem q337 : (Jvm.Cond.privateMethod ({ cls := "TandemKeepsAPlace", name := "says", desc := "(IIIZ)I" } : Jvm.MethodName)) ∈ lw_tbl := lw_at lw_m1 207 rfl
theorem q338 : (Jvm.Cond.instanceMethod ({ cls := "TandemKeepsAPlace", name := "says", desc := "(IIIZ)I" } : Jvm.MethodName)) ∈ lw_all := lw_g (lw_at lw_m1 208 rfl) rfl
theorem q339 : (Jvm.Cond.code ({ cls := "TandemKeepsAPlace", name := "says", desc := "(IIIZ)I" } : Jvm.MethodName) prog_1_method_43_code (6 : Nat) (Option.some Jvm.ClassFile.FieldType.int)) ∈ lw_all := lw_g (lw_at lw_m1 209 rfl) rfl
theorem q340 : (Jvm.Cond.methodLink "TandemKeepsAPlace" (340 : Nat) ({ cls := "TandemKeepsAPlace$Node", name := "worth", desc := "()I" } : Jvm.MethodName)) ∈ lw_all := lw_g (lw_at lw_m1 210 rfl) rfl
theorem q357 : (Jvm.Cond.methodLink "TandemKeepsAPlace" (343 : Nat) ({ cls := "TandemKeepsAPlace", name := "held", desc := "(II)I" } : Jvm.MethodName)) ∈ lw_all := lw_g (lw_at lw_m1 227 rfl) rfl
theorem q358 : (Jvm.Cond.static ({ cls := "TandemKeepsAPlace", name := "held", desc := "(II)I" } : Jvm.MethodName)) ∈ lw_all := lw_g (lw_at lw_m1 228 rfl) rfl
theorem q359 : (Jvm.Cond.code ({ cls := "TandemKeepsAPlace", name := "held", desc := "(II)I" } : Jvm.MethodName) prog_1_method_2_code (2 : Nat) (Option.some Jvm.ClassFile.FieldType.int)) ∈ lw_all := lw_g (lw_at lw_m1 229 rfl) rfl
theorem q360 : (Jvm.Cond.methodLink "TandemKeepsAPlace" (7 : Nat) ({ cls := "java/lang/Math", name := "max", desc := "(II)I" } : Jvm.MethodName)) ∈ lw_all := lw_g (lw_at lw_m1 230 rfl) rfl
theorem q363 : (Jvm.Cond.methodLink "TandemKeepsAPlace" (350 : Nat) ({ cls := "TandemKeepsAPlace$Rider", name := "pull", desc := "(IZI)I" } : Jvm.MethodName)) ∈ lw_all := lw_g (lw_at lw_m1 233 rfl) rfl
theorem q387 : (Jvm.Cond.methodLink "TandemKeepsAPlace" (368 : Nat) ({ cls := "TandemKeepsAPlace", name := "moodOf", desc := "(IIZ)I" } : Jvm.MethodName)) ∈ lw_all := lw_g (lw_at lw_m2 17 rfl) rfl
theorem q388 : (Jvm.Cond.privateMethod ({ cls := "TandemKeepsAPlace", name := "moodOf", desc := "(IIZ)I" } : Jvm.MethodName)) ∈ lw_tbl := lw_at lw_m2 18 rfl
theorem q389 : (Jvm.Cond.instanceMethod ({ cls := "TandemKeepsAPlace", name := "moodOf", desc := "(IIZ)I" } : Jvm.MethodName)) ∈ lw_all := lw_g (lw_at lw_m2 19 rfl) rfl
theorem q390 : (Jvm.Cond.code ({ cls := "TandemKeepsAPlace", name := "moodOf", desc := "(IIZ)I" } : Jvm.MethodName) prog_1_method_45_code (4 : Nat) (Option.some Jvm.ClassFile.FieldType.int)) ∈ lw_all := lw_g (lw_at lw_m2 20 rfl) rfl
theorem q391 : (Jvm.Cond.methodLink "TandemKeepsAPlace" (354 : Nat) ({ cls := "TandemKeepsAPlace$Rider", name := "mood", desc := "(I)I" } : Jvm.MethodName)) ∈ lw_all := lw_g (lw_at lw_m2 21 rfl) rfl
theorem q416 : (Jvm.Cond.methodLink "TandemKeepsAPlace" (103 : Nat) ({ cls := "TandemKeepsAPlace", name := "becomes", desc := "(III)V" } : Jvm.MethodName)) ∈ lw_all := lw_g (lw_at lw_m2 46 rfl) rfl
theorem q417 : (Jvm.Cond.privateMethod ({ cls := "TandemKeepsAPlace", name := "becomes", desc := "(III)V" } : Jvm.MethodName)) ∈ lw_tbl := lw_at lw_m2 47 rfl
theorem q418 : (Jvm.Cond.instanceMethod ({ cls := "TandemKeepsAPlace", name := "becomes", desc := "(III)V" } : Jvm.MethodName)) ∈ lw_all := lw_g (lw_at lw_m2 48 rfl) rfl
theorem q419 : (Jvm.Cond.code ({ cls := "TandemKeepsAPlace", name := "becomes", desc := "(III)V" } : Jvm.MethodName) prog_1_method_15_code (4 : Nat) (Option.none : Option Jvm.ClassFile.FieldType)) ∈ lw_all := lw_g (lw_at lw_m2 49 rfl) rfl
theorem q422 : (Jvm.Cond.instanceMethod ({ cls := "TandemKeepsAPlace", name := "feed", desc := "(I)I" } : Jvm.MethodName)) ∈ lw_all := lw_g (lw_at lw_m2 52 rfl) rfl
theorem q423 : (Jvm.Cond.selects "TandemKeepsAPlace" ({ cls := "TandemKeepsAPlace", name := "feed", desc := "(I)I" } : Jvm.MethodName) ({ cls := "TandemKeepsAPlace", name := "feed", desc := "(I)I" } : Jvm.MethodName)) ∈ lw_all := lw_g (lw_at lw_m2 53 rfl) rfl
theorem q424 : (Jvm.Cond.code ({ cls := "TandemKeepsAPlace", name := "feed", desc := "(I)I" } : Jvm.MethodName) prog_1_method_38_code (2 : Nat) (Option.some Jvm.ClassFile.FieldType.int)) ∈ lw_all := lw_g (lw_at lw_m2 54 rfl) rfl
theorem q425 : (Jvm.Cond.constantLong "TandemKeepsAPlace" (265 : Nat) (255 : Int64)) ∈ lw_all := lw_g (lw_at lw_m2 55 rfl) rfl
theorem q427 : (Jvm.Cond.instanceMethod ({ cls := "TandemKeepsAPlace", name := "text", desc := "()I" } : Jvm.MethodName)) ∈ lw_all := lw_g (lw_at lw_m2 57 rfl) rfl
theorem q428 : (Jvm.Cond.selects "TandemKeepsAPlace" ({ cls := "TandemKeepsAPlace", name := "text", desc := "()I" } : Jvm.MethodName) ({ cls := "TandemKeepsAPlace", name := "text", desc := "()I" } : Jvm.MethodName)) ∈ lw_all := lw_g (lw_at lw_m2 58 rfl) rfl
theorem q429 : (Jvm.Cond.code ({ cls := "TandemKeepsAPlace", name := "text", desc := "()I" } : Jvm.MethodName) prog_1_method_39_code (1 : Nat) (Option.some Jvm.ClassFile.FieldType.int)) ∈ lw_all := lw_g (lw_at lw_m2 59 rfl) rfl
theorem q430 : (Jvm.Cond.methodLink "TandemKeepsAPlace" (262 : Nat) ({ cls := "TandemKeepsAPlace", name := "newText", desc := "()I" } : Jvm.MethodName)) ∈ lw_all := lw_g (lw_at lw_m2 60 rfl) rfl
theorem q431 : (Jvm.Cond.privateMethod ({ cls := "TandemKeepsAPlace", name := "newText", desc := "()I" } : Jvm.MethodName)) ∈ lw_tbl := lw_at lw_m2 61 rfl
theorem q432 : (Jvm.Cond.instanceMethod ({ cls := "TandemKeepsAPlace", name := "newText", desc := "()I" } : Jvm.MethodName)) ∈ lw_all := lw_g (lw_at lw_m2 62 rfl) rfl
theorem q433 : (Jvm.Cond.codeWith ({ cls := "TandemKeepsAPlace", name := "newText", desc := "()I" } : Jvm.MethodName) prog_1_method_36_code (3 : Nat) (Option.some Jvm.ClassFile.FieldType.int) [((28 : Nat), (83 : Nat), (86 : Nat), (253 : Nat))]) ∈ lw_all := lw_g (lw_at lw_m2 63 rfl) rfl
theorem q434 : (Jvm.Cond.classLink "TandemKeepsAPlace" (253 : Nat) "TandemKeepsAPlace$Faulty") ∈ lw_all := lw_g (lw_at lw_m2 64 rfl) rfl
theorem q435 : (Jvm.Cond.classLink "TandemKeepsAPlace" (251 : Nat) "TandemKeepsAPlace$Node") ∈ lw_all := lw_g (lw_at lw_m2 65 rfl) rfl
theorem q437 : (Jvm.Cond.methodLink "TandemKeepsAPlace" (190 : Nat) ({ cls := "TandemKeepsAPlace", name := "next", desc := "()V" } : Jvm.MethodName)) ∈ lw_all := lw_g (lw_at lw_m2 67 rfl) rfl
theorem q438 : (Jvm.Cond.privateMethod ({ cls := "TandemKeepsAPlace", name := "next", desc := "()V" } : Jvm.MethodName)) ∈ lw_tbl := lw_at lw_m2 68 rfl
theorem q439 : (Jvm.Cond.instanceMethod ({ cls := "TandemKeepsAPlace", name := "next", desc := "()V" } : Jvm.MethodName)) ∈ lw_all := lw_g (lw_at lw_m2 69 rfl) rfl
theorem q440 : (Jvm.Cond.code ({ cls := "TandemKeepsAPlace", name := "next", desc := "()V" } : Jvm.MethodName) prog_1_method_22_code (2 : Nat) (Option.none : Option Jvm.ClassFile.FieldType)) ∈ lw_all := lw_g (lw_at lw_m2 70 rfl) rfl
theorem q441 : (Jvm.Cond.methodLink "TandemKeepsAPlace" (138 : Nat) ({ cls := "TandemKeepsAPlace", name := "byteAt", desc := "(I)I" } : Jvm.MethodName)) ∈ lw_all := lw_g (lw_at lw_m2 71 rfl) rfl
theorem q442 : (Jvm.Cond.privateMethod ({ cls := "TandemKeepsAPlace", name := "byteAt", desc := "(I)I" } : Jvm.MethodName)) ∈ lw_tbl := lw_at lw_m2 72 rfl
theorem q443 : (Jvm.Cond.instanceMethod ({ cls := "TandemKeepsAPlace", name := "byteAt", desc := "(I)I" } : Jvm.MethodName)) ∈ lw_all := lw_g (lw_at lw_m2 73 rfl) rfl
theorem q444 : (Jvm.Cond.code ({ cls := "TandemKeepsAPlace", name := "byteAt", desc := "(I)I" } : Jvm.MethodName) prog_1_method_19_code (2 : Nat) (Option.some Jvm.ClassFile.FieldType.int)) ∈ lw_all := lw_g (lw_at lw_m2 74 rfl) rfl
theorem q445 : (Jvm.Cond.methodLink "TandemKeepsAPlace" (147 : Nat) ({ cls := "TandemKeepsAPlace", name := "isLetter", desc := "(I)Z" } : Jvm.MethodName)) ∈ lw_all := lw_g (lw_at lw_m2 75 rfl) rfl
theorem q446 : (Jvm.Cond.static ({ cls := "TandemKeepsAPlace", name := "isLetter", desc := "(I)Z" } : Jvm.MethodName)) ∈ lw_all := lw_g (lw_at lw_m2 76 rfl) rfl
theorem q447 : (Jvm.Cond.code ({ cls := "TandemKeepsAPlace", name := "isLetter", desc := "(I)Z" } : Jvm.MethodName) prog_1_method_20_code (1 : Nat) (Option.some Jvm.ClassFile.FieldType.boolean)) ∈ lw_all := lw_g (lw_at lw_m2 77 rfl) rfl
theorem q448 : (Jvm.Cond.constantLong "TandemKeepsAPlace" (127 : Nat) (97 : Int64)) ∈ lw_all := lw_g (lw_at lw_m2 78 rfl) rfl
theorem q449 : (Jvm.Cond.constantLong "TandemKeepsAPlace" (129 : Nat) (122 : Int64)) ∈ lw_all := lw_g (lw_at lw_m2 79 rfl) rfl
theorem q450 : (Jvm.Cond.methodLink "TandemKeepsAPlace" (150 : Nat) ({ cls := "TandemKeepsAPlace", name := "word", desc := "()V" } : Jvm.MethodName)) ∈ lw_all := lw_g (lw_at lw_m2 80 rfl) rfl
theorem q451 : (Jvm.Cond.privateMethod ({ cls := "TandemKeepsAPlace", name := "word", desc := "()V" } : Jvm.MethodName)) ∈ lw_tbl := lw_at lw_m2 81 rfl
theorem q452 : (Jvm.Cond.instanceMethod ({ cls := "TandemKeepsAPlace", name := "word", desc := "()V" } : Jvm.MethodName)) ∈ lw_all := lw_g (lw_at lw_m2 82 rfl) rfl
theorem q453 : (Jvm.Cond.code ({ cls := "TandemKeepsAPlace", name := "word", desc := "()V" } : Jvm.MethodName) prog_1_method_24_code (2 : Nat) (Option.none : Option Jvm.ClassFile.FieldType)) ∈ lw_all := lw_g (lw_at lw_m2 83 rfl) rfl
theorem q454 : (Jvm.Cond.methodLink "TandemKeepsAPlace" (183 : Nat) ({ cls := "TandemKeepsAPlace", name := "placeIn", desc := "([Ljava/lang/String;)I" } : Jvm.MethodName)) ∈ lw_all := lw_g (lw_at lw_m2 84 rfl) rfl
theorem q455 : (Jvm.Cond.privateMethod ({ cls := "TandemKeepsAPlace", name := "placeIn", desc := "([Ljava/lang/String;)I" } : Jvm.MethodName)) ∈ lw_tbl := lw_at lw_m2 85 rfl
theorem q456 : (Jvm.Cond.instanceMethod ({ cls := "TandemKeepsAPlace", name := "placeIn", desc := "([Ljava/lang/String;)I" } : Jvm.MethodName)) ∈ lw_all := lw_g (lw_at lw_m2 86 rfl) rfl
theorem q457 : (Jvm.Cond.code ({ cls := "TandemKeepsAPlace", name := "placeIn", desc := "([Ljava/lang/String;)I" } : Jvm.MethodName) prog_1_method_23_code (5 : Nat) (Option.some Jvm.ClassFile.FieldType.int)) ∈ lw_all := lw_g (lw_at lw_m2 87 rfl) rfl
theorem q458 : (Jvm.Cond.methodLink "TandemKeepsAPlace" (173 : Nat) ({ cls := "java/lang/String", name := "length", desc := "()I" } : Jvm.MethodName)) ∈ lw_all := lw_g (lw_at lw_m2 88 rfl) rfl
theorem q468 : (Jvm.Cond.methodLink "TandemKeepsAPlace" (175 : Nat) ({ cls := "java/lang/String", name := "charAt", desc := "(I)C" } : Jvm.MethodName)) ∈ lw_all := lw_g (lw_at lw_m2 98 rfl) rfl
theorem q506 : (Jvm.Cond.methodLink "TandemKeepsAPlace" (153 : Nat) ({ cls := "TandemKeepsAPlace", name := "isDigit", desc := "(I)Z" } : Jvm.MethodName)) ∈ lw_all := lw_g (lw_at lw_m2 136 rfl) rfl
theorem q507 : (Jvm.Cond.static ({ cls := "TandemKeepsAPlace", name := "isDigit", desc := "(I)Z" } : Jvm.MethodName)) ∈ lw_all := lw_g (lw_at lw_m2 137 rfl) rfl
theorem q508 : (Jvm.Cond.code ({ cls := "TandemKeepsAPlace", name := "isDigit", desc := "(I)Z" } : Jvm.MethodName) prog_1_method_21_code (1 : Nat) (Option.some Jvm.ClassFile.FieldType.boolean)) ∈ lw_all := lw_g (lw_at lw_m2 138 rfl) rfl
theorem q509 : (Jvm.Cond.constantLong "TandemKeepsAPlace" (131 : Nat) (48 : Int64)) ∈ lw_all := lw_g (lw_at lw_m2 139 rfl) rfl
theorem q510 : (Jvm.Cond.constantLong "TandemKeepsAPlace" (133 : Nat) (57 : Int64)) ∈ lw_all := lw_g (lw_at lw_m2 140 rfl) rfl
theorem q511 : (Jvm.Cond.methodLink "TandemKeepsAPlace" (156 : Nat) ({ cls := "TandemKeepsAPlace", name := "digits", desc := "()V" } : Jvm.MethodName)) ∈ lw_all := lw_g (lw_at lw_m2 141 rfl) rfl
theorem q512 : (Jvm.Cond.privateMethod ({ cls := "TandemKeepsAPlace", name := "digits", desc := "()V" } : Jvm.MethodName)) ∈ lw_tbl := lw_at lw_m2 142 rfl
theorem q513 : (Jvm.Cond.instanceMethod ({ cls := "TandemKeepsAPlace", name := "digits", desc := "()V" } : Jvm.MethodName)) ∈ lw_all := lw_g (lw_at lw_m2 143 rfl) rfl
theorem q514 : (Jvm.Cond.code ({ cls := "TandemKeepsAPlace", name := "digits", desc := "()V" } : Jvm.MethodName) prog_1_method_25_code (1 : Nat) (Option.none : Option Jvm.ClassFile.FieldType)) ∈ lw_all := lw_g (lw_at lw_m2 144 rfl) rfl
theorem q515 : (Jvm.Cond.stringRef "TandemKeepsAPlace" (162 : Nat) "();+-*<=") ∈ lw_tbl := lw_at lw_m2 145 rfl
theorem q516 : (Jvm.Cond.methodLink "TandemKeepsAPlace" (164 : Nat) ({ cls := "java/lang/String", name := "indexOf", desc := "(I)I" } : Jvm.MethodName)) ∈ lw_all := lw_g (lw_at lw_m2 146 rfl) rfl
theorem q571 : (Jvm.Cond.methodLink "TandemKeepsAPlace" (204 : Nat) ({ cls := "TandemKeepsAPlace", name := "isKey", desc := "(I)Z" } : Jvm.MethodName)) ∈ lw_all := lw_g (lw_at lw_m2 201 rfl) rfl
theorem q572 : (Jvm.Cond.privateMethod ({ cls := "TandemKeepsAPlace", name := "isKey", desc := "(I)Z" } : Jvm.MethodName)) ∈ lw_tbl := lw_at lw_m2 202 rfl
theorem q573 : (Jvm.Cond.instanceMethod ({ cls := "TandemKeepsAPlace", name := "isKey", desc := "(I)Z" } : Jvm.MethodName)) ∈ lw_all := lw_g (lw_at lw_m2 203 rfl) rfl
theorem q574 : (Jvm.Cond.code ({ cls := "TandemKeepsAPlace", name := "isKey", desc := "(I)Z" } : Jvm.MethodName) prog_1_method_27_code (2 : Nat) (Option.some Jvm.ClassFile.FieldType.boolean)) ∈ lw_all := lw_g (lw_at lw_m2 204 rfl) rfl
theorem q575 : (Jvm.Cond.methodLink "TandemKeepsAPlace" (196 : Nat) ({ cls := "TandemKeepsAPlace", name := "need", desc := "(Z)V" } : Jvm.MethodName)) ∈ lw_all := lw_g (lw_at lw_m2 205 rfl) rfl
theorem q576 : (Jvm.Cond.privateMethod ({ cls := "TandemKeepsAPlace", name := "need", desc := "(Z)V" } : Jvm.MethodName)) ∈ lw_tbl := lw_at lw_m2 206 rfl
theorem q577 : (Jvm.Cond.instanceMethod ({ cls := "TandemKeepsAPlace", name := "need", desc := "(Z)V" } : Jvm.MethodName)) ∈ lw_all := lw_g (lw_at lw_m2 207 rfl) rfl
theorem q578 : (Jvm.Cond.code ({ cls := "TandemKeepsAPlace", name := "need", desc := "(Z)V" } : Jvm.MethodName) prog_1_method_28_code (2 : Nat) (Option.none : Option Jvm.ClassFile.FieldType)) ∈ lw_all := lw_g (lw_at lw_m2 208 rfl) rfl
theorem q579 : (Jvm.Cond.methodLink "TandemKeepsAPlace" (245 : Nat) ({ cls := "TandemKeepsAPlace", name := "either", desc := "()LTandemKeepsAPlace$Node;" } : Jvm.MethodName)) ∈ lw_all := lw_g (lw_at lw_m2 209 rfl) rfl
theorem q580 : (Jvm.Cond.privateMethod ({ cls := "TandemKeepsAPlace", name := "either", desc := "()LTandemKeepsAPlace$Node;" } : Jvm.MethodName)) ∈ lw_tbl := lw_at lw_m2 210 rfl
theorem q581 : (Jvm.Cond.instanceMethod ({ cls := "TandemKeepsAPlace", name := "either", desc := "()LTandemKeepsAPlace$Node;" } : Jvm.MethodName)) ∈ lw_all := lw_g (lw_at lw_m2 211 rfl) rfl
theorem q582 : (Jvm.Cond.code ({ cls := "TandemKeepsAPlace", name := "either", desc := "()LTandemKeepsAPlace$Node;" } : Jvm.MethodName) prog_1_method_30_code (2 : Nat) (Option.some (Jvm.ClassFile.FieldType.object "TandemKeepsAPlace$Node"))) ∈ lw_all := lw_g (lw_at lw_m2 212 rfl) rfl
theorem q583 : (Jvm.Cond.methodLink "TandemKeepsAPlace" (200 : Nat) ({ cls := "TandemKeepsAPlace", name := "both", desc := "()LTandemKeepsAPlace$Node;" } : Jvm.MethodName)) ∈ lw_all := lw_g (lw_at lw_m2 213 rfl) rfl
theorem q584 : (Jvm.Cond.privateMethod ({ cls := "TandemKeepsAPlace", name := "both", desc := "()LTandemKeepsAPlace$Node;" } : Jvm.MethodName)) ∈ lw_tbl := lw_at lw_m2 214 rfl
theorem q585 : (Jvm.Cond.instanceMethod ({ cls := "TandemKeepsAPlace", name := "both", desc := "()LTandemKeepsAPlace$Node;" } : Jvm.MethodName)) ∈ lw_all := lw_g (lw_at lw_m2 215 rfl) rfl
theorem q586 : (Jvm.Cond.code ({ cls := "TandemKeepsAPlace", name := "both", desc := "()LTandemKeepsAPlace$Node;" } : Jvm.MethodName) prog_1_method_31_code (2 : Nat) (Option.some (Jvm.ClassFile.FieldType.object "TandemKeepsAPlace$Node"))) ∈ lw_all := lw_g (lw_at lw_m2 216 rfl) rfl
theorem q587 : (Jvm.Cond.methodLink "TandemKeepsAPlace" (212 : Nat) ({ cls := "TandemKeepsAPlace", name := "not", desc := "()LTandemKeepsAPlace$Node;" } : Jvm.MethodName)) ∈ lw_all := lw_g (lw_at lw_m2 217 rfl) rfl
theorem q588 : (Jvm.Cond.privateMethod ({ cls := "TandemKeepsAPlace", name := "not", desc := "()LTandemKeepsAPlace$Node;" } : Jvm.MethodName)) ∈ lw_tbl := lw_at lw_m2 218 rfl
theorem q589 : (Jvm.Cond.instanceMethod ({ cls := "TandemKeepsAPlace", name := "not", desc := "()LTandemKeepsAPlace$Node;" } : Jvm.MethodName)) ∈ lw_all := lw_g (lw_at lw_m2 219 rfl) rfl
theorem q590 : (Jvm.Cond.code ({ cls := "TandemKeepsAPlace", name := "not", desc := "()LTandemKeepsAPlace$Node;" } : Jvm.MethodName) prog_1_method_32_code (3 : Nat) (Option.some (Jvm.ClassFile.FieldType.object "TandemKeepsAPlace$Node"))) ∈ lw_all := lw_g (lw_at lw_m2 220 rfl) rfl
theorem q591 : (Jvm.Cond.methodLink "TandemKeepsAPlace" (215 : Nat) ({ cls := "TandemKeepsAPlace", name := "openOne", desc := "()V" } : Jvm.MethodName)) ∈ lw_all := lw_g (lw_at lw_m2 221 rfl) rfl
theorem q592 : (Jvm.Cond.privateMethod ({ cls := "TandemKeepsAPlace", name := "openOne", desc := "()V" } : Jvm.MethodName)) ∈ lw_tbl := lw_at lw_m2 222 rfl
theorem q593 : (Jvm.Cond.instanceMethod ({ cls := "TandemKeepsAPlace", name := "openOne", desc := "()V" } : Jvm.MethodName)) ∈ lw_all := lw_g (lw_at lw_m2 223 rfl) rfl
theorem q594 : (Jvm.Cond.code ({ cls := "TandemKeepsAPlace", name := "openOne", desc := "()V" } : Jvm.MethodName) prog_1_method_29_code (1 : Nat) (Option.none : Option Jvm.ClassFile.FieldType)) ∈ lw_all := lw_g (lw_at lw_m2 224 rfl) rfl
theorem q595 : (Jvm.Cond.classLink "TandemKeepsAPlace" (218 : Nat) "TandemKeepsAPlace$Turned") ∈ lw_all := lw_g (lw_at lw_m2 225 rfl) rfl
theorem q597 : (Jvm.Cond.methodLink "TandemKeepsAPlace" (220 : Nat) ({ cls := "TandemKeepsAPlace$Turned", name := "<init>", desc := "(LTandemKeepsAPlace$Node;Z)V" } : Jvm.MethodName)) ∈ lw_all := lw_g (lw_at lw_m2 227 rfl) rfl
theorem q612 : (Jvm.Cond.methodLink "TandemKeepsAPlace" (223 : Nat) ({ cls := "TandemKeepsAPlace", name := "plus", desc := "()LTandemKeepsAPlace$Node;" } : Jvm.MethodName)) ∈ lw_all := lw_g (lw_at lw_m3 2 rfl) rfl
theorem q613 : (Jvm.Cond.privateMethod ({ cls := "TandemKeepsAPlace", name := "plus", desc := "()LTandemKeepsAPlace$Node;" } : Jvm.MethodName)) ∈ lw_tbl := lw_at lw_m3 3 rfl
theorem q614 : (Jvm.Cond.instanceMethod ({ cls := "TandemKeepsAPlace", name := "plus", desc := "()LTandemKeepsAPlace$Node;" } : Jvm.MethodName)) ∈ lw_all := lw_g (lw_at lw_m3 4 rfl) rfl
theorem q615 : (Jvm.Cond.code ({ cls := "TandemKeepsAPlace", name := "plus", desc := "()LTandemKeepsAPlace$Node;" } : Jvm.MethodName) prog_1_method_33_code (3 : Nat) (Option.some (Jvm.ClassFile.FieldType.object "TandemKeepsAPlace$Node"))) ∈ lw_all := lw_g (lw_at lw_m3 5 rfl) rfl
theorem q616 : (Jvm.Cond.methodLink "TandemKeepsAPlace" (229 : Nat) ({ cls := "TandemKeepsAPlace", name := "times", desc := "()LTandemKeepsAPlace$Node;" } : Jvm.MethodName)) ∈ lw_all := lw_g (lw_at lw_m3 6 rfl) rfl
theorem q617 : (Jvm.Cond.privateMethod ({ cls := "TandemKeepsAPlace", name := "times", desc := "()LTandemKeepsAPlace$Node;" } : Jvm.MethodName)) ∈ lw_tbl := lw_at lw_m3 7 rfl
theorem q618 : (Jvm.Cond.instanceMethod ({ cls := "TandemKeepsAPlace", name := "times", desc := "()LTandemKeepsAPlace$Node;" } : Jvm.MethodName)) ∈ lw_all := lw_g (lw_at lw_m3 8 rfl) rfl
theorem q619 : (Jvm.Cond.code ({ cls := "TandemKeepsAPlace", name := "times", desc := "()LTandemKeepsAPlace$Node;" } : Jvm.MethodName) prog_1_method_34_code (2 : Nat) (Option.some (Jvm.ClassFile.FieldType.object "TandemKeepsAPlace$Node"))) ∈ lw_all := lw_g (lw_at lw_m3 9 rfl) rfl
theorem q620 : (Jvm.Cond.methodLink "TandemKeepsAPlace" (232 : Nat) ({ cls := "TandemKeepsAPlace", name := "one", desc := "()LTandemKeepsAPlace$Node;" } : Jvm.MethodName)) ∈ lw_all := lw_g (lw_at lw_m3 10 rfl) rfl
theorem q621 : (Jvm.Cond.privateMethod ({ cls := "TandemKeepsAPlace", name := "one", desc := "()LTandemKeepsAPlace$Node;" } : Jvm.MethodName)) ∈ lw_tbl := lw_at lw_m3 11 rfl
theorem q622 : (Jvm.Cond.instanceMethod ({ cls := "TandemKeepsAPlace", name := "one", desc := "()LTandemKeepsAPlace$Node;" } : Jvm.MethodName)) ∈ lw_all := lw_g (lw_at lw_m3 12 rfl) rfl
theorem q623 : (Jvm.Cond.code ({ cls := "TandemKeepsAPlace", name := "one", desc := "()LTandemKeepsAPlace$Node;" } : Jvm.MethodName) prog_1_method_35_code (3 : Nat) (Option.some (Jvm.ClassFile.FieldType.object "TandemKeepsAPlace$Node"))) ∈ lw_all := lw_g (lw_at lw_m3 13 rfl) rfl
theorem q624 : (Jvm.Cond.classLink "TandemKeepsAPlace" (235 : Nat) "TandemKeepsAPlace$Number") ∈ lw_all := lw_g (lw_at lw_m3 14 rfl) rfl
theorem q626 : (Jvm.Cond.methodLink "TandemKeepsAPlace" (237 : Nat) ({ cls := "TandemKeepsAPlace$Number", name := "<init>", desc := "(I)V" } : Jvm.MethodName)) ∈ lw_all := lw_g (lw_at lw_m3 16 rfl) rfl
theorem q634 : (Jvm.Cond.classLink "TandemKeepsAPlace" (240 : Nat) "TandemKeepsAPlace$Name") ∈ lw_all := lw_g (lw_at lw_m3 24 rfl) rfl
theorem q636 : (Jvm.Cond.methodLink "TandemKeepsAPlace" (242 : Nat) ({ cls := "TandemKeepsAPlace$Name", name := "<init>", desc := "(LTandemKeepsAPlace;I)V" } : Jvm.MethodName)) ∈ lw_all := lw_g (lw_at lw_m3 26 rfl) rfl
theorem q647 : (Jvm.Cond.methodLink "TandemKeepsAPlace" (226 : Nat) ({ cls := "TandemKeepsAPlace", name := "isSign", desc := "(I)Z" } : Jvm.MethodName)) ∈ lw_all := lw_g (lw_at lw_m3 37 rfl) rfl
theorem q648 : (Jvm.Cond.privateMethod ({ cls := "TandemKeepsAPlace", name := "isSign", desc := "(I)Z" } : Jvm.MethodName)) ∈ lw_tbl := lw_at lw_m3 38 rfl
theorem q649 : (Jvm.Cond.instanceMethod ({ cls := "TandemKeepsAPlace", name := "isSign", desc := "(I)Z" } : Jvm.MethodName)) ∈ lw_all := lw_g (lw_at lw_m3 39 rfl) rfl
theorem q650 : (Jvm.Cond.code ({ cls := "TandemKeepsAPlace", name := "isSign", desc := "(I)Z" } : Jvm.MethodName) prog_1_method_26_code (2 : Nat) (Option.some Jvm.ClassFile.FieldType.boolean)) ∈ lw_all := lw_g (lw_at lw_m3 40 rfl) rfl
theorem q651 : (Jvm.Cond.classLink "TandemKeepsAPlace" (207 : Nat) "TandemKeepsAPlace$Two") ∈ lw_all := lw_g (lw_at lw_m3 41 rfl) rfl
theorem q653 : (Jvm.Cond.methodLink "TandemKeepsAPlace" (209 : Nat) ({ cls := "TandemKeepsAPlace$Two", name := "<init>", desc := "(ILTandemKeepsAPlace$Node;LTandemKeepsAPlace$Node;)V" } : Jvm.MethodName)) ∈ lw_all := lw_g (lw_at lw_m3 43 rfl) rfl
theorem q669 : (Jvm.Cond.instanceMethod ({ cls := "TandemKeepsAPlace", name := "<init>", desc := "()V" } : Jvm.MethodName)) ∈ lw_all := lw_g (lw_at lw_m3 59 rfl) rfl
theorem q670 : (Jvm.Cond.code ({ cls := "TandemKeepsAPlace", name := "<init>", desc := "()V" } : Jvm.MethodName) prog_1_method_41_code (1 : Nat) (Option.none : Option Jvm.ClassFile.FieldType)) ∈ lw_all := lw_g (lw_at lw_m3 60 rfl) rfl
theorem q671 : (Jvm.Cond.methodLink "TandemKeepsAPlace" (267 : Nat) ({ cls := "java/lang/Object", name := "<init>", desc := "()V" } : Jvm.MethodName)) ∈ lw_all := lw_g (lw_at lw_m3 61 rfl) rfl
theorem q673 : (Jvm.Cond.classLink "TandemKeepsAPlace" (271 : Nat) "[[I") ∈ lw_all := lw_g (lw_at lw_m3 63 rfl) rfl
theorem q731 : (Jvm.Cond.methodLink "TandemKeepsAPlace" (272 : Nat) ({ cls := "TandemKeepsAPlace$Faulty", name := "<init>", desc := "()V" } : Jvm.MethodName)) ∈ lw_all := lw_g (lw_at lw_m3 121 rfl) rfl
theorem q757 : (Jvm.Cond.classLink "TandemKeepsAPlace" (273 : Nat) "[LTandemKeepsAPlace$Node;") ∈ lw_all := lw_g (lw_at lw_m3 147 rfl) rfl
theorem q759 : (Jvm.Cond.classLink "TandemKeepsAPlace" (165 : Nat) "java/lang/String") ∈ lw_all := lw_g (lw_at lw_m3 149 rfl) rfl
theorem q761 : (Jvm.Cond.stringRef "TandemKeepsAPlace" (275 : Nat) "pulls") ∈ lw_tbl := lw_at lw_m3 151 rfl
theorem q762 : (Jvm.Cond.stringRef "TandemKeepsAPlace" (277 : Nat) "moods") ∈ lw_tbl := lw_at lw_m3 152 rfl
theorem q763 : (Jvm.Cond.stringRef "TandemKeepsAPlace" (279 : Nat) "enough") ∈ lw_tbl := lw_at lw_m3 153 rfl
theorem q764 : (Jvm.Cond.stringRef "TandemKeepsAPlace" (281 : Nat) "or") ∈ lw_tbl := lw_at lw_m3 154 rfl
theorem q765 : (Jvm.Cond.stringRef "TandemKeepsAPlace" (283 : Nat) "and") ∈ lw_tbl := lw_at lw_m3 155 rfl
theorem q766 : (Jvm.Cond.stringRef "TandemKeepsAPlace" (285 : Nat) "not") ∈ lw_tbl := lw_at lw_m3 156 rfl
theorem q767 : (Jvm.Cond.stringRef "TandemKeepsAPlace" (286 : Nat) "miles") ∈ lw_tbl := lw_at lw_m3 157 rfl
theorem q768 : (Jvm.Cond.stringRef "TandemKeepsAPlace" (288 : Nat) "number") ∈ lw_tbl := lw_at lw_m3 158 rfl
theorem q769 : (Jvm.Cond.stringRef "TandemKeepsAPlace" (289 : Nat) "steps") ∈ lw_tbl := lw_at lw_m3 159 rfl
theorem q770 : (Jvm.Cond.stringRef "TandemKeepsAPlace" (291 : Nat) "hour") ∈ lw_tbl := lw_at lw_m3 160 rfl
theorem q771 : (Jvm.Cond.stringRef "TandemKeepsAPlace" (292 : Nat) "behind") ∈ lw_tbl := lw_at lw_m3 161 rfl
theorem q772 : (Jvm.Cond.stringRef "TandemKeepsAPlace" (294 : Nat) "theirs") ∈ lw_tbl := lw_at lw_m3 162 rfl
theorem q773 : (Jvm.Cond.classLink "TandemKeepsAPlace" (312 : Nat) "TandemKeepsAPlace$Sheet") ∈ lw_all := lw_g (lw_at lw_m3 163 rfl) rfl
theorem q776 : (Jvm.Cond.methodLinkNest "TandemKeepsAPlace" (314 : Nat) ({ cls := "TandemKeepsAPlace$Sheet", name := "<init>", desc := "()V" } : Jvm.MethodName) "TandemKeepsAPlace") ∈ lw_tbl := lw_at lw_m3 166 rfl
theorem q780 : (Jvm.Cond.fieldLinkNest "TandemKeepsAPlace" (479 : Nat) "TandemKeepsAPlace$Sheet" "row" "Ljava/lang/Object;" "TandemKeepsAPlace") ∈ lw_tbl := lw_at lw_m3 170 rfl
theorem q784 : (Jvm.Cond.stringRef "TandemKeepsAPlace" (319 : Nat) "pulls 10 + number - steps ; moods number ; enough 12 < steps ;") ∈ lw_tbl := lw_at lw_m3 174 rfl
theorem q785 : (Jvm.Cond.methodLink "TandemKeepsAPlace" (321 : Nat) ({ cls := "TandemKeepsAPlace", name := "firstText", desc := "(Ljava/lang/String;)V" } : Jvm.MethodName)) ∈ lw_all := lw_g (lw_at lw_m3 175 rfl) rfl
theorem q786 : (Jvm.Cond.privateMethod ({ cls := "TandemKeepsAPlace", name := "firstText", desc := "(Ljava/lang/String;)V" } : Jvm.MethodName)) ∈ lw_tbl := lw_at lw_m3 176 rfl
theorem q787 : (Jvm.Cond.instanceMethod ({ cls := "TandemKeepsAPlace", name := "firstText", desc := "(Ljava/lang/String;)V" } : Jvm.MethodName)) ∈ lw_all := lw_g (lw_at lw_m3 177 rfl) rfl
theorem q788 : (Jvm.Cond.code ({ cls := "TandemKeepsAPlace", name := "firstText", desc := "(Ljava/lang/String;)V" } : Jvm.MethodName) prog_1_method_37_code (3 : Nat) (Option.none : Option Jvm.ClassFile.FieldType)) ∈ lw_all := lw_g (lw_at lw_m3 178 rfl) rfl
theorem q790 : (Jvm.Cond.fieldLink "TandemKeepsAPlace" (60 : Nat) "TandemKeepsAPlace" "folk" "[LTandemKeepsAPlace$Rider;") ∈ lw_all := lw_g (lw_at lw_m3 180 rfl) rfl
theorem q791 : (Jvm.Cond.fieldLink "TandemKeepsAPlace" (18 : Nat) "TandemKeepsAPlace" "many" "I") ∈ lw_all := lw_g (lw_at lw_m3 181 rfl) rfl
theorem q793 : (Jvm.Cond.fieldLink "TandemKeepsAPlace" (87 : Nat) "TandemKeepsAPlace" "hour" "I") ∈ lw_all := lw_g (lw_at lw_m3 183 rfl) rfl
theorem q794 : (Jvm.Cond.fieldLink "TandemKeepsAPlace" (72 : Nat) "TandemKeepsAPlace" "roads" "[[I") ∈ lw_all := lw_g (lw_at lw_m3 184 rfl) rfl
theorem q796 : (Jvm.Cond.fieldLink "TandemKeepsAPlace" (68 : Nat) "TandemKeepsAPlace" "far" "[[I") ∈ lw_all := lw_g (lw_at lw_m3 186 rfl) rfl
theorem q797 : (Jvm.Cond.fieldLink "TandemKeepsAPlace" (169 : Nat) "TandemKeepsAPlace" "faulty" "LTandemKeepsAPlace$Faulty;") ∈ lw_all := lw_g (lw_at lw_m3 187 rfl) rfl
theorem q799 : (Jvm.Cond.fieldLink "TandemKeepsAPlace" (331 : Nat) "TandemKeepsAPlace" "forOne" "I") ∈ lw_all := lw_g (lw_at lw_m3 189 rfl) rfl
theorem q801 : (Jvm.Cond.fieldLink "TandemKeepsAPlace" (334 : Nat) "TandemKeepsAPlace" "forOther" "I") ∈ lw_all := lw_g (lw_at lw_m3 191 rfl) rfl
theorem q803 : (Jvm.Cond.fieldLink "TandemKeepsAPlace" (376 : Nat) "TandemKeepsAPlace" "forPlace" "I") ∈ lw_all := lw_g (lw_at lw_m3 193 rfl) rfl
theorem q805 : (Jvm.Cond.fieldLink "TandemKeepsAPlace" (357 : Nat) "TandemKeepsAPlace" "forSteps" "I") ∈ lw_all := lw_g (lw_at lw_m3 195 rfl) rfl
theorem q807 : (Jvm.Cond.fieldLink "TandemKeepsAPlace" (337 : Nat) "TandemKeepsAPlace" "forBehind" "I") ∈ lw_all := lw_g (lw_at lw_m3 197 rfl) rfl
theorem q808 : (Jvm.Cond.fieldLink "TandemKeepsAPlace" (255 : Nat) "TandemKeepsAPlace" "texts" "[[LTandemKeepsAPlace$Node;") ∈ lw_all := lw_g (lw_at lw_m3 198 rfl) rfl
theorem q809 : (Jvm.Cond.fieldLink "TandemKeepsAPlace" (259 : Nat) "TandemKeepsAPlace" "textMany" "I") ∈ lw_all := lw_g (lw_at lw_m3 199 rfl) rfl
theorem q810 : (Jvm.Cond.fieldLink "TandemKeepsAPlace" (179 : Nat) "TandemKeepsAPlace" "keys" "[Ljava/lang/String;") ∈ lw_all := lw_g (lw_at lw_m3 200 rfl) rfl
theorem q811 : (Jvm.Cond.fieldLink "TandemKeepsAPlace" (187 : Nat) "TandemKeepsAPlace" "names" "[Ljava/lang/String;") ∈ lw_all := lw_g (lw_at lw_m3 201 rfl) rfl
theorem q812 : (Jvm.Cond.fieldLink "TandemKeepsAPlace" (123 : Nat) "TandemKeepsAPlace" "tape" "[B") ∈ lw_all := lw_g (lw_at lw_m3 202 rfl) rfl
theorem q813 : (Jvm.Cond.fieldLink "TandemKeepsAPlace" (248 : Nat) "TandemKeepsAPlace" "taped" "I") ∈ lw_all := lw_g (lw_at lw_m3 203 rfl) rfl
theorem q814 : (Jvm.Cond.fieldLink "TandemKeepsAPlace" (120 : Nat) "TandemKeepsAPlace" "length" "I") ∈ lw_all := lw_g (lw_at lw_m3 204 rfl) rfl
theorem q815 : (Jvm.Cond.fieldLink "TandemKeepsAPlace" (135 : Nat) "TandemKeepsAPlace" "at" "I") ∈ lw_all := lw_g (lw_at lw_m3 205 rfl) rfl
theorem q816 : (Jvm.Cond.fieldLink "TandemKeepsAPlace" (141 : Nat) "TandemKeepsAPlace" "begin" "I") ∈ lw_all := lw_g (lw_at lw_m3 206 rfl) rfl
theorem q817 : (Jvm.Cond.fieldLink "TandemKeepsAPlace" (144 : Nat) "TandemKeepsAPlace" "token" "I") ∈ lw_all := lw_g (lw_at lw_m3 207 rfl) rfl
theorem q818 : (Jvm.Cond.fieldLink "TandemKeepsAPlace" (159 : Nat) "TandemKeepsAPlace" "value" "I") ∈ lw_all := lw_g (lw_at lw_m3 208 rfl) rfl
theorem q819 : (Jvm.Cond.fieldLink "TandemKeepsAPlace" (193 : Nat) "TandemKeepsAPlace" "opens" "I") ∈ lw_all := lw_g (lw_at lw_m3 209 rfl) rfl
theorem q820 : (Jvm.Cond.fieldLink "TandemKeepsAPlace" (328 : Nat) "TandemKeepsAPlace" "rule" "I") ∈ lw_all := lw_g (lw_at lw_m3 210 rfl) rfl
theorem q821 : (Jvm.Cond.fieldLink "TandemKeepsAPlace" (296 : Nat) "TandemKeepsAPlace" "placeAt" "[I") ∈ lw_all := lw_g (lw_at lw_m3 211 rfl) rfl
theorem q822 : (Jvm.Cond.fieldLink "TandemKeepsAPlace" (385 : Nat) "TandemKeepsAPlace" "steps" "I") ∈ lw_all := lw_g (lw_at lw_m3 212 rfl) rfl
theorem q823 : (Jvm.Cond.fieldLink "TandemKeepsAPlace" (387 : Nat) "TandemKeepsAPlace" "miles" "I") ∈ lw_all := lw_g (lw_at lw_m3 213 rfl) rfl
theorem q824 : (Jvm.Cond.fieldLink "TandemKeepsAPlace" (389 : Nat) "TandemKeepsAPlace" "frontSteps" "I") ∈ lw_all := lw_g (lw_at lw_m3 214 rfl) rfl
theorem q825 : (Jvm.Cond.fieldLink "TandemKeepsAPlace" (417 : Nat) "TandemKeepsAPlace" "hasBest" "Z") ∈ lw_all := lw_g (lw_at lw_m3 215 rfl) rfl
theorem q826 : (Jvm.Cond.fieldLink "TandemKeepsAPlace" (421 : Nat) "TandemKeepsAPlace" "bestLong" "I") ∈ lw_all := lw_g (lw_at lw_m3 216 rfl) rfl
theorem q827 : (Jvm.Cond.fieldLink "TandemKeepsAPlace" (424 : Nat) "TandemKeepsAPlace" "bestDigits" "I") ∈ lw_all := lw_g (lw_at lw_m3 217 rfl) rfl
theorem q828 : (Jvm.Cond.fieldLink "TandemKeepsAPlace" (300 : Nat) "TandemKeepsAPlace" "keptGoals" "[I") ∈ lw_all := lw_g (lw_at lw_m3 218 rfl) rfl
theorem q829 : (Jvm.Cond.fieldLink "TandemKeepsAPlace" (523 : Nat) "TandemKeepsAPlace" "hasImage" "Z") ∈ lw_all := lw_g (lw_at lw_m3 219 rfl) rfl
theorem q830 : (Jvm.Cond.fieldLink "TandemKeepsAPlace" (303 : Nat) "TandemKeepsAPlace" "imageRoads" "[[I") ∈ lw_all := lw_g (lw_at lw_m3 220 rfl) rfl
theorem q831 : (Jvm.Cond.fieldLink "TandemKeepsAPlace" (306 : Nat) "TandemKeepsAPlace" "imageFolk" "[[I") ∈ lw_all := lw_g (lw_at lw_m3 221 rfl) rfl
theorem q832 : (Jvm.Cond.fieldLink "TandemKeepsAPlace" (309 : Nat) "TandemKeepsAPlace" "imageNumbers" "[I") ∈ lw_all := lw_g (lw_at lw_m3 222 rfl) rfl
theorem q833 : (Jvm.Cond.fieldLink "TandemKeepsAPlace" (315 : Nat) "TandemKeepsAPlace" "sheets" "[LTandemKeepsAPlace$Sheet;") ∈ lw_all := lw_g (lw_at lw_m3 223 rfl) rfl
theorem q834 : (Jvm.Cond.laysFinal "TandemKeepsAPlace" "TandemKeepsAPlace" "folk" "[LTandemKeepsAPlace$Rider;") ∈ lw_all := lw_g (lw_at lw_m3 224 rfl) rfl
theorem q835 : (Jvm.Cond.soleField "TandemKeepsAPlace" "folk") ∈ lw_all := lw_g (lw_at lw_m3 225 rfl) rfl
theorem q836 : (Jvm.Cond.lays "TandemKeepsAPlace" "TandemKeepsAPlace" "many" "I") ∈ lw_all := lw_g (lw_at lw_m3 226 rfl) rfl
theorem q837 : (Jvm.Cond.soleField "TandemKeepsAPlace" "many") ∈ lw_all := lw_g (lw_at lw_m3 227 rfl) rfl
theorem q838 : (Jvm.Cond.lays "TandemKeepsAPlace" "TandemKeepsAPlace" "hour" "I") ∈ lw_all := lw_g (lw_at lw_m3 228 rfl) rfl
theorem q839 : (Jvm.Cond.soleField "TandemKeepsAPlace" "hour") ∈ lw_all := lw_g (lw_at lw_m3 229 rfl) rfl
theorem q840 : (Jvm.Cond.laysFinal "TandemKeepsAPlace" "TandemKeepsAPlace" "roads" "[[I") ∈ lw_all := lw_g (lw_at lw_m3 230 rfl) rfl
theorem q841 : (Jvm.Cond.soleField "TandemKeepsAPlace" "roads") ∈ lw_all := lw_g (lw_at lw_m3 231 rfl) rfl
theorem q842 : (Jvm.Cond.laysFinal "TandemKeepsAPlace" "TandemKeepsAPlace" "far" "[[I") ∈ lw_all := lw_g (lw_at lw_m3 232 rfl) rfl
theorem q843 : (Jvm.Cond.soleField "TandemKeepsAPlace" "far") ∈ lw_all := lw_g (lw_at lw_m3 233 rfl) rfl
theorem q844 : (Jvm.Cond.laysFinal "TandemKeepsAPlace" "TandemKeepsAPlace" "faulty" "LTandemKeepsAPlace$Faulty;") ∈ lw_all := lw_g (lw_at lw_m3 234 rfl) rfl
theorem q845 : (Jvm.Cond.soleField "TandemKeepsAPlace" "faulty") ∈ lw_all := lw_g (lw_at lw_m3 235 rfl) rfl
theorem q846 : (Jvm.Cond.lays "TandemKeepsAPlace" "TandemKeepsAPlace" "forOne" "I") ∈ lw_all := lw_g (lw_at lw_m3 236 rfl) rfl
theorem q847 : (Jvm.Cond.soleField "TandemKeepsAPlace" "forOne") ∈ lw_all := lw_g (lw_at lw_m3 237 rfl) rfl
theorem q848 : (Jvm.Cond.lays "TandemKeepsAPlace" "TandemKeepsAPlace" "forOther" "I") ∈ lw_all := lw_g (lw_at lw_m3 238 rfl) rfl
theorem q849 : (Jvm.Cond.soleField "TandemKeepsAPlace" "forOther") ∈ lw_all := lw_g (lw_at lw_m3 239 rfl) rfl
theorem q850 : (Jvm.Cond.lays "TandemKeepsAPlace" "TandemKeepsAPlace" "forPlace" "I") ∈ lw_all := lw_g (lw_at lw_m4 0 rfl) rfl
theorem q851 : (Jvm.Cond.soleField "TandemKeepsAPlace" "forPlace") ∈ lw_all := lw_g (lw_at lw_m4 1 rfl) rfl
theorem q852 : (Jvm.Cond.lays "TandemKeepsAPlace" "TandemKeepsAPlace" "forSteps" "I") ∈ lw_all := lw_g (lw_at lw_m4 2 rfl) rfl
theorem q853 : (Jvm.Cond.soleField "TandemKeepsAPlace" "forSteps") ∈ lw_all := lw_g (lw_at lw_m4 3 rfl) rfl
theorem q854 : (Jvm.Cond.lays "TandemKeepsAPlace" "TandemKeepsAPlace" "forBehind" "I") ∈ lw_all := lw_g (lw_at lw_m4 4 rfl) rfl
theorem q855 : (Jvm.Cond.soleField "TandemKeepsAPlace" "forBehind") ∈ lw_all := lw_g (lw_at lw_m4 5 rfl) rfl
theorem q856 : (Jvm.Cond.laysFinal "TandemKeepsAPlace" "TandemKeepsAPlace" "texts" "[[LTandemKeepsAPlace$Node;") ∈ lw_all := lw_g (lw_at lw_m4 6 rfl) rfl
theorem q857 : (Jvm.Cond.soleField "TandemKeepsAPlace" "texts") ∈ lw_all := lw_g (lw_at lw_m4 7 rfl) rfl
theorem q858 : (Jvm.Cond.lays "TandemKeepsAPlace" "TandemKeepsAPlace" "textMany" "I") ∈ lw_all := lw_g (lw_at lw_m4 8 rfl) rfl
theorem q859 : (Jvm.Cond.soleField "TandemKeepsAPlace" "textMany") ∈ lw_all := lw_g (lw_at lw_m4 9 rfl) rfl
theorem q860 : (Jvm.Cond.laysFinal "TandemKeepsAPlace" "TandemKeepsAPlace" "keys" "[Ljava/lang/String;") ∈ lw_all := lw_g (lw_at lw_m4 10 rfl) rfl
theorem q861 : (Jvm.Cond.soleField "TandemKeepsAPlace" "keys") ∈ lw_all := lw_g (lw_at lw_m4 11 rfl) rfl
theorem q862 : (Jvm.Cond.laysFinal "TandemKeepsAPlace" "TandemKeepsAPlace" "names" "[Ljava/lang/String;") ∈ lw_all := lw_g (lw_at lw_m4 12 rfl) rfl
theorem q863 : (Jvm.Cond.soleField "TandemKeepsAPlace" "names") ∈ lw_all := lw_g (lw_at lw_m4 13 rfl) rfl
theorem q864 : (Jvm.Cond.laysFinal "TandemKeepsAPlace" "TandemKeepsAPlace" "tape" "[B") ∈ lw_all := lw_g (lw_at lw_m4 14 rfl) rfl
theorem q865 : (Jvm.Cond.soleField "TandemKeepsAPlace" "tape") ∈ lw_all := lw_g (lw_at lw_m4 15 rfl) rfl
theorem q866 : (Jvm.Cond.lays "TandemKeepsAPlace" "TandemKeepsAPlace" "taped" "I") ∈ lw_all := lw_g (lw_at lw_m4 16 rfl) rfl
theorem q867 : (Jvm.Cond.soleField "TandemKeepsAPlace" "taped") ∈ lw_all := lw_g (lw_at lw_m4 17 rfl) rfl
theorem q868 : (Jvm.Cond.lays "TandemKeepsAPlace" "TandemKeepsAPlace" "length" "I") ∈ lw_all := lw_g (lw_at lw_m4 18 rfl) rfl
theorem q869 : (Jvm.Cond.soleField "TandemKeepsAPlace" "length") ∈ lw_all := lw_g (lw_at lw_m4 19 rfl) rfl
theorem q870 : (Jvm.Cond.lays "TandemKeepsAPlace" "TandemKeepsAPlace" "at" "I") ∈ lw_all := lw_g (lw_at lw_m4 20 rfl) rfl
theorem q871 : (Jvm.Cond.soleField "TandemKeepsAPlace" "at") ∈ lw_all := lw_g (lw_at lw_m4 21 rfl) rfl
theorem q872 : (Jvm.Cond.lays "TandemKeepsAPlace" "TandemKeepsAPlace" "begin" "I") ∈ lw_all := lw_g (lw_at lw_m4 22 rfl) rfl
theorem q873 : (Jvm.Cond.soleField "TandemKeepsAPlace" "begin") ∈ lw_all := lw_g (lw_at lw_m4 23 rfl) rfl
theorem q874 : (Jvm.Cond.lays "TandemKeepsAPlace" "TandemKeepsAPlace" "token" "I") ∈ lw_all := lw_g (lw_at lw_m4 24 rfl) rfl
theorem q875 : (Jvm.Cond.soleField "TandemKeepsAPlace" "token") ∈ lw_all := lw_g (lw_at lw_m4 25 rfl) rfl
theorem q876 : (Jvm.Cond.lays "TandemKeepsAPlace" "TandemKeepsAPlace" "value" "I") ∈ lw_all := lw_g (lw_at lw_m4 26 rfl) rfl
theorem q877 : (Jvm.Cond.soleField "TandemKeepsAPlace" "value") ∈ lw_all := lw_g (lw_at lw_m4 27 rfl) rfl
theorem q878 : (Jvm.Cond.lays "TandemKeepsAPlace" "TandemKeepsAPlace" "opens" "I") ∈ lw_all := lw_g (lw_at lw_m4 28 rfl) rfl
theorem q879 : (Jvm.Cond.soleField "TandemKeepsAPlace" "opens") ∈ lw_all := lw_g (lw_at lw_m4 29 rfl) rfl
theorem q880 : (Jvm.Cond.lays "TandemKeepsAPlace" "TandemKeepsAPlace" "rule" "I") ∈ lw_all := lw_g (lw_at lw_m4 30 rfl) rfl
theorem q881 : (Jvm.Cond.soleField "TandemKeepsAPlace" "rule") ∈ lw_all := lw_g (lw_at lw_m4 31 rfl) rfl
theorem q882 : (Jvm.Cond.laysFinal "TandemKeepsAPlace" "TandemKeepsAPlace" "placeAt" "[I") ∈ lw_all := lw_g (lw_at lw_m4 32 rfl) rfl
theorem q883 : (Jvm.Cond.soleField "TandemKeepsAPlace" "placeAt") ∈ lw_all := lw_g (lw_at lw_m4 33 rfl) rfl
theorem q884 : (Jvm.Cond.lays "TandemKeepsAPlace" "TandemKeepsAPlace" "steps" "I") ∈ lw_all := lw_g (lw_at lw_m4 34 rfl) rfl
theorem q885 : (Jvm.Cond.soleField "TandemKeepsAPlace" "steps") ∈ lw_all := lw_g (lw_at lw_m4 35 rfl) rfl
theorem q886 : (Jvm.Cond.lays "TandemKeepsAPlace" "TandemKeepsAPlace" "miles" "I") ∈ lw_all := lw_g (lw_at lw_m4 36 rfl) rfl
theorem q887 : (Jvm.Cond.soleField "TandemKeepsAPlace" "miles") ∈ lw_all := lw_g (lw_at lw_m4 37 rfl) rfl
theorem q888 : (Jvm.Cond.lays "TandemKeepsAPlace" "TandemKeepsAPlace" "frontSteps" "I") ∈ lw_all := lw_g (lw_at lw_m4 38 rfl) rfl
theorem q889 : (Jvm.Cond.soleField "TandemKeepsAPlace" "frontSteps") ∈ lw_all := lw_g (lw_at lw_m4 39 rfl) rfl
theorem q890 : (Jvm.Cond.lays "TandemKeepsAPlace" "TandemKeepsAPlace" "hasBest" "Z") ∈ lw_all := lw_g (lw_at lw_m4 40 rfl) rfl
theorem q891 : (Jvm.Cond.soleField "TandemKeepsAPlace" "hasBest") ∈ lw_all := lw_g (lw_at lw_m4 41 rfl) rfl
theorem q892 : (Jvm.Cond.lays "TandemKeepsAPlace" "TandemKeepsAPlace" "bestLong" "I") ∈ lw_all := lw_g (lw_at lw_m4 42 rfl) rfl
theorem q893 : (Jvm.Cond.soleField "TandemKeepsAPlace" "bestLong") ∈ lw_all := lw_g (lw_at lw_m4 43 rfl) rfl
theorem q894 : (Jvm.Cond.lays "TandemKeepsAPlace" "TandemKeepsAPlace" "bestDigits" "I") ∈ lw_all := lw_g (lw_at lw_m4 44 rfl) rfl
theorem q895 : (Jvm.Cond.soleField "TandemKeepsAPlace" "bestDigits") ∈ lw_all := lw_g (lw_at lw_m4 45 rfl) rfl
theorem q896 : (Jvm.Cond.laysFinal "TandemKeepsAPlace" "TandemKeepsAPlace" "keptGoals" "[I") ∈ lw_all := lw_g (lw_at lw_m4 46 rfl) rfl
theorem q897 : (Jvm.Cond.soleField "TandemKeepsAPlace" "keptGoals") ∈ lw_all := lw_g (lw_at lw_m4 47 rfl) rfl
theorem q898 : (Jvm.Cond.lays "TandemKeepsAPlace" "TandemKeepsAPlace" "hasImage" "Z") ∈ lw_all := lw_g (lw_at lw_m4 48 rfl) rfl
theorem q899 : (Jvm.Cond.soleField "TandemKeepsAPlace" "hasImage") ∈ lw_all := lw_g (lw_at lw_m4 49 rfl) rfl
theorem q900 : (Jvm.Cond.laysFinal "TandemKeepsAPlace" "TandemKeepsAPlace" "imageRoads" "[[I") ∈ lw_all := lw_g (lw_at lw_m4 50 rfl) rfl
theorem q901 : (Jvm.Cond.soleField "TandemKeepsAPlace" "imageRoads") ∈ lw_all := lw_g (lw_at lw_m4 51 rfl) rfl
theorem q902 : (Jvm.Cond.laysFinal "TandemKeepsAPlace" "TandemKeepsAPlace" "imageFolk" "[[I") ∈ lw_all := lw_g (lw_at lw_m4 52 rfl) rfl
theorem q903 : (Jvm.Cond.soleField "TandemKeepsAPlace" "imageFolk") ∈ lw_all := lw_g (lw_at lw_m4 53 rfl) rfl
theorem q904 : (Jvm.Cond.laysFinal "TandemKeepsAPlace" "TandemKeepsAPlace" "imageNumbers" "[I") ∈ lw_all := lw_g (lw_at lw_m4 54 rfl) rfl
theorem q905 : (Jvm.Cond.soleField "TandemKeepsAPlace" "imageNumbers") ∈ lw_all := lw_g (lw_at lw_m4 55 rfl) rfl
theorem q906 : (Jvm.Cond.laysFinal "TandemKeepsAPlace" "TandemKeepsAPlace" "sheets" "[LTandemKeepsAPlace$Sheet;") ∈ lw_all := lw_g (lw_at lw_m4 56 rfl) rfl
theorem q907 : (Jvm.Cond.soleField "TandemKeepsAPlace" "sheets") ∈ lw_all := lw_g (lw_at lw_m4 57 rfl) rfl
theorem q908 : (Jvm.Cond.superclass "TandemKeepsAPlace" "java/lang/Object") ∈ lw_all := lw_g (lw_at lw_m4 58 rfl) rfl
theorem q910 : (Jvm.Cond.instanceMethod ({ cls := "TandemKeepsAPlace", name := "force", desc := "(I)I" } : Jvm.MethodName)) ∈ lw_all := lw_g (lw_at lw_m4 60 rfl) rfl
theorem q911 : (Jvm.Cond.selects "TandemKeepsAPlace" ({ cls := "TandemKeepsAPlace", name := "force", desc := "(I)I" } : Jvm.MethodName) ({ cls := "TandemKeepsAPlace", name := "force", desc := "(I)I" } : Jvm.MethodName)) ∈ lw_all := lw_g (lw_at lw_m4 61 rfl) rfl
theorem q912 : (Jvm.Cond.code ({ cls := "TandemKeepsAPlace", name := "force", desc := "(I)I" } : Jvm.MethodName) prog_1_method_42_code (3 : Nat) (Option.some Jvm.ClassFile.FieldType.int)) ∈ lw_all := lw_g (lw_at lw_m4 62 rfl) rfl
theorem q913 : (Jvm.Cond.methodLink "TandemKeepsAPlace" (325 : Nat) ({ cls := "TandemKeepsAPlace", name := "isText", desc := "(I)Z" } : Jvm.MethodName)) ∈ lw_all := lw_g (lw_at lw_m4 63 rfl) rfl
theorem q914 : (Jvm.Cond.privateMethod ({ cls := "TandemKeepsAPlace", name := "isText", desc := "(I)Z" } : Jvm.MethodName)) ∈ lw_tbl := lw_at lw_m4 64 rfl
theorem q915 : (Jvm.Cond.instanceMethod ({ cls := "TandemKeepsAPlace", name := "isText", desc := "(I)Z" } : Jvm.MethodName)) ∈ lw_all := lw_g (lw_at lw_m4 65 rfl) rfl
theorem q916 : (Jvm.Cond.code ({ cls := "TandemKeepsAPlace", name := "isText", desc := "(I)Z" } : Jvm.MethodName) prog_1_method_40_code (2 : Nat) (Option.some Jvm.ClassFile.FieldType.boolean)) ∈ lw_all := lw_g (lw_at lw_m4 66 rfl) rfl
theorem q918 : (Jvm.Cond.instanceMethod ({ cls := "TandemKeepsAPlace", name := "asks", desc := "(IIIII)I" } : Jvm.MethodName)) ∈ lw_all := lw_g (lw_at lw_m4 68 rfl) rfl
theorem q919 : (Jvm.Cond.selects "TandemKeepsAPlace" ({ cls := "TandemKeepsAPlace", name := "asks", desc := "(IIIII)I" } : Jvm.MethodName) ({ cls := "TandemKeepsAPlace", name := "asks", desc := "(IIIII)I" } : Jvm.MethodName)) ∈ lw_all := lw_g (lw_at lw_m4 69 rfl) rfl
theorem q920 : (Jvm.Cond.code ({ cls := "TandemKeepsAPlace", name := "asks", desc := "(IIIII)I" } : Jvm.MethodName) prog_1_method_49_code (6 : Nat) (Option.some Jvm.ClassFile.FieldType.int)) ∈ lw_all := lw_g (lw_at lw_m4 70 rfl) rfl
theorem q921 : (Jvm.Cond.methodLink "TandemKeepsAPlace" (28 : Nat) ({ cls := "TandemKeepsAPlace", name := "areTwo", desc := "(II)Z" } : Jvm.MethodName)) ∈ lw_all := lw_g (lw_at lw_m4 71 rfl) rfl
theorem q922 : (Jvm.Cond.privateMethod ({ cls := "TandemKeepsAPlace", name := "areTwo", desc := "(II)Z" } : Jvm.MethodName)) ∈ lw_tbl := lw_at lw_m4 72 rfl
theorem q923 : (Jvm.Cond.instanceMethod ({ cls := "TandemKeepsAPlace", name := "areTwo", desc := "(II)Z" } : Jvm.MethodName)) ∈ lw_all := lw_g (lw_at lw_m4 73 rfl) rfl
theorem q924 : (Jvm.Cond.code ({ cls := "TandemKeepsAPlace", name := "areTwo", desc := "(II)Z" } : Jvm.MethodName) prog_1_method_6_code (3 : Nat) (Option.some Jvm.ClassFile.FieldType.boolean)) ∈ lw_all := lw_g (lw_at lw_m4 74 rfl) rfl
theorem q925 : (Jvm.Cond.constantLong "TandemKeepsAPlace" (374 : Nat) (40 : Int64)) ∈ lw_all := lw_g (lw_at lw_m4 75 rfl) rfl
theorem q926 : (Jvm.Cond.methodLink "TandemKeepsAPlace" (379 : Nat) ({ cls := "TandemKeepsAPlace", name := "enoughBits", desc := "(II)I" } : Jvm.MethodName)) ∈ lw_all := lw_g (lw_at lw_m4 76 rfl) rfl
theorem q927 : (Jvm.Cond.privateMethod ({ cls := "TandemKeepsAPlace", name := "enoughBits", desc := "(II)I" } : Jvm.MethodName)) ∈ lw_tbl := lw_at lw_m4 77 rfl
theorem q928 : (Jvm.Cond.instanceMethod ({ cls := "TandemKeepsAPlace", name := "enoughBits", desc := "(II)I" } : Jvm.MethodName)) ∈ lw_all := lw_g (lw_at lw_m4 78 rfl) rfl
theorem q929 : (Jvm.Cond.code ({ cls := "TandemKeepsAPlace", name := "enoughBits", desc := "(II)I" } : Jvm.MethodName) prog_1_method_48_code (3 : Nat) (Option.some Jvm.ClassFile.FieldType.int)) ∈ lw_all := lw_g (lw_at lw_m4 79 rfl) rfl
theorem q930 : (Jvm.Cond.methodLink "TandemKeepsAPlace" (371 : Nat) ({ cls := "TandemKeepsAPlace", name := "hasEnough", desc := "(IIZ)Z" } : Jvm.MethodName)) ∈ lw_all := lw_g (lw_at lw_m4 80 rfl) rfl
theorem q931 : (Jvm.Cond.privateMethod ({ cls := "TandemKeepsAPlace", name := "hasEnough", desc := "(IIZ)Z" } : Jvm.MethodName)) ∈ lw_tbl := lw_at lw_m4 81 rfl
theorem q932 : (Jvm.Cond.instanceMethod ({ cls := "TandemKeepsAPlace", name := "hasEnough", desc := "(IIZ)Z" } : Jvm.MethodName)) ∈ lw_all := lw_g (lw_at lw_m4 82 rfl) rfl
theorem q933 : (Jvm.Cond.code ({ cls := "TandemKeepsAPlace", name := "hasEnough", desc := "(IIZ)Z" } : Jvm.MethodName) prog_1_method_46_code (4 : Nat) (Option.some Jvm.ClassFile.FieldType.boolean)) ∈ lw_all := lw_g (lw_at lw_m4 83 rfl) rfl
theorem q934 : (Jvm.Cond.methodLink "TandemKeepsAPlace" (360 : Nat) ({ cls := "TandemKeepsAPlace$Rider", name := "hasEnough", desc := "(ZI)Z" } : Jvm.MethodName)) ∈ lw_all := lw_g (lw_at lw_m4 84 rfl) rfl
theorem q955 : (Jvm.Cond.instanceMethod ({ cls := "TandemKeepsAPlace", name := "ride", desc := "(IIII)I" } : Jvm.MethodName)) ∈ lw_all := lw_g (lw_at lw_m4 105 rfl) rfl
theorem q956 : (Jvm.Cond.selects "TandemKeepsAPlace" ({ cls := "TandemKeepsAPlace", name := "ride", desc := "(IIII)I" } : Jvm.MethodName) ({ cls := "TandemKeepsAPlace", name := "ride", desc := "(IIII)I" } : Jvm.MethodName)) ∈ lw_all := lw_g (lw_at lw_m4 106 rfl) rfl
theorem q957 : (Jvm.Cond.code ({ cls := "TandemKeepsAPlace", name := "ride", desc := "(IIII)I" } : Jvm.MethodName) prog_1_method_54_code (5 : Nat) (Option.some Jvm.ClassFile.FieldType.int)) ∈ lw_all := lw_g (lw_at lw_m4 107 rfl) rfl
theorem q958 : (Jvm.Cond.constantLong "TandemKeepsAPlace" (403 : Nat) (10 : Int64)) ∈ lw_all := lw_g (lw_at lw_m4 108 rfl) rfl
theorem q959 : (Jvm.Cond.constantLong "TandemKeepsAPlace" (405 : Nat) (50 : Int64)) ∈ lw_all := lw_g (lw_at lw_m4 109 rfl) rfl
theorem q960 : (Jvm.Cond.methodLink "TandemKeepsAPlace" (407 : Nat) ({ cls := "TandemKeepsAPlace", name := "rides", desc := "(III)V" } : Jvm.MethodName)) ∈ lw_all := lw_g (lw_at lw_m4 110 rfl) rfl
theorem q961 : (Jvm.Cond.privateMethod ({ cls := "TandemKeepsAPlace", name := "rides", desc := "(III)V" } : Jvm.MethodName)) ∈ lw_tbl := lw_at lw_m4 111 rfl
theorem q962 : (Jvm.Cond.instanceMethod ({ cls := "TandemKeepsAPlace", name := "rides", desc := "(III)V" } : Jvm.MethodName)) ∈ lw_all := lw_g (lw_at lw_m4 112 rfl) rfl
theorem q963 : (Jvm.Cond.code ({ cls := "TandemKeepsAPlace", name := "rides", desc := "(III)V" } : Jvm.MethodName) prog_1_method_51_code (8 : Nat) (Option.none : Option Jvm.ClassFile.FieldType)) ∈ lw_all := lw_g (lw_at lw_m4 113 rfl) rfl
theorem q964 : (Jvm.Cond.methodLink "TandemKeepsAPlace" (392 : Nat) ({ cls := "TandemKeepsAPlace", name := "nextOf", desc := "(II)I" } : Jvm.MethodName)) ∈ lw_all := lw_g (lw_at lw_m4 114 rfl) rfl
theorem q965 : (Jvm.Cond.privateMethod ({ cls := "TandemKeepsAPlace", name := "nextOf", desc := "(II)I" } : Jvm.MethodName)) ∈ lw_tbl := lw_at lw_m4 115 rfl
theorem q966 : (Jvm.Cond.instanceMethod ({ cls := "TandemKeepsAPlace", name := "nextOf", desc := "(II)I" } : Jvm.MethodName)) ∈ lw_all := lw_g (lw_at lw_m4 116 rfl) rfl
theorem q967 : (Jvm.Cond.code ({ cls := "TandemKeepsAPlace", name := "nextOf", desc := "(II)I" } : Jvm.MethodName) prog_1_method_50_code (6 : Nat) (Option.some Jvm.ClassFile.FieldType.int)) ∈ lw_all := lw_g (lw_at lw_m4 117 rfl) rfl
theorem q968 : (Jvm.Cond.methodLink "TandemKeepsAPlace" (410 : Nat) ({ cls := "TandemKeepsAPlace", name := "toldRide", desc := "(I)I" } : Jvm.MethodName)) ∈ lw_all := lw_g (lw_at lw_m4 118 rfl) rfl
theorem q969 : (Jvm.Cond.privateMethod ({ cls := "TandemKeepsAPlace", name := "toldRide", desc := "(I)I" } : Jvm.MethodName)) ∈ lw_tbl := lw_at lw_m4 119 rfl
theorem q970 : (Jvm.Cond.instanceMethod ({ cls := "TandemKeepsAPlace", name := "toldRide", desc := "(I)I" } : Jvm.MethodName)) ∈ lw_all := lw_g (lw_at lw_m4 120 rfl) rfl
theorem q971 : (Jvm.Cond.code ({ cls := "TandemKeepsAPlace", name := "toldRide", desc := "(I)I" } : Jvm.MethodName) prog_1_method_53_code (2 : Nat) (Option.some Jvm.ClassFile.FieldType.int)) ∈ lw_all := lw_g (lw_at lw_m4 121 rfl) rfl
theorem q972 : (Jvm.Cond.methodLink "TandemKeepsAPlace" (395 : Nat) ({ cls := "TandemKeepsAPlace", name := "placeSet", desc := "()I" } : Jvm.MethodName)) ∈ lw_all := lw_g (lw_at lw_m4 122 rfl) rfl
theorem q973 : (Jvm.Cond.privateMethod ({ cls := "TandemKeepsAPlace", name := "placeSet", desc := "()I" } : Jvm.MethodName)) ∈ lw_tbl := lw_at lw_m4 123 rfl
theorem q974 : (Jvm.Cond.instanceMethod ({ cls := "TandemKeepsAPlace", name := "placeSet", desc := "()I" } : Jvm.MethodName)) ∈ lw_all := lw_g (lw_at lw_m4 124 rfl) rfl
theorem q975 : (Jvm.Cond.code ({ cls := "TandemKeepsAPlace", name := "placeSet", desc := "()I" } : Jvm.MethodName) prog_1_method_52_code (3 : Nat) (Option.some Jvm.ClassFile.FieldType.int)) ∈ lw_all := lw_g (lw_at lw_m4 125 rfl) rfl
theorem q976 : (Jvm.Cond.methodLink "TandemKeepsAPlace" (398 : Nat) ({ cls := "java/lang/Integer", name := "bitCount", desc := "(I)I" } : Jvm.MethodName)) ∈ lw_all := lw_g (lw_at lw_m4 126 rfl) rfl
theorem q983 : (Jvm.Cond.instanceMethod ({ cls := "TandemKeepsAPlace", name := "goes", desc := "(III)I" } : Jvm.MethodName)) ∈ lw_all := lw_g (lw_at lw_m4 133 rfl) rfl
theorem q984 : (Jvm.Cond.selects "TandemKeepsAPlace" ({ cls := "TandemKeepsAPlace", name := "goes", desc := "(III)I" } : Jvm.MethodName) ({ cls := "TandemKeepsAPlace", name := "goes", desc := "(III)I" } : Jvm.MethodName)) ∈ lw_all := lw_g (lw_at lw_m4 134 rfl) rfl
theorem q985 : (Jvm.Cond.code ({ cls := "TandemKeepsAPlace", name := "goes", desc := "(III)I" } : Jvm.MethodName) prog_1_method_55_code (4 : Nat) (Option.some Jvm.ClassFile.FieldType.int)) ∈ lw_all := lw_g (lw_at lw_m4 135 rfl) rfl
theorem q986 : (Jvm.Cond.constant "TandemKeepsAPlace" (413 : Nat) (99999 : Int32)) ∈ lw_all := lw_g (lw_at lw_m4 136 rfl) rfl
theorem q988 : (Jvm.Cond.instanceMethod ({ cls := "TandemKeepsAPlace", name := "best", desc := "(III)I" } : Jvm.MethodName)) ∈ lw_all := lw_g (lw_at lw_m4 138 rfl) rfl
theorem q989 : (Jvm.Cond.selects "TandemKeepsAPlace" ({ cls := "TandemKeepsAPlace", name := "best", desc := "(III)I" } : Jvm.MethodName) ({ cls := "TandemKeepsAPlace", name := "best", desc := "(III)I" } : Jvm.MethodName)) ∈ lw_all := lw_g (lw_at lw_m4 139 rfl) rfl
theorem q990 : (Jvm.Cond.code ({ cls := "TandemKeepsAPlace", name := "best", desc := "(III)I" } : Jvm.MethodName) prog_1_method_57_code (8 : Nat) (Option.some Jvm.ClassFile.FieldType.int)) ∈ lw_all := lw_g (lw_at lw_m4 140 rfl) rfl
theorem q991 : (Jvm.Cond.methodLink "TandemKeepsAPlace" (414 : Nat) ({ cls := "TandemKeepsAPlace", name := "endsRight", desc := "(III)Z" } : Jvm.MethodName)) ∈ lw_all := lw_g (lw_at lw_m4 141 rfl) rfl
theorem q992 : (Jvm.Cond.privateMethod ({ cls := "TandemKeepsAPlace", name := "endsRight", desc := "(III)Z" } : Jvm.MethodName)) ∈ lw_tbl := lw_at lw_m4 142 rfl
theorem q993 : (Jvm.Cond.instanceMethod ({ cls := "TandemKeepsAPlace", name := "endsRight", desc := "(III)Z" } : Jvm.MethodName)) ∈ lw_all := lw_g (lw_at lw_m4 143 rfl) rfl
theorem q994 : (Jvm.Cond.code ({ cls := "TandemKeepsAPlace", name := "endsRight", desc := "(III)Z" } : Jvm.MethodName) prog_1_method_56_code (4 : Nat) (Option.some Jvm.ClassFile.FieldType.boolean)) ∈ lw_all := lw_g (lw_at lw_m4 144 rfl) rfl
theorem q996 : (Jvm.Cond.instanceMethod ({ cls := "TandemKeepsAPlace", name := "from", desc := "(II)I" } : Jvm.MethodName)) ∈ lw_all := lw_g (lw_at lw_m4 146 rfl) rfl
theorem q997 : (Jvm.Cond.selects "TandemKeepsAPlace" ({ cls := "TandemKeepsAPlace", name := "from", desc := "(II)I" } : Jvm.MethodName) ({ cls := "TandemKeepsAPlace", name := "from", desc := "(II)I" } : Jvm.MethodName)) ∈ lw_all := lw_g (lw_at lw_m4 147 rfl) rfl
theorem q998 : (Jvm.Cond.code ({ cls := "TandemKeepsAPlace", name := "from", desc := "(II)I" } : Jvm.MethodName) prog_1_method_58_code (5 : Nat) (Option.some Jvm.ClassFile.FieldType.int)) ∈ lw_all := lw_g (lw_at lw_m4 148 rfl) rfl
theorem q1000 : (Jvm.Cond.instanceMethod ({ cls := "TandemKeepsAPlace", name := "together", desc := "(II)I" } : Jvm.MethodName)) ∈ lw_all := lw_g (lw_at lw_m4 150 rfl) rfl
theorem q1001 : (Jvm.Cond.selects "TandemKeepsAPlace" ({ cls := "TandemKeepsAPlace", name := "together", desc := "(II)I" } : Jvm.MethodName) ({ cls := "TandemKeepsAPlace", name := "together", desc := "(II)I" } : Jvm.MethodName)) ∈ lw_all := lw_g (lw_at lw_m4 151 rfl) rfl
theorem q1002 : (Jvm.Cond.code ({ cls := "TandemKeepsAPlace", name := "together", desc := "(II)I" } : Jvm.MethodName) prog_1_method_61_code (3 : Nat) (Option.some Jvm.ClassFile.FieldType.int)) ∈ lw_all := lw_g (lw_at lw_m4 152 rfl) rfl
theorem q1003 : (Jvm.Cond.methodLink "TandemKeepsAPlace" (436 : Nat) ({ cls := "TandemKeepsAPlace", name := "puts", desc := "(IZIII)V" } : Jvm.MethodName)) ∈ lw_all := lw_g (lw_at lw_m4 153 rfl) rfl
theorem q1004 : (Jvm.Cond.privateMethod ({ cls := "TandemKeepsAPlace", name := "puts", desc := "(IZIII)V" } : Jvm.MethodName)) ∈ lw_tbl := lw_at lw_m4 154 rfl
theorem q1005 : (Jvm.Cond.instanceMethod ({ cls := "TandemKeepsAPlace", name := "puts", desc := "(IZIII)V" } : Jvm.MethodName)) ∈ lw_all := lw_g (lw_at lw_m4 155 rfl) rfl
theorem q1006 : (Jvm.Cond.code ({ cls := "TandemKeepsAPlace", name := "puts", desc := "(IZIII)V" } : Jvm.MethodName) prog_1_method_60_code (8 : Nat) (Option.none : Option Jvm.ClassFile.FieldType)) ∈ lw_all := lw_g (lw_at lw_m4 156 rfl) rfl
theorem q1007 : (Jvm.Cond.methodLink "TandemKeepsAPlace" (427 : Nat) ({ cls := "TandemKeepsAPlace", name := "looks", desc := "(II)V" } : Jvm.MethodName)) ∈ lw_all := lw_g (lw_at lw_m4 157 rfl) rfl
theorem q1008 : (Jvm.Cond.privateMethod ({ cls := "TandemKeepsAPlace", name := "looks", desc := "(II)V" } : Jvm.MethodName)) ∈ lw_tbl := lw_at lw_m4 158 rfl
theorem q1009 : (Jvm.Cond.instanceMethod ({ cls := "TandemKeepsAPlace", name := "looks", desc := "(II)V" } : Jvm.MethodName)) ∈ lw_all := lw_g (lw_at lw_m4 159 rfl) rfl
theorem q1010 : (Jvm.Cond.code ({ cls := "TandemKeepsAPlace", name := "looks", desc := "(II)V" } : Jvm.MethodName) prog_1_method_59_code (3 : Nat) (Option.none : Option Jvm.ClassFile.FieldType)) ∈ lw_all := lw_g (lw_at lw_m4 160 rfl) rfl
theorem q1011 : (Jvm.Cond.methodLink "TandemKeepsAPlace" (430 : Nat) ({ cls := "java/lang/Integer", name := "numberOfTrailingZeros", desc := "(I)I" } : Jvm.MethodName)) ∈ lw_all := lw_g (lw_at lw_m4 161 rfl) rfl
theorem q1015 : (Jvm.Cond.methodLink "TandemKeepsAPlace" (433 : Nat) ({ cls := "TandemKeepsAPlace", name := "isIn", desc := "(II)Z" } : Jvm.MethodName)) ∈ lw_all := lw_g (lw_at lw_m4 165 rfl) rfl
theorem q1016 : (Jvm.Cond.static ({ cls := "TandemKeepsAPlace", name := "isIn", desc := "(II)Z" } : Jvm.MethodName)) ∈ lw_all := lw_g (lw_at lw_m4 166 rfl) rfl
theorem q1017 : (Jvm.Cond.code ({ cls := "TandemKeepsAPlace", name := "isIn", desc := "(II)Z" } : Jvm.MethodName) prog_1_method_3_code (2 : Nat) (Option.some Jvm.ClassFile.FieldType.boolean)) ∈ lw_all := lw_g (lw_at lw_m4 167 rfl) rfl
theorem q1019 : (Jvm.Cond.instanceMethod ({ cls := "TandemKeepsAPlace", name := "shut", desc := "(IIII)I" } : Jvm.MethodName)) ∈ lw_all := lw_g (lw_at lw_m4 169 rfl) rfl
theorem q1020 : (Jvm.Cond.selects "TandemKeepsAPlace" ({ cls := "TandemKeepsAPlace", name := "shut", desc := "(IIII)I" } : Jvm.MethodName) ({ cls := "TandemKeepsAPlace", name := "shut", desc := "(IIII)I" } : Jvm.MethodName)) ∈ lw_all := lw_g (lw_at lw_m4 170 rfl) rfl
theorem q1021 : (Jvm.Cond.code ({ cls := "TandemKeepsAPlace", name := "shut", desc := "(IIII)I" } : Jvm.MethodName) prog_1_method_64_code (10 : Nat) (Option.some Jvm.ClassFile.FieldType.int)) ∈ lw_all := lw_g (lw_at lw_m4 171 rfl) rfl
theorem q1022 : (Jvm.Cond.methodLink "TandemKeepsAPlace" (440 : Nat) ({ cls := "TandemKeepsAPlace", name := "longWithout", desc := "(IIIII)I" } : Jvm.MethodName)) ∈ lw_all := lw_g (lw_at lw_m4 172 rfl) rfl
theorem q1023 : (Jvm.Cond.privateMethod ({ cls := "TandemKeepsAPlace", name := "longWithout", desc := "(IIIII)I" } : Jvm.MethodName)) ∈ lw_tbl := lw_at lw_m4 173 rfl
theorem q1024 : (Jvm.Cond.instanceMethod ({ cls := "TandemKeepsAPlace", name := "longWithout", desc := "(IIIII)I" } : Jvm.MethodName)) ∈ lw_all := lw_g (lw_at lw_m4 174 rfl) rfl
theorem q1025 : (Jvm.Cond.codeWith ({ cls := "TandemKeepsAPlace", name := "longWithout", desc := "(IIIII)I" } : Jvm.MethodName) prog_1_method_63_code (9 : Nat) (Option.some Jvm.ClassFile.FieldType.int) [((12 : Nat), (34 : Nat), (47 : Nat), (0 : Nat)), ((47 : Nat), (49 : Nat), (47 : Nat), (0 : Nat))]) ∈ lw_all := lw_g (lw_at lw_m4 175 rfl) rfl
theorem q1027 : (Jvm.Cond.instanceMethod ({ cls := "TandemKeepsAPlace", name := "tells", desc := "(IIII)I" } : Jvm.MethodName)) ∈ lw_all := lw_g (lw_at lw_m4 177 rfl) rfl
theorem q1028 : (Jvm.Cond.selects "TandemKeepsAPlace" ({ cls := "TandemKeepsAPlace", name := "tells", desc := "(IIII)I" } : Jvm.MethodName) ({ cls := "TandemKeepsAPlace", name := "tells", desc := "(IIII)I" } : Jvm.MethodName)) ∈ lw_all := lw_g (lw_at lw_m4 178 rfl) rfl
theorem q1029 : (Jvm.Cond.code ({ cls := "TandemKeepsAPlace", name := "tells", desc := "(IIII)I" } : Jvm.MethodName) prog_1_method_72_code (6 : Nat) (Option.some Jvm.ClassFile.FieldType.int)) ∈ lw_all := lw_g (lw_at lw_m4 179 rfl) rfl
theorem q1030 : (Jvm.Cond.methodLink "TandemKeepsAPlace" (472 : Nat) ({ cls := "TandemKeepsAPlace", name := "isSheet", desc := "(I)Z" } : Jvm.MethodName)) ∈ lw_all := lw_g (lw_at lw_m4 180 rfl) rfl
theorem q1031 : (Jvm.Cond.static ({ cls := "TandemKeepsAPlace", name := "isSheet", desc := "(I)Z" } : Jvm.MethodName)) ∈ lw_all := lw_g (lw_at lw_m4 181 rfl) rfl
theorem q1032 : (Jvm.Cond.code ({ cls := "TandemKeepsAPlace", name := "isSheet", desc := "(I)Z" } : Jvm.MethodName) prog_1_method_84_code (1 : Nat) (Option.some Jvm.ClassFile.FieldType.boolean)) ∈ lw_all := lw_g (lw_at lw_m4 182 rfl) rfl
theorem q1033 : (Jvm.Cond.constantLong "TandemKeepsAPlace" (532 : Nat) (3 : Int64)) ∈ lw_all := lw_g (lw_at lw_m4 183 rfl) rfl
theorem q1034 : (Jvm.Cond.methodLink "TandemKeepsAPlace" (475 : Nat) ({ cls := "TandemKeepsAPlace", name := "areTwo", desc := "(I)Z" } : Jvm.MethodName)) ∈ lw_all := lw_g (lw_at lw_m4 184 rfl) rfl
theorem q1035 : (Jvm.Cond.privateMethod ({ cls := "TandemKeepsAPlace", name := "areTwo", desc := "(I)Z" } : Jvm.MethodName)) ∈ lw_tbl := lw_at lw_m4 185 rfl
theorem q1036 : (Jvm.Cond.instanceMethod ({ cls := "TandemKeepsAPlace", name := "areTwo", desc := "(I)Z" } : Jvm.MethodName)) ∈ lw_all := lw_g (lw_at lw_m4 186 rfl) rfl
theorem q1037 : (Jvm.Cond.code ({ cls := "TandemKeepsAPlace", name := "areTwo", desc := "(I)Z" } : Jvm.MethodName) prog_1_method_7_code (2 : Nat) (Option.some Jvm.ClassFile.FieldType.boolean)) ∈ lw_all := lw_g (lw_at lw_m4 187 rfl) rfl
theorem q1038 : (Jvm.Cond.constantLong "TandemKeepsAPlace" (26 : Nat) (55 : Int64)) ∈ lw_all := lw_g (lw_at lw_m4 188 rfl) rfl
theorem q1039 : (Jvm.Cond.constantLong "TandemKeepsAPlace" (477 : Nat) (6 : Int64)) ∈ lw_all := lw_g (lw_at lw_m4 189 rfl) rfl
theorem q1040 : (Jvm.Cond.methodLink "TandemKeepsAPlace" (444 : Nat) ({ cls := "TandemKeepsAPlace", name := "sortOf", desc := "(Ljava/lang/Object;)I" } : Jvm.MethodName)) ∈ lw_all := lw_g (lw_at lw_m4 190 rfl) rfl
theorem q1041 : (Jvm.Cond.static ({ cls := "TandemKeepsAPlace", name := "sortOf", desc := "(Ljava/lang/Object;)I" } : Jvm.MethodName)) ∈ lw_all := lw_g (lw_at lw_m4 191 rfl) rfl
theorem q1042 : (Jvm.Cond.code ({ cls := "TandemKeepsAPlace", name := "sortOf", desc := "(Ljava/lang/Object;)I" } : Jvm.MethodName) prog_1_method_92_code (1 : Nat) (Option.some Jvm.ClassFile.FieldType.int)) ∈ lw_all := lw_g (lw_at lw_m4 192 rfl) rfl
theorem q1043 : (Jvm.Cond.classLink "TandemKeepsAPlace" (544 : Nat) "[B") ∈ lw_all := lw_g (lw_at lw_m4 193 rfl) rfl
theorem q1044 : (Jvm.Cond.classLink "TandemKeepsAPlace" (548 : Nat) "[S") ∈ lw_all := lw_g (lw_at lw_m4 194 rfl) rfl
theorem q1045 : (Jvm.Cond.methodLink "TandemKeepsAPlace" (448 : Nat) ({ cls := "TandemKeepsAPlace", name := "lengthOf", desc := "(Ljava/lang/Object;I)I" } : Jvm.MethodName)) ∈ lw_all := lw_g (lw_at lw_m4 195 rfl) rfl
theorem q1046 : (Jvm.Cond.static ({ cls := "TandemKeepsAPlace", name := "lengthOf", desc := "(Ljava/lang/Object;I)I" } : Jvm.MethodName)) ∈ lw_all := lw_g (lw_at lw_m4 196 rfl) rfl
theorem q1047 : (Jvm.Cond.code ({ cls := "TandemKeepsAPlace", name := "lengthOf", desc := "(Ljava/lang/Object;I)I" } : Jvm.MethodName) prog_1_method_90_code (2 : Nat) (Option.some Jvm.ClassFile.FieldType.int)) ∈ lw_all := lw_g (lw_at lw_m4 197 rfl) rfl
theorem q1048 : (Jvm.Cond.classLink "TandemKeepsAPlace" (550 : Nat) "[I") ∈ lw_all := lw_g (lw_at lw_m4 198 rfl) rfl
theorem q1049 : (Jvm.Cond.methodLink "TandemKeepsAPlace" (456 : Nat) ({ cls := "TandemKeepsAPlace", name := "otherwise", desc := "(Ljava/lang/Object;III)I" } : Jvm.MethodName)) ∈ lw_all := lw_g (lw_at lw_m4 199 rfl) rfl
theorem q1050 : (Jvm.Cond.privateMethod ({ cls := "TandemKeepsAPlace", name := "otherwise", desc := "(Ljava/lang/Object;III)I" } : Jvm.MethodName)) ∈ lw_tbl := lw_at lw_m4 200 rfl
theorem q1051 : (Jvm.Cond.instanceMethod ({ cls := "TandemKeepsAPlace", name := "otherwise", desc := "(Ljava/lang/Object;III)I" } : Jvm.MethodName)) ∈ lw_all := lw_g (lw_at lw_m4 201 rfl) rfl
theorem q1052 : (Jvm.Cond.code ({ cls := "TandemKeepsAPlace", name := "otherwise", desc := "(Ljava/lang/Object;III)I" } : Jvm.MethodName) prog_1_method_65_code (6 : Nat) (Option.some Jvm.ClassFile.FieldType.int)) ∈ lw_all := lw_g (lw_at lw_m4 202 rfl) rfl
theorem q1053 : (Jvm.Cond.methodLink "TandemKeepsAPlace" (452 : Nat) ({ cls := "TandemKeepsAPlace", name := "item", desc := "(Ljava/lang/Object;II)I" } : Jvm.MethodName)) ∈ lw_all := lw_g (lw_at lw_m4 203 rfl) rfl
theorem q1054 : (Jvm.Cond.static ({ cls := "TandemKeepsAPlace", name := "item", desc := "(Ljava/lang/Object;II)I" } : Jvm.MethodName)) ∈ lw_all := lw_g (lw_at lw_m4 204 rfl) rfl
theorem q1055 : (Jvm.Cond.code ({ cls := "TandemKeepsAPlace", name := "item", desc := "(Ljava/lang/Object;II)I" } : Jvm.MethodName) prog_1_method_89_code (3 : Nat) (Option.some Jvm.ClassFile.FieldType.int)) ∈ lw_all := lw_g (lw_at lw_m4 205 rfl) rfl
theorem q1056 : (Jvm.Cond.methodLink "TandemKeepsAPlace" (545 : Nat) ({ cls := "TandemKeepsAPlace", name := "asksPlace", desc := "(II)V" } : Jvm.MethodName)) ∈ lw_all := lw_g (lw_at lw_m4 206 rfl) rfl
theorem q1057 : (Jvm.Cond.static ({ cls := "TandemKeepsAPlace", name := "asksPlace", desc := "(II)V" } : Jvm.MethodName)) ∈ lw_all := lw_g (lw_at lw_m4 207 rfl) rfl
theorem q1058 : (Jvm.Cond.code ({ cls := "TandemKeepsAPlace", name := "asksPlace", desc := "(II)V" } : Jvm.MethodName) prog_1_method_91_code (2 : Nat) (Option.none : Option Jvm.ClassFile.FieldType)) ∈ lw_all := lw_g (lw_at lw_m4 208 rfl) rfl
theorem q1059 : (Jvm.Cond.classLink "TandemKeepsAPlace" (556 : Nat) "java/lang/IndexOutOfBoundsException") ∈ lw_all := lw_g (lw_at lw_m4 209 rfl) rfl
theorem q1068 : (Jvm.Cond.methodLink "TandemKeepsAPlace" (558 : Nat) ({ cls := "java/lang/IndexOutOfBoundsException", name := "<init>", desc := "()V" } : Jvm.MethodName)) ∈ lw_all := lw_g (lw_at lw_m4 218 rfl) rfl
theorem q1080 : (Jvm.Cond.methodLink "TandemKeepsAPlace" (483 : Nat) ({ cls := "TandemKeepsAPlace", name := "peopleOf", desc := "(Ljava/lang/Object;II)I" } : Jvm.MethodName)) ∈ lw_all := lw_g (lw_at lw_m4 230 rfl) rfl
theorem q1081 : (Jvm.Cond.privateMethod ({ cls := "TandemKeepsAPlace", name := "peopleOf", desc := "(Ljava/lang/Object;II)I" } : Jvm.MethodName)) ∈ lw_tbl := lw_at lw_m4 231 rfl
theorem q1082 : (Jvm.Cond.instanceMethod ({ cls := "TandemKeepsAPlace", name := "peopleOf", desc := "(Ljava/lang/Object;II)I" } : Jvm.MethodName)) ∈ lw_all := lw_g (lw_at lw_m4 232 rfl) rfl
theorem q1083 : (Jvm.Cond.code ({ cls := "TandemKeepsAPlace", name := "peopleOf", desc := "(Ljava/lang/Object;II)I" } : Jvm.MethodName) prog_1_method_66_code (6 : Nat) (Option.some Jvm.ClassFile.FieldType.int)) ∈ lw_all := lw_g (lw_at lw_m4 233 rfl) rfl
theorem q1084 : (Jvm.Cond.methodLink "TandemKeepsAPlace" (486 : Nat) ({ cls := "TandemKeepsAPlace", name := "kindsOf", desc := "(Ljava/lang/Object;II)I" } : Jvm.MethodName)) ∈ lw_all := lw_g (lw_at lw_m4 234 rfl) rfl
theorem q1085 : (Jvm.Cond.privateMethod ({ cls := "TandemKeepsAPlace", name := "kindsOf", desc := "(Ljava/lang/Object;II)I" } : Jvm.MethodName)) ∈ lw_tbl := lw_at lw_m4 235 rfl
theorem q1086 : (Jvm.Cond.instanceMethod ({ cls := "TandemKeepsAPlace", name := "kindsOf", desc := "(Ljava/lang/Object;II)I" } : Jvm.MethodName)) ∈ lw_all := lw_g (lw_at lw_m4 236 rfl) rfl
theorem q1087 : (Jvm.Cond.code ({ cls := "TandemKeepsAPlace", name := "kindsOf", desc := "(Ljava/lang/Object;II)I" } : Jvm.MethodName) prog_1_method_68_code (6 : Nat) (Option.some Jvm.ClassFile.FieldType.int)) ∈ lw_all := lw_g (lw_at lw_m4 237 rfl) rfl
theorem q1088 : (Jvm.Cond.methodLink "TandemKeepsAPlace" (464 : Nat) ({ cls := "TandemKeepsAPlace", name := "isSoAs", desc := "(Ljava/lang/Object;III)Z" } : Jvm.MethodName)) ∈ lw_all := lw_g (lw_at lw_m4 238 rfl) rfl
theorem q1089 : (Jvm.Cond.privateMethod ({ cls := "TandemKeepsAPlace", name := "isSoAs", desc := "(Ljava/lang/Object;III)Z" } : Jvm.MethodName)) ∈ lw_tbl := lw_at lw_m4 239 rfl
theorem q1090 : (Jvm.Cond.instanceMethod ({ cls := "TandemKeepsAPlace", name := "isSoAs", desc := "(Ljava/lang/Object;III)Z" } : Jvm.MethodName)) ∈ lw_all := lw_g (lw_at lw_m5 0 rfl) rfl
theorem q1091 : (Jvm.Cond.codeWith ({ cls := "TandemKeepsAPlace", name := "isSoAs", desc := "(Ljava/lang/Object;III)Z" } : Jvm.MethodName) prog_1_method_67_code (8 : Nat) (Option.some Jvm.ClassFile.FieldType.boolean) [((11 : Nat), (65 : Nat), (79 : Nat), (0 : Nat)), ((79 : Nat), (81 : Nat), (79 : Nat), (0 : Nat))]) ∈ lw_all := lw_g (lw_at lw_m5 1 rfl) rfl
theorem q1092 : (Jvm.Cond.methodLink "TandemKeepsAPlace" (460 : Nat) ({ cls := "TandemKeepsAPlace$Rider", name := "like", desc := "(LTandemKeepsAPlace$Rider;)LTandemKeepsAPlace$Rider;" } : Jvm.MethodName)) ∈ lw_all := lw_g (lw_at lw_m5 2 rfl) rfl
theorem q1102 : (Jvm.Cond.methodLink "TandemKeepsAPlace" (489 : Nat) ({ cls := "TandemKeepsAPlace", name := "setBy", desc := "(Ljava/lang/Object;IIII)I" } : Jvm.MethodName)) ∈ lw_all := lw_g (lw_at lw_m5 12 rfl) rfl
theorem q1103 : (Jvm.Cond.privateMethod ({ cls := "TandemKeepsAPlace", name := "setBy", desc := "(Ljava/lang/Object;IIII)I" } : Jvm.MethodName)) ∈ lw_tbl := lw_at lw_m5 13 rfl
theorem q1104 : (Jvm.Cond.instanceMethod ({ cls := "TandemKeepsAPlace", name := "setBy", desc := "(Ljava/lang/Object;IIII)I" } : Jvm.MethodName)) ∈ lw_all := lw_g (lw_at lw_m5 14 rfl) rfl
theorem q1105 : (Jvm.Cond.code ({ cls := "TandemKeepsAPlace", name := "setBy", desc := "(Ljava/lang/Object;IIII)I" } : Jvm.MethodName) prog_1_method_70_code (8 : Nat) (Option.some Jvm.ClassFile.FieldType.int)) ∈ lw_all := lw_g (lw_at lw_m5 15 rfl) rfl
theorem q1106 : (Jvm.Cond.methodLink "TandemKeepsAPlace" (468 : Nat) ({ cls := "TandemKeepsAPlace", name := "isSoBy", desc := "(Ljava/lang/Object;IIII)Z" } : Jvm.MethodName)) ∈ lw_all := lw_g (lw_at lw_m5 16 rfl) rfl
theorem q1107 : (Jvm.Cond.privateMethod ({ cls := "TandemKeepsAPlace", name := "isSoBy", desc := "(Ljava/lang/Object;IIII)Z" } : Jvm.MethodName)) ∈ lw_tbl := lw_at lw_m5 17 rfl
theorem q1108 : (Jvm.Cond.instanceMethod ({ cls := "TandemKeepsAPlace", name := "isSoBy", desc := "(Ljava/lang/Object;IIII)Z" } : Jvm.MethodName)) ∈ lw_all := lw_g (lw_at lw_m5 18 rfl) rfl
theorem q1109 : (Jvm.Cond.codeWith ({ cls := "TandemKeepsAPlace", name := "isSoBy", desc := "(Ljava/lang/Object;IIII)Z" } : Jvm.MethodName) prog_1_method_69_code (9 : Nat) (Option.some Jvm.ClassFile.FieldType.boolean) [((12 : Nat), (49 : Nat), (64 : Nat), (0 : Nat)), ((64 : Nat), (66 : Nat), (64 : Nat), (0 : Nat))]) ∈ lw_all := lw_g (lw_at lw_m5 19 rfl) rfl
theorem q1110 : (Jvm.Cond.methodLink "TandemKeepsAPlace" (493 : Nat) ({ cls := "TandemKeepsAPlace", name := "textsOf", desc := "(Ljava/lang/Object;II)I" } : Jvm.MethodName)) ∈ lw_all := lw_g (lw_at lw_m5 20 rfl) rfl
theorem q1111 : (Jvm.Cond.privateMethod ({ cls := "TandemKeepsAPlace", name := "textsOf", desc := "(Ljava/lang/Object;II)I" } : Jvm.MethodName)) ∈ lw_tbl := lw_at lw_m5 21 rfl
theorem q1112 : (Jvm.Cond.instanceMethod ({ cls := "TandemKeepsAPlace", name := "textsOf", desc := "(Ljava/lang/Object;II)I" } : Jvm.MethodName)) ∈ lw_all := lw_g (lw_at lw_m5 22 rfl) rfl
theorem q1113 : (Jvm.Cond.codeWith ({ cls := "TandemKeepsAPlace", name := "textsOf", desc := "(Ljava/lang/Object;II)I" } : Jvm.MethodName) prog_1_method_71_code (8 : Nat) (Option.some Jvm.ClassFile.FieldType.int) [((9 : Nat), (64 : Nat), (73 : Nat), (0 : Nat)), ((73 : Nat), (75 : Nat), (73 : Nat), (0 : Nat))]) ∈ lw_all := lw_g (lw_at lw_m5 23 rfl) rfl
theorem q1115 : (Jvm.Cond.instanceMethod ({ cls := "TandemKeepsAPlace", name := "film", desc := "(IIII)I" } : Jvm.MethodName)) ∈ lw_all := lw_g (lw_at lw_m5 25 rfl) rfl
theorem q1116 : (Jvm.Cond.selects "TandemKeepsAPlace" ({ cls := "TandemKeepsAPlace", name := "film", desc := "(IIII)I" } : Jvm.MethodName) ({ cls := "TandemKeepsAPlace", name := "film", desc := "(IIII)I" } : Jvm.MethodName)) ∈ lw_all := lw_g (lw_at lw_m5 26 rfl) rfl
theorem q1117 : (Jvm.Cond.code ({ cls := "TandemKeepsAPlace", name := "film", desc := "(IIII)I" } : Jvm.MethodName) prog_1_method_73_code (6 : Nat) (Option.some Jvm.ClassFile.FieldType.int)) ∈ lw_all := lw_g (lw_at lw_m5 27 rfl) rfl
theorem q1118 : (Jvm.Cond.constantLong "TandemKeepsAPlace" (496 : Nat) (20 : Int64)) ∈ lw_all := lw_g (lw_at lw_m5 28 rfl) rfl
theorem q1119 : (Jvm.Cond.methodLink "TandemKeepsAPlace" (498 : Nat) ({ cls := "TandemKeepsAPlace", name := "sheet", desc := "(III)I" } : Jvm.MethodName)) ∈ lw_all := lw_g (lw_at lw_m5 29 rfl) rfl
theorem q1120 : (Jvm.Cond.instanceMethod ({ cls := "TandemKeepsAPlace", name := "sheet", desc := "(III)I" } : Jvm.MethodName)) ∈ lw_all := lw_g (lw_at lw_m5 30 rfl) rfl
theorem q1121 : (Jvm.Cond.selects "TandemKeepsAPlace" ({ cls := "TandemKeepsAPlace", name := "sheet", desc := "(III)I" } : Jvm.MethodName) ({ cls := "TandemKeepsAPlace", name := "sheet", desc := "(III)I" } : Jvm.MethodName)) ∈ lw_all := lw_g (lw_at lw_m5 31 rfl) rfl
theorem q1122 : (Jvm.Cond.codeWith ({ cls := "TandemKeepsAPlace", name := "sheet", desc := "(III)I" } : Jvm.MethodName) prog_1_method_86_code (5 : Nat) (Option.some Jvm.ClassFile.FieldType.int) [((52 : Nat), (67 : Nat), (68 : Nat), (542 : Nat))]) ∈ lw_all := lw_g (lw_at lw_m5 32 rfl) rfl
theorem q1123 : (Jvm.Cond.classLink "TandemKeepsAPlace" (542 : Nat) "java/lang/NegativeArraySizeException") ∈ lw_all := lw_g (lw_at lw_m5 33 rfl) rfl
theorem q1150 : (Jvm.Cond.constantLong "TandemKeepsAPlace" (534 : Nat) (-1 : Int64)) ∈ lw_all := lw_g (lw_at lw_m5 60 rfl) rfl
theorem q1151 : (Jvm.Cond.constantLong "TandemKeepsAPlace" (536 : Nat) (2 : Int64)) ∈ lw_all := lw_g (lw_at lw_m5 61 rfl) rfl
theorem q1152 : (Jvm.Cond.methodLink "TandemKeepsAPlace" (538 : Nat) ({ cls := "TandemKeepsAPlace", name := "rowOf", desc := "(II)Ljava/lang/Object;" } : Jvm.MethodName)) ∈ lw_all := lw_g (lw_at lw_m5 62 rfl) rfl
theorem q1153 : (Jvm.Cond.static ({ cls := "TandemKeepsAPlace", name := "rowOf", desc := "(II)Ljava/lang/Object;" } : Jvm.MethodName)) ∈ lw_all := lw_g (lw_at lw_m5 63 rfl) rfl
theorem q1154 : (Jvm.Cond.code ({ cls := "TandemKeepsAPlace", name := "rowOf", desc := "(II)Ljava/lang/Object;" } : Jvm.MethodName) prog_1_method_85_code (2 : Nat) (Option.some (Jvm.ClassFile.FieldType.object "java/lang/Object"))) ∈ lw_all := lw_g (lw_at lw_m5 64 rfl) rfl
theorem q1155 : (Jvm.Cond.methodLink "TandemKeepsAPlace" (502 : Nat) ({ cls := "TandemKeepsAPlace", name := "cell", desc := "(III)I" } : Jvm.MethodName)) ∈ lw_all := lw_g (lw_at lw_m5 65 rfl) rfl
theorem q1156 : (Jvm.Cond.instanceMethod ({ cls := "TandemKeepsAPlace", name := "cell", desc := "(III)I" } : Jvm.MethodName)) ∈ lw_all := lw_g (lw_at lw_m5 66 rfl) rfl
theorem q1157 : (Jvm.Cond.selects "TandemKeepsAPlace" ({ cls := "TandemKeepsAPlace", name := "cell", desc := "(III)I" } : Jvm.MethodName) ({ cls := "TandemKeepsAPlace", name := "cell", desc := "(III)I" } : Jvm.MethodName)) ∈ lw_all := lw_g (lw_at lw_m5 67 rfl) rfl
theorem q1158 : (Jvm.Cond.codeWith ({ cls := "TandemKeepsAPlace", name := "cell", desc := "(III)I" } : Jvm.MethodName) prog_1_method_88_code (5 : Nat) (Option.some Jvm.ClassFile.FieldType.int) [((10 : Nat), (24 : Nat), (25 : Nat), (554 : Nat)), ((10 : Nat), (24 : Nat), (30 : Nat), (556 : Nat))]) ∈ lw_all := lw_g (lw_at lw_m5 68 rfl) rfl
theorem q1159 : (Jvm.Cond.classLink "TandemKeepsAPlace" (554 : Nat) "java/lang/NullPointerException") ∈ lw_all := lw_g (lw_at lw_m5 69 rfl) rfl
theorem q1196 : (Jvm.Cond.methodLink "TandemKeepsAPlace" (551 : Nat) ({ cls := "TandemKeepsAPlace", name := "put", desc := "(Ljava/lang/Object;II)I" } : Jvm.MethodName)) ∈ lw_all := lw_g (lw_at lw_m5 106 rfl) rfl
theorem q1197 : (Jvm.Cond.static ({ cls := "TandemKeepsAPlace", name := "put", desc := "(Ljava/lang/Object;II)I" } : Jvm.MethodName)) ∈ lw_all := lw_g (lw_at lw_m5 107 rfl) rfl
theorem q1198 : (Jvm.Cond.code ({ cls := "TandemKeepsAPlace", name := "put", desc := "(Ljava/lang/Object;II)I" } : Jvm.MethodName) prog_1_method_87_code (3 : Nat) (Option.some Jvm.ClassFile.FieldType.int)) ∈ lw_all := lw_g (lw_at lw_m5 108 rfl) rfl
theorem q1201 : (Jvm.Cond.instanceMethod ({ cls := "TandemKeepsAPlace", name := "drawn", desc := "(III)I" } : Jvm.MethodName)) ∈ lw_all := lw_g (lw_at lw_m5 111 rfl) rfl
theorem q1202 : (Jvm.Cond.selects "TandemKeepsAPlace" ({ cls := "TandemKeepsAPlace", name := "drawn", desc := "(III)I" } : Jvm.MethodName) ({ cls := "TandemKeepsAPlace", name := "drawn", desc := "(III)I" } : Jvm.MethodName)) ∈ lw_all := lw_g (lw_at lw_m5 112 rfl) rfl
theorem q1203 : (Jvm.Cond.codeWith ({ cls := "TandemKeepsAPlace", name := "drawn", desc := "(III)I" } : Jvm.MethodName) prog_1_method_76_code (6 : Nat) (Option.some Jvm.ClassFile.FieldType.int) [((23 : Nat), (42 : Nat), (49 : Nat), (0 : Nat)), ((49 : Nat), (51 : Nat), (49 : Nat), (0 : Nat))]) ∈ lw_all := lw_g (lw_at lw_m5 113 rfl) rfl
theorem q1204 : (Jvm.Cond.methodLink "TandemKeepsAPlace" (506 : Nat) ({ cls := "TandemKeepsAPlace", name := "drawsGoals", desc := "(I)V" } : Jvm.MethodName)) ∈ lw_all := lw_g (lw_at lw_m5 114 rfl) rfl
theorem q1205 : (Jvm.Cond.privateMethod ({ cls := "TandemKeepsAPlace", name := "drawsGoals", desc := "(I)V" } : Jvm.MethodName)) ∈ lw_tbl := lw_at lw_m5 115 rfl
theorem q1206 : (Jvm.Cond.instanceMethod ({ cls := "TandemKeepsAPlace", name := "drawsGoals", desc := "(I)V" } : Jvm.MethodName)) ∈ lw_all := lw_g (lw_at lw_m5 116 rfl) rfl
theorem q1207 : (Jvm.Cond.code ({ cls := "TandemKeepsAPlace", name := "drawsGoals", desc := "(I)V" } : Jvm.MethodName) prog_1_method_74_code (4 : Nat) (Option.none : Option Jvm.ClassFile.FieldType)) ∈ lw_all := lw_g (lw_at lw_m5 117 rfl) rfl
theorem q1208 : (Jvm.Cond.constant "TandemKeepsAPlace" (505 : Nat) (1103515245 : Int32)) ∈ lw_all := lw_g (lw_at lw_m5 118 rfl) rfl
theorem q1209 : (Jvm.Cond.methodLink "TandemKeepsAPlace" (509 : Nat) ({ cls := "TandemKeepsAPlace", name := "laysGoals", desc := "()V" } : Jvm.MethodName)) ∈ lw_all := lw_g (lw_at lw_m5 119 rfl) rfl
theorem q1210 : (Jvm.Cond.privateMethod ({ cls := "TandemKeepsAPlace", name := "laysGoals", desc := "()V" } : Jvm.MethodName)) ∈ lw_tbl := lw_at lw_m5 120 rfl
theorem q1211 : (Jvm.Cond.instanceMethod ({ cls := "TandemKeepsAPlace", name := "laysGoals", desc := "()V" } : Jvm.MethodName)) ∈ lw_all := lw_g (lw_at lw_m5 121 rfl) rfl
theorem q1212 : (Jvm.Cond.code ({ cls := "TandemKeepsAPlace", name := "laysGoals", desc := "()V" } : Jvm.MethodName) prog_1_method_75_code (2 : Nat) (Option.none : Option Jvm.ClassFile.FieldType)) ∈ lw_all := lw_g (lw_at lw_m5 122 rfl) rfl
theorem q1214 : (Jvm.Cond.instanceMethod ({ cls := "TandemKeepsAPlace", name := "chance", desc := "(IIII)J" } : Jvm.MethodName)) ∈ lw_all := lw_g (lw_at lw_m5 124 rfl) rfl
theorem q1215 : (Jvm.Cond.selects "TandemKeepsAPlace" ({ cls := "TandemKeepsAPlace", name := "chance", desc := "(IIII)J" } : Jvm.MethodName) ({ cls := "TandemKeepsAPlace", name := "chance", desc := "(IIII)J" } : Jvm.MethodName)) ∈ lw_all := lw_g (lw_at lw_m5 125 rfl) rfl
theorem q1216 : (Jvm.Cond.code ({ cls := "TandemKeepsAPlace", name := "chance", desc := "(IIII)J" } : Jvm.MethodName) prog_1_method_78_code (13 : Nat) (Option.some Jvm.ClassFile.FieldType.long)) ∈ lw_all := lw_g (lw_at lw_m5 126 rfl) rfl
theorem q1217 : (Jvm.Cond.constantLong "TandemKeepsAPlace" (512 : Nat) (-4611686018427387904 : Int64)) ∈ lw_all := lw_g (lw_at lw_m5 127 rfl) rfl
theorem q1218 : (Jvm.Cond.methodLink "TandemKeepsAPlace" (514 : Nat) ({ cls := "TandemKeepsAPlace", name := "isRightBy", desc := "(II)Z" } : Jvm.MethodName)) ∈ lw_all := lw_g (lw_at lw_m5 128 rfl) rfl
theorem q1219 : (Jvm.Cond.privateMethod ({ cls := "TandemKeepsAPlace", name := "isRightBy", desc := "(II)Z" } : Jvm.MethodName)) ∈ lw_tbl := lw_at lw_m5 129 rfl
theorem q1220 : (Jvm.Cond.instanceMethod ({ cls := "TandemKeepsAPlace", name := "isRightBy", desc := "(II)Z" } : Jvm.MethodName)) ∈ lw_all := lw_g (lw_at lw_m5 130 rfl) rfl
theorem q1221 : (Jvm.Cond.codeWith ({ cls := "TandemKeepsAPlace", name := "isRightBy", desc := "(II)Z" } : Jvm.MethodName) prog_1_method_77_code (5 : Nat) (Option.some Jvm.ClassFile.FieldType.boolean) [((5 : Nat), (19 : Nat), (25 : Nat), (0 : Nat)), ((25 : Nat), (27 : Nat), (25 : Nat), (0 : Nat))]) ∈ lw_all := lw_g (lw_at lw_m5 131 rfl) rfl
theorem q1223 : (Jvm.Cond.instanceMethod ({ cls := "TandemKeepsAPlace", name := "image", desc := "()I" } : Jvm.MethodName)) ∈ lw_all := lw_g (lw_at lw_m5 133 rfl) rfl
theorem q1224 : (Jvm.Cond.selects "TandemKeepsAPlace" ({ cls := "TandemKeepsAPlace", name := "image", desc := "()I" } : Jvm.MethodName) ({ cls := "TandemKeepsAPlace", name := "image", desc := "()I" } : Jvm.MethodName)) ∈ lw_all := lw_g (lw_at lw_m5 134 rfl) rfl
theorem q1225 : (Jvm.Cond.code ({ cls := "TandemKeepsAPlace", name := "image", desc := "()I" } : Jvm.MethodName) prog_1_method_79_code (2 : Nat) (Option.some Jvm.ClassFile.FieldType.int)) ∈ lw_all := lw_g (lw_at lw_m5 135 rfl) rfl
theorem q1226 : (Jvm.Cond.methodLink "TandemKeepsAPlace" (517 : Nat) ({ cls := "java/lang/System", name := "arraycopy", desc := "(Ljava/lang/Object;ILjava/lang/Object;II)V" } : Jvm.MethodName)) ∈ lw_all := lw_g (lw_at lw_m5 136 rfl) rfl
theorem q1230 : (Jvm.Cond.instanceMethod ({ cls := "TandemKeepsAPlace", name := "back", desc := "()I" } : Jvm.MethodName)) ∈ lw_all := lw_g (lw_at lw_m5 140 rfl) rfl
theorem q1231 : (Jvm.Cond.selects "TandemKeepsAPlace" ({ cls := "TandemKeepsAPlace", name := "back", desc := "()I" } : Jvm.MethodName) ({ cls := "TandemKeepsAPlace", name := "back", desc := "()I" } : Jvm.MethodName)) ∈ lw_all := lw_g (lw_at lw_m5 141 rfl) rfl
theorem q1232 : (Jvm.Cond.code ({ cls := "TandemKeepsAPlace", name := "back", desc := "()I" } : Jvm.MethodName) prog_1_method_80_code (2 : Nat) (Option.some Jvm.ClassFile.FieldType.int)) ∈ lw_all := lw_g (lw_at lw_m5 142 rfl) rfl
theorem q1234 : (Jvm.Cond.instanceMethod ({ cls := "TandemKeepsAPlace", name := "count", desc := "(I)I" } : Jvm.MethodName)) ∈ lw_all := lw_g (lw_at lw_m5 144 rfl) rfl
theorem q1235 : (Jvm.Cond.selects "TandemKeepsAPlace" ({ cls := "TandemKeepsAPlace", name := "count", desc := "(I)I" } : Jvm.MethodName) ({ cls := "TandemKeepsAPlace", name := "count", desc := "(I)I" } : Jvm.MethodName)) ∈ lw_all := lw_g (lw_at lw_m5 145 rfl) rfl
theorem q1236 : (Jvm.Cond.code ({ cls := "TandemKeepsAPlace", name := "count", desc := "(I)I" } : Jvm.MethodName) prog_1_method_83_code (2 : Nat) (Option.some Jvm.ClassFile.FieldType.int)) ∈ lw_all := lw_g (lw_at lw_m5 146 rfl) rfl
theorem q1237 : (Jvm.Cond.methodLink "TandemKeepsAPlace" (526 : Nat) ({ cls := "TandemKeepsAPlace", name := "roadMany", desc := "()I" } : Jvm.MethodName)) ∈ lw_all := lw_g (lw_at lw_m5 147 rfl) rfl
theorem q1238 : (Jvm.Cond.privateMethod ({ cls := "TandemKeepsAPlace", name := "roadMany", desc := "()I" } : Jvm.MethodName)) ∈ lw_tbl := lw_at lw_m5 148 rfl
theorem q1239 : (Jvm.Cond.instanceMethod ({ cls := "TandemKeepsAPlace", name := "roadMany", desc := "()I" } : Jvm.MethodName)) ∈ lw_all := lw_g (lw_at lw_m5 149 rfl) rfl
theorem q1240 : (Jvm.Cond.code ({ cls := "TandemKeepsAPlace", name := "roadMany", desc := "()I" } : Jvm.MethodName) prog_1_method_81_code (4 : Nat) (Option.some Jvm.ClassFile.FieldType.int)) ∈ lw_all := lw_g (lw_at lw_m5 150 rfl) rfl
theorem q1241 : (Jvm.Cond.methodLink "TandemKeepsAPlace" (529 : Nat) ({ cls := "TandemKeepsAPlace", name := "riddenAll", desc := "()I" } : Jvm.MethodName)) ∈ lw_all := lw_g (lw_at lw_m5 151 rfl) rfl
theorem q1242 : (Jvm.Cond.privateMethod ({ cls := "TandemKeepsAPlace", name := "riddenAll", desc := "()I" } : Jvm.MethodName)) ∈ lw_tbl := lw_at lw_m5 152 rfl
theorem q1243 : (Jvm.Cond.instanceMethod ({ cls := "TandemKeepsAPlace", name := "riddenAll", desc := "()I" } : Jvm.MethodName)) ∈ lw_all := lw_g (lw_at lw_m5 153 rfl) rfl
theorem q1244 : (Jvm.Cond.code ({ cls := "TandemKeepsAPlace", name := "riddenAll", desc := "()I" } : Jvm.MethodName) prog_1_method_82_code (3 : Nat) (Option.some Jvm.ClassFile.FieldType.int)) ∈ lw_all := lw_g (lw_at lw_m5 154 rfl) rfl
theorem q1248 : (Jvm.Cond.instanceMethod ({ cls := "TandemKeepsAPlace", name := "copy", desc := "(IIIII)I" } : Jvm.MethodName)) ∈ lw_all := lw_g (lw_at lw_m5 158 rfl) rfl
theorem q1249 : (Jvm.Cond.selects "TandemKeepsAPlace" ({ cls := "TandemKeepsAPlace", name := "copy", desc := "(IIIII)I" } : Jvm.MethodName) ({ cls := "TandemKeepsAPlace", name := "copy", desc := "(IIIII)I" } : Jvm.MethodName)) ∈ lw_all := lw_g (lw_at lw_m5 159 rfl) rfl
theorem q1250 : (Jvm.Cond.code ({ cls := "TandemKeepsAPlace", name := "copy", desc := "(IIIII)I" } : Jvm.MethodName) prog_1_method_93_code (10 : Nat) (Option.some Jvm.ClassFile.FieldType.int)) ∈ lw_all := lw_g (lw_at lw_m5 160 rfl) rfl
theorem q1252 : (Jvm.Cond.instanceMethod ({ cls := "TandemKeepsAPlace", name := "people", desc := "(IIII)I" } : Jvm.MethodName)) ∈ lw_all := lw_g (lw_at lw_m5 162 rfl) rfl
theorem q1253 : (Jvm.Cond.selects "TandemKeepsAPlace" ({ cls := "TandemKeepsAPlace", name := "people", desc := "(IIII)I" } : Jvm.MethodName) ({ cls := "TandemKeepsAPlace", name := "people", desc := "(IIII)I" } : Jvm.MethodName)) ∈ lw_all := lw_g (lw_at lw_m5 163 rfl) rfl
theorem q1254 : (Jvm.Cond.codeWith ({ cls := "TandemKeepsAPlace", name := "people", desc := "(IIII)I" } : Jvm.MethodName) prog_1_method_95_code (6 : Nat) (Option.some Jvm.ClassFile.FieldType.int) [((35 : Nat), (52 : Nat), (53 : Nat), (565 : Nat)), ((35 : Nat), (52 : Nat), (58 : Nat), (554 : Nat)), ((35 : Nat), (52 : Nat), (63 : Nat), (556 : Nat))]) ∈ lw_all := lw_g (lw_at lw_m5 164 rfl) rfl
theorem q1255 : (Jvm.Cond.classLink "TandemKeepsAPlace" (565 : Nat) "java/lang/ClassCastException") ∈ lw_all := lw_g (lw_at lw_m5 165 rfl) rfl
theorem q1269 : (Jvm.Cond.methodLink "TandemKeepsAPlace" (562 : Nat) ({ cls := "TandemKeepsAPlace", name := "came", desc := "(Ljava/lang/Object;III)I" } : Jvm.MethodName)) ∈ lw_all := lw_g (lw_at lw_m5 179 rfl) rfl
theorem q1270 : (Jvm.Cond.privateMethod ({ cls := "TandemKeepsAPlace", name := "came", desc := "(Ljava/lang/Object;III)I" } : Jvm.MethodName)) ∈ lw_tbl := lw_at lw_m5 180 rfl
theorem q1271 : (Jvm.Cond.instanceMethod ({ cls := "TandemKeepsAPlace", name := "came", desc := "(Ljava/lang/Object;III)I" } : Jvm.MethodName)) ∈ lw_all := lw_g (lw_at lw_m5 181 rfl) rfl
theorem q1272 : (Jvm.Cond.code ({ cls := "TandemKeepsAPlace", name := "came", desc := "(Ljava/lang/Object;III)I" } : Jvm.MethodName) prog_1_method_94_code (10 : Nat) (Option.some Jvm.ClassFile.FieldType.int)) ∈ lw_all := lw_g (lw_at lw_m5 182 rfl) rfl
theorem q1273 : (Jvm.Cond.methodLink "TandemKeepsAPlace" (559 : Nat) ({ cls := "TandemKeepsAPlace", name := "person", desc := "(III)I" } : Jvm.MethodName)) ∈ lw_all := lw_g (lw_at lw_m5 183 rfl) rfl
theorem q1275 : (Jvm.Cond.instanceMethod ({ cls := "TandemKeepsAPlace", name := "taken", desc := "(II)I" } : Jvm.MethodName)) ∈ lw_all := lw_g (lw_at lw_m5 185 rfl) rfl
theorem q1276 : (Jvm.Cond.selects "TandemKeepsAPlace" ({ cls := "TandemKeepsAPlace", name := "taken", desc := "(II)I" } : Jvm.MethodName) ({ cls := "TandemKeepsAPlace", name := "taken", desc := "(II)I" } : Jvm.MethodName)) ∈ lw_all := lw_g (lw_at lw_m5 186 rfl) rfl
theorem q1277 : (Jvm.Cond.codeWith ({ cls := "TandemKeepsAPlace", name := "taken", desc := "(II)I" } : Jvm.MethodName) prog_1_method_97_code (4 : Nat) (Option.some Jvm.ClassFile.FieldType.int) [((15 : Nat), (40 : Nat), (41 : Nat), (554 : Nat)), ((15 : Nat), (40 : Nat), (45 : Nat), (565 : Nat))]) ∈ lw_all := lw_g (lw_at lw_m5 187 rfl) rfl
theorem q1278 : (Jvm.Cond.methodLink "TandemKeepsAPlace" (567 : Nat) ({ cls := "TandemKeepsAPlace", name := "as", desc := "(LTandemKeepsAPlace$Rider;I)LTandemKeepsAPlace$Rider;" } : Jvm.MethodName)) ∈ lw_all := lw_g (lw_at lw_m5 188 rfl) rfl
theorem q1279 : (Jvm.Cond.static ({ cls := "TandemKeepsAPlace", name := "as", desc := "(LTandemKeepsAPlace$Rider;I)LTandemKeepsAPlace$Rider;" } : Jvm.MethodName)) ∈ lw_all := lw_g (lw_at lw_m5 189 rfl) rfl
theorem q1280 : (Jvm.Cond.code ({ cls := "TandemKeepsAPlace", name := "as", desc := "(LTandemKeepsAPlace$Rider;I)LTandemKeepsAPlace$Rider;" } : Jvm.MethodName) prog_1_method_96_code (2 : Nat) (Option.some (Jvm.ClassFile.FieldType.object "TandemKeepsAPlace$Rider"))) ∈ lw_all := lw_g (lw_at lw_m5 190 rfl) rfl
theorem in_X0 : ∀ w ∈ wsX00, w ∈ lw_all := lw_in wsX00 [834, 836, 838, 840, 842, 844, 846, 848, 850, 852, 854, 856, 858, 860, 862, 864, 866, 868, 870, 872, 874, 876, 878, 880, 882, 884, 886, 888, 890, 892, 894, 896, 898, 900, 902, 904, 906] (by decide +kernel) (by decide +kernel)
