/-! java/lang/Throwable -/
set_option maxRecDepth 100000
def RJ0 : String := "java/lang/Throwable"
def TJ0 : u_T := fun k => match k with
  | 0 => ("java/lang/Throwable", "cause", "Ljava/lang/Throwable;", false)
  | 1 => ("java/lang/Throwable", "stackTrace", "[Ljava/lang/StackTraceElement;", false)
  | 2 => ("java/lang/Throwable", "suppressedExceptions", "Ljava/util/List;", false)
  | 3 => ("java/lang/Throwable", "detailMessage", "Ljava/lang/String;", false)
  | _ => ("java/lang/Throwable", "backtrace", "Ljava/lang/Object;", false)
def tyJ0 : Nat → FieldType := fun k => match k with
  | 0 => .object "java/lang/Throwable"
  | 1 => .array (.object "java/lang/StackTraceElement")
  | 2 => .object "java/util/List"
  | 3 => .object "java/lang/String"
  | _ => .object "java/lang/Object"
abbrev wsJ00 : List Cond := u_ws RJ0 TJ0 5
theorem nmJ0 : ∀ a, a < 5 → ∀ b, b < 5 → a ≠ b → (TJ0 a).2.1 ≠ (TJ0 b).2.1 := by decide +kernel
theorem tyJ0_ok : ∀ k, k < 5 → parseFieldDescriptor (TJ0 k).2.2.1 = some (tyJ0 k) := by decide +kernel
abbrev cJ0_init : ByteArray := prog_31_method_1_code
def yJ0_init : MethodName := ⟨RJ0, "<init>", "()V"⟩
def dkwJ0_init_1 : List UInt8 := [182, 0, 27, 87, 177]
abbrev dktJ0_init_1 : List UInt8 := dkwJ0_init_1 ++ []
def dkwJ0_init_0 : List UInt8 := [42, 183, 0, 1, 42, 42, 181, 0, 7, 42, 178, 0, 13, 181, 0, 17, 42, 178, 0, 20, 181, 0, 24, 42]
abbrev dktJ0_init_0 : List UInt8 := dkwJ0_init_0 ++ dktJ0_init_1
theorem dksJ0_init_0 : cJ0_init.data.toList.drop 0 = dktJ0_init_0 := by decide +kernel
theorem dksJ0_init_1 : cJ0_init.data.toList.drop 24 = dktJ0_init_1 := dk_seg dksJ0_init_0 24 rfl rfl
theorem dJ0_init_0 : decode cJ0_init 0 = .ok (.aload_n 0, 1) := dk_42 (dk_at dksJ0_init_0 0 rfl rfl)
theorem dJ0_init_1 : decode cJ0_init 1 = .ok (.invokespecial 1, 3) := dk_183 0 1 (dk_at dksJ0_init_0 1 rfl rfl)
theorem dJ0_init_4 : decode cJ0_init 4 = .ok (.aload_n 0, 1) := dk_42 (dk_at dksJ0_init_0 4 rfl rfl)
theorem dJ0_init_5 : decode cJ0_init 5 = .ok (.aload_n 0, 1) := dk_42 (dk_at dksJ0_init_0 5 rfl rfl)
theorem dJ0_init_6 : decode cJ0_init 6 = .ok (.putfield 7, 3) := dk_181 0 7 (dk_at dksJ0_init_0 6 rfl rfl)
theorem dJ0_init_9 : decode cJ0_init 9 = .ok (.aload_n 0, 1) := dk_42 (dk_at dksJ0_init_0 9 rfl rfl)
theorem dJ0_init_10 : decode cJ0_init 10 = .ok (.getstatic 13, 3) := dk_178 0 13 (dk_at dksJ0_init_0 10 rfl rfl)
theorem dJ0_init_13 : decode cJ0_init 13 = .ok (.putfield 17, 3) := dk_181 0 17 (dk_at dksJ0_init_0 13 rfl rfl)
theorem dJ0_init_16 : decode cJ0_init 16 = .ok (.aload_n 0, 1) := dk_42 (dk_at dksJ0_init_0 16 rfl rfl)
theorem dJ0_init_17 : decode cJ0_init 17 = .ok (.getstatic 20, 3) := dk_178 0 20 (dk_at dksJ0_init_0 17 rfl rfl)
theorem dJ0_init_20 : decode cJ0_init 20 = .ok (.putfield 24, 3) := dk_181 0 24 (dk_at dksJ0_init_0 20 rfl rfl)
theorem dJ0_init_23 : decode cJ0_init 23 = .ok (.aload_n 0, 1) := dk_42 (dk_at dksJ0_init_0 23 rfl rfl)
theorem dJ0_init_24 : decode cJ0_init 24 = .ok (.invokevirtual 27, 3) := dk_182 0 27 (dk_at dksJ0_init_1 0 rfl rfl)
theorem dJ0_init_27 : decode cJ0_init 27 = .ok (.pop, 1) := dk_87 (dk_at dksJ0_init_1 3 rfl rfl)
theorem dJ0_init_28 : decode cJ0_init 28 = .ok (.return_, 1) := dk_177 (dk_at dksJ0_init_1 4 rfl rfl)
abbrev cJ0_init_2 : ByteArray := prog_31_method_5_code
def yJ0_init_2 : MethodName := ⟨RJ0, "<init>", "(Ljava/lang/String;Ljava/lang/Throwable;ZZ)V"⟩
def dkwJ0_init_2_2 : List UInt8 := [44, 181, 0, 7, 29, 154, 0, 8, 42, 1, 181, 0, 24, 177]
abbrev dktJ0_init_2_2 : List UInt8 := dkwJ0_init_2_2 ++ []
def dkwJ0_init_2_1 : List UInt8 := [21, 4, 153, 0, 11, 42, 182, 0, 27, 87, 167, 0, 8, 42, 1, 181, 0, 17, 42, 43, 181, 0, 31, 42]
abbrev dktJ0_init_2_1 : List UInt8 := dkwJ0_init_2_1 ++ dktJ0_init_2_2
def dkwJ0_init_2_0 : List UInt8 := [42, 183, 0, 1, 42, 42, 181, 0, 7, 42, 178, 0, 13, 181, 0, 17, 42, 178, 0, 20, 181, 0, 24]
abbrev dktJ0_init_2_0 : List UInt8 := dkwJ0_init_2_0 ++ dktJ0_init_2_1
theorem dksJ0_init_2_0 : cJ0_init_2.data.toList.drop 0 = dktJ0_init_2_0 := by decide +kernel
theorem dksJ0_init_2_1 : cJ0_init_2.data.toList.drop 23 = dktJ0_init_2_1 := dk_seg dksJ0_init_2_0 23 rfl rfl
theorem dksJ0_init_2_2 : cJ0_init_2.data.toList.drop 47 = dktJ0_init_2_2 := dk_seg dksJ0_init_2_1 24 rfl rfl
theorem dJ0_init_2_0 : decode cJ0_init_2 0 = .ok (.aload_n 0, 1) := dk_42 (dk_at dksJ0_init_2_0 0 rfl rfl)
theorem dJ0_init_2_1 : decode cJ0_init_2 1 = .ok (.invokespecial 1, 3) := dk_183 0 1 (dk_at dksJ0_init_2_0 1 rfl rfl)
theorem dJ0_init_2_4 : decode cJ0_init_2 4 = .ok (.aload_n 0, 1) := dk_42 (dk_at dksJ0_init_2_0 4 rfl rfl)
theorem dJ0_init_2_5 : decode cJ0_init_2 5 = .ok (.aload_n 0, 1) := dk_42 (dk_at dksJ0_init_2_0 5 rfl rfl)
theorem dJ0_init_2_6 : decode cJ0_init_2 6 = .ok (.putfield 7, 3) := dk_181 0 7 (dk_at dksJ0_init_2_0 6 rfl rfl)
theorem dJ0_init_2_9 : decode cJ0_init_2 9 = .ok (.aload_n 0, 1) := dk_42 (dk_at dksJ0_init_2_0 9 rfl rfl)
theorem dJ0_init_2_10 : decode cJ0_init_2 10 = .ok (.getstatic 13, 3) := dk_178 0 13 (dk_at dksJ0_init_2_0 10 rfl rfl)
theorem dJ0_init_2_13 : decode cJ0_init_2 13 = .ok (.putfield 17, 3) := dk_181 0 17 (dk_at dksJ0_init_2_0 13 rfl rfl)
theorem dJ0_init_2_16 : decode cJ0_init_2 16 = .ok (.aload_n 0, 1) := dk_42 (dk_at dksJ0_init_2_0 16 rfl rfl)
theorem dJ0_init_2_17 : decode cJ0_init_2 17 = .ok (.getstatic 20, 3) := dk_178 0 20 (dk_at dksJ0_init_2_0 17 rfl rfl)
theorem dJ0_init_2_20 : decode cJ0_init_2 20 = .ok (.putfield 24, 3) := dk_181 0 24 (dk_at dksJ0_init_2_0 20 rfl rfl)
theorem dJ0_init_2_23 : decode cJ0_init_2 23 = .ok (.iload 4, 2) := dk_21 4 (dk_at dksJ0_init_2_1 0 rfl rfl)
theorem dJ0_init_2_25 : decode cJ0_init_2 25 = .ok (.ifCond .eq 11, 3) := dk_153 0 11 (dk_at dksJ0_init_2_1 2 rfl rfl)
theorem dJ0_init_2_28 : decode cJ0_init_2 28 = .ok (.aload_n 0, 1) := dk_42 (dk_at dksJ0_init_2_1 5 rfl rfl)
theorem dJ0_init_2_29 : decode cJ0_init_2 29 = .ok (.invokevirtual 27, 3) := dk_182 0 27 (dk_at dksJ0_init_2_1 6 rfl rfl)
theorem dJ0_init_2_32 : decode cJ0_init_2 32 = .ok (.pop, 1) := dk_87 (dk_at dksJ0_init_2_1 9 rfl rfl)
theorem dJ0_init_2_33 : decode cJ0_init_2 33 = .ok (.goto 8, 3) := dk_167 0 8 (dk_at dksJ0_init_2_1 10 rfl rfl)
theorem dJ0_init_2_36 : decode cJ0_init_2 36 = .ok (.aload_n 0, 1) := dk_42 (dk_at dksJ0_init_2_1 13 rfl rfl)
theorem dJ0_init_2_37 : decode cJ0_init_2 37 = .ok (.aconst_null, 1) := dk_1 (dk_at dksJ0_init_2_1 14 rfl rfl)
theorem dJ0_init_2_38 : decode cJ0_init_2 38 = .ok (.putfield 17, 3) := dk_181 0 17 (dk_at dksJ0_init_2_1 15 rfl rfl)
theorem dJ0_init_2_41 : decode cJ0_init_2 41 = .ok (.aload_n 0, 1) := dk_42 (dk_at dksJ0_init_2_1 18 rfl rfl)
theorem dJ0_init_2_42 : decode cJ0_init_2 42 = .ok (.aload_n 1, 1) := dk_43 (dk_at dksJ0_init_2_1 19 rfl rfl)
theorem dJ0_init_2_43 : decode cJ0_init_2 43 = .ok (.putfield 31, 3) := dk_181 0 31 (dk_at dksJ0_init_2_1 20 rfl rfl)
theorem dJ0_init_2_46 : decode cJ0_init_2 46 = .ok (.aload_n 0, 1) := dk_42 (dk_at dksJ0_init_2_1 23 rfl rfl)
theorem dJ0_init_2_47 : decode cJ0_init_2 47 = .ok (.aload_n 2, 1) := dk_44 (dk_at dksJ0_init_2_2 0 rfl rfl)
theorem dJ0_init_2_48 : decode cJ0_init_2 48 = .ok (.putfield 7, 3) := dk_181 0 7 (dk_at dksJ0_init_2_2 1 rfl rfl)
theorem dJ0_init_2_51 : decode cJ0_init_2 51 = .ok (.iload_n 3, 1) := dk_29 (dk_at dksJ0_init_2_2 4 rfl rfl)
theorem dJ0_init_2_52 : decode cJ0_init_2 52 = .ok (.ifCond .ne 8, 3) := dk_154 0 8 (dk_at dksJ0_init_2_2 5 rfl rfl)
theorem dJ0_init_2_55 : decode cJ0_init_2 55 = .ok (.aload_n 0, 1) := dk_42 (dk_at dksJ0_init_2_2 8 rfl rfl)
theorem dJ0_init_2_56 : decode cJ0_init_2 56 = .ok (.aconst_null, 1) := dk_1 (dk_at dksJ0_init_2_2 9 rfl rfl)
theorem dJ0_init_2_57 : decode cJ0_init_2 57 = .ok (.putfield 24, 3) := dk_181 0 24 (dk_at dksJ0_init_2_2 10 rfl rfl)
theorem dJ0_init_2_60 : decode cJ0_init_2 60 = .ok (.return_, 1) := dk_177 (dk_at dksJ0_init_2_2 13 rfl rfl)
abbrev cJ0_init_3 : ByteArray := prog_31_method_2_code
def yJ0_init_3 : MethodName := ⟨RJ0, "<init>", "(Ljava/lang/String;)V"⟩
def dkwJ0_init_3_1 : List UInt8 := [182, 0, 27, 87, 42, 43, 181, 0, 31, 177]
abbrev dktJ0_init_3_1 : List UInt8 := dkwJ0_init_3_1 ++ []
def dkwJ0_init_3_0 : List UInt8 := [42, 183, 0, 1, 42, 42, 181, 0, 7, 42, 178, 0, 13, 181, 0, 17, 42, 178, 0, 20, 181, 0, 24, 42]
abbrev dktJ0_init_3_0 : List UInt8 := dkwJ0_init_3_0 ++ dktJ0_init_3_1
theorem dksJ0_init_3_0 : cJ0_init_3.data.toList.drop 0 = dktJ0_init_3_0 := by decide +kernel
theorem dksJ0_init_3_1 : cJ0_init_3.data.toList.drop 24 = dktJ0_init_3_1 := dk_seg dksJ0_init_3_0 24 rfl rfl
theorem dJ0_init_3_0 : decode cJ0_init_3 0 = .ok (.aload_n 0, 1) := dk_42 (dk_at dksJ0_init_3_0 0 rfl rfl)
theorem dJ0_init_3_1 : decode cJ0_init_3 1 = .ok (.invokespecial 1, 3) := dk_183 0 1 (dk_at dksJ0_init_3_0 1 rfl rfl)
theorem dJ0_init_3_4 : decode cJ0_init_3 4 = .ok (.aload_n 0, 1) := dk_42 (dk_at dksJ0_init_3_0 4 rfl rfl)
theorem dJ0_init_3_5 : decode cJ0_init_3 5 = .ok (.aload_n 0, 1) := dk_42 (dk_at dksJ0_init_3_0 5 rfl rfl)
theorem dJ0_init_3_6 : decode cJ0_init_3 6 = .ok (.putfield 7, 3) := dk_181 0 7 (dk_at dksJ0_init_3_0 6 rfl rfl)
theorem dJ0_init_3_9 : decode cJ0_init_3 9 = .ok (.aload_n 0, 1) := dk_42 (dk_at dksJ0_init_3_0 9 rfl rfl)
theorem dJ0_init_3_10 : decode cJ0_init_3 10 = .ok (.getstatic 13, 3) := dk_178 0 13 (dk_at dksJ0_init_3_0 10 rfl rfl)
theorem dJ0_init_3_13 : decode cJ0_init_3 13 = .ok (.putfield 17, 3) := dk_181 0 17 (dk_at dksJ0_init_3_0 13 rfl rfl)
theorem dJ0_init_3_16 : decode cJ0_init_3 16 = .ok (.aload_n 0, 1) := dk_42 (dk_at dksJ0_init_3_0 16 rfl rfl)
theorem dJ0_init_3_17 : decode cJ0_init_3 17 = .ok (.getstatic 20, 3) := dk_178 0 20 (dk_at dksJ0_init_3_0 17 rfl rfl)
theorem dJ0_init_3_20 : decode cJ0_init_3 20 = .ok (.putfield 24, 3) := dk_181 0 24 (dk_at dksJ0_init_3_0 20 rfl rfl)
theorem dJ0_init_3_23 : decode cJ0_init_3 23 = .ok (.aload_n 0, 1) := dk_42 (dk_at dksJ0_init_3_0 23 rfl rfl)
theorem dJ0_init_3_24 : decode cJ0_init_3 24 = .ok (.invokevirtual 27, 3) := dk_182 0 27 (dk_at dksJ0_init_3_1 0 rfl rfl)
theorem dJ0_init_3_27 : decode cJ0_init_3 27 = .ok (.pop, 1) := dk_87 (dk_at dksJ0_init_3_1 3 rfl rfl)
theorem dJ0_init_3_28 : decode cJ0_init_3 28 = .ok (.aload_n 0, 1) := dk_42 (dk_at dksJ0_init_3_1 4 rfl rfl)
theorem dJ0_init_3_29 : decode cJ0_init_3 29 = .ok (.aload_n 1, 1) := dk_43 (dk_at dksJ0_init_3_1 5 rfl rfl)
theorem dJ0_init_3_30 : decode cJ0_init_3 30 = .ok (.putfield 31, 3) := dk_181 0 31 (dk_at dksJ0_init_3_1 6 rfl rfl)
theorem dJ0_init_3_33 : decode cJ0_init_3 33 = .ok (.return_, 1) := dk_177 (dk_at dksJ0_init_3_1 9 rfl rfl)
theorem q132 : (Jvm.Cond.initialized "java/lang/Throwable") ∈ lw_all := lw_g (lw_at lw_m1 2 rfl) rfl
theorem q681 : (Jvm.Cond.declares ({ cls := "java/lang/Throwable", name := "<init>", desc := "()V" } : Jvm.MethodName)) ∈ lw_tbl := lw_at lw_m3 71 rfl
theorem q682 : (Jvm.Cond.declares ({ cls := "java/lang/Throwable", name := "<init>", desc := "(Ljava/lang/String;)V" } : Jvm.MethodName)) ∈ lw_tbl := lw_at lw_m3 72 rfl
theorem q686 : (Jvm.Cond.lays "java/lang/Throwable" "java/lang/Throwable" "cause" "Ljava/lang/Throwable;") ∈ lw_all := lw_g (lw_at lw_m3 76 rfl) rfl
theorem q688 : (Jvm.Cond.lays "java/lang/Throwable" "java/lang/Throwable" "stackTrace" "[Ljava/lang/StackTraceElement;") ∈ lw_all := lw_g (lw_at lw_m3 78 rfl) rfl
theorem q690 : (Jvm.Cond.lays "java/lang/Throwable" "java/lang/Throwable" "suppressedExceptions" "Ljava/util/List;") ∈ lw_all := lw_g (lw_at lw_m3 80 rfl) rfl
theorem q692 : (Jvm.Cond.lays "java/lang/Throwable" "java/lang/Throwable" "detailMessage" "Ljava/lang/String;") ∈ lw_all := lw_g (lw_at lw_m3 82 rfl) rfl
theorem q694 : (Jvm.Cond.lays "java/lang/Throwable" "java/lang/Throwable" "backtrace" "Ljava/lang/Object;") ∈ lw_all := lw_g (lw_at lw_m3 84 rfl) rfl
theorem q695 : (Jvm.Cond.fieldLink "java/lang/Throwable" (198 : Nat) "java/lang/Throwable" "backtrace" "Ljava/lang/Object;") ∈ lw_all := lw_g (lw_at lw_m3 85 rfl) rfl
theorem q696 : (Jvm.Cond.superclass "java/lang/Throwable" "java/lang/Object") ∈ lw_all := lw_g (lw_at lw_m3 86 rfl) rfl
theorem q697 : (Jvm.Cond.instanceMethod ({ cls := "java/lang/Throwable", name := "<init>", desc := "()V" } : Jvm.MethodName)) ∈ lw_all := lw_g (lw_at lw_m3 87 rfl) rfl
theorem q698 : (Jvm.Cond.code ({ cls := "java/lang/Throwable", name := "<init>", desc := "()V" } : Jvm.MethodName) prog_31_method_1_code (1 : Nat) (Option.none : Option Jvm.ClassFile.FieldType)) ∈ lw_all := lw_g (lw_at lw_m3 88 rfl) rfl
theorem q699 : (Jvm.Cond.methodLink "java/lang/Throwable" (1 : Nat) ({ cls := "java/lang/Object", name := "<init>", desc := "()V" } : Jvm.MethodName)) ∈ lw_all := lw_g (lw_at lw_m3 89 rfl) rfl
theorem q700 : (Jvm.Cond.fieldLink "java/lang/Throwable" (13 : Nat) "java/lang/Throwable" "UNASSIGNED_STACK" "[Ljava/lang/StackTraceElement;") ∈ lw_all := lw_g (lw_at lw_m3 90 rfl) rfl
theorem q701 : (Jvm.Cond.laysStatic "java/lang/Throwable" "UNASSIGNED_STACK" "[Ljava/lang/StackTraceElement;") ∈ lw_tbl := lw_at lw_m3 91 rfl
theorem q702 : (Jvm.Cond.fieldLink "java/lang/Throwable" (20 : Nat) "java/lang/Throwable" "SUPPRESSED_SENTINEL" "Ljava/util/List;") ∈ lw_all := lw_g (lw_at lw_m3 92 rfl) rfl
theorem q703 : (Jvm.Cond.laysStatic "java/lang/Throwable" "SUPPRESSED_SENTINEL" "Ljava/util/List;") ∈ lw_tbl := lw_at lw_m3 93 rfl
theorem q704 : (Jvm.Cond.methodLink "java/lang/Throwable" (27 : Nat) ({ cls := "java/lang/Throwable", name := "fillInStackTrace", desc := "()Ljava/lang/Throwable;" } : Jvm.MethodName)) ∈ lw_all := lw_g (lw_at lw_m3 94 rfl) rfl
theorem q705 : (Jvm.Cond.instanceMethod ({ cls := "java/lang/Throwable", name := "fillInStackTrace", desc := "()Ljava/lang/Throwable;" } : Jvm.MethodName)) ∈ lw_all := lw_g (lw_at lw_m3 95 rfl) rfl
theorem q706 : (Jvm.Cond.sameMethod "java/lang/Throwable" "java/lang/Throwable" "fillInStackTrace" "()Ljava/lang/Throwable;") ∈ lw_all := lw_g (lw_at lw_m3 96 rfl) rfl
theorem q721 : (Jvm.Cond.declares ({ cls := "java/lang/Throwable", name := "fillInStackTrace", desc := "()Ljava/lang/Throwable;" } : Jvm.MethodName)) ∈ lw_tbl := lw_at lw_m3 111 rfl
theorem q725 : (Jvm.Cond.codeSync ({ cls := "java/lang/Throwable", name := "fillInStackTrace", desc := "()Ljava/lang/Throwable;" } : Jvm.MethodName) prog_31_method_18_code (1 : Nat) (Option.some (Jvm.ClassFile.FieldType.object "java/lang/Throwable"))) ∈ lw_all := lw_g (lw_at lw_m3 115 rfl) rfl
theorem q726 : (Jvm.Cond.methodLink "java/lang/Throwable" (202 : Nat) ({ cls := "java/lang/Throwable", name := "fillInStackTrace", desc := "(I)Ljava/lang/Throwable;" } : Jvm.MethodName)) ∈ lw_all := lw_g (lw_at lw_m3 116 rfl) rfl
theorem q727 : (Jvm.Cond.privateMethod ({ cls := "java/lang/Throwable", name := "fillInStackTrace", desc := "(I)Ljava/lang/Throwable;" } : Jvm.MethodName)) ∈ lw_tbl := lw_at lw_m3 117 rfl
theorem q728 : (Jvm.Cond.instanceMethod ({ cls := "java/lang/Throwable", name := "fillInStackTrace", desc := "(I)Ljava/lang/Throwable;" } : Jvm.MethodName)) ∈ lw_all := lw_g (lw_at lw_m3 118 rfl) rfl
theorem q729 : (Jvm.Cond.instantiable "java/lang/Throwable" (6 : Nat)) ∈ lw_all := lw_g (lw_at lw_m3 119 rfl) rfl
theorem q730 : (Jvm.Cond.native ({ cls := "java/lang/Throwable", name := "fillInStackTrace", desc := "(I)Ljava/lang/Throwable;" } : Jvm.MethodName)) ∈ lw_all := lw_g (lw_at lw_m3 120 rfl) rfl
theorem q741 : (Jvm.Cond.instanceMethod ({ cls := "java/lang/Throwable", name := "<init>", desc := "(Ljava/lang/String;Ljava/lang/Throwable;ZZ)V" } : Jvm.MethodName)) ∈ lw_all := lw_g (lw_at lw_m3 131 rfl) rfl
theorem q742 : (Jvm.Cond.code ({ cls := "java/lang/Throwable", name := "<init>", desc := "(Ljava/lang/String;Ljava/lang/Throwable;ZZ)V" } : Jvm.MethodName) prog_31_method_5_code (5 : Nat) (Option.none : Option Jvm.ClassFile.FieldType)) ∈ lw_all := lw_g (lw_at lw_m3 132 rfl) rfl
theorem q743 : (Jvm.Cond.fieldLink "java/lang/Throwable" (198 : Nat) "java/lang/Throwable" "backtrace" "Ljava/lang/Object;") ∈ lw_all := lw_g (lw_at lw_m3 133 rfl) rfl
theorem q744 : (Jvm.Cond.fieldLink "java/lang/Throwable" (31 : Nat) "java/lang/Throwable" "detailMessage" "Ljava/lang/String;") ∈ lw_all := lw_g (lw_at lw_m3 134 rfl) rfl
theorem q745 : (Jvm.Cond.fieldLink "java/lang/Throwable" (7 : Nat) "java/lang/Throwable" "cause" "Ljava/lang/Throwable;") ∈ lw_all := lw_g (lw_at lw_m3 135 rfl) rfl
theorem q746 : (Jvm.Cond.fieldLink "java/lang/Throwable" (17 : Nat) "java/lang/Throwable" "stackTrace" "[Ljava/lang/StackTraceElement;") ∈ lw_all := lw_g (lw_at lw_m3 136 rfl) rfl
theorem q747 : (Jvm.Cond.fieldLink "java/lang/Throwable" (24 : Nat) "java/lang/Throwable" "suppressedExceptions" "Ljava/util/List;") ∈ lw_all := lw_g (lw_at lw_m3 137 rfl) rfl
theorem q748 : (Jvm.Cond.soleField "java/lang/Throwable" "backtrace") ∈ lw_all := lw_g (lw_at lw_m3 138 rfl) rfl
theorem q749 : (Jvm.Cond.soleField "java/lang/Throwable" "detailMessage") ∈ lw_all := lw_g (lw_at lw_m3 139 rfl) rfl
theorem q750 : (Jvm.Cond.soleField "java/lang/Throwable" "cause") ∈ lw_all := lw_g (lw_at lw_m3 140 rfl) rfl
theorem q751 : (Jvm.Cond.soleField "java/lang/Throwable" "stackTrace") ∈ lw_all := lw_g (lw_at lw_m3 141 rfl) rfl
theorem q753 : (Jvm.Cond.soleField "java/lang/Throwable" "depth") ∈ lw_all := lw_g (lw_at lw_m3 143 rfl) rfl
theorem q754 : (Jvm.Cond.soleField "java/lang/Throwable" "suppressedExceptions") ∈ lw_all := lw_g (lw_at lw_m3 144 rfl) rfl
theorem q1134 : (Jvm.Cond.instanceMethod ({ cls := "java/lang/Throwable", name := "<init>", desc := "(Ljava/lang/String;)V" } : Jvm.MethodName)) ∈ lw_all := lw_g (lw_at lw_m5 44 rfl) rfl
theorem q1135 : (Jvm.Cond.code ({ cls := "java/lang/Throwable", name := "<init>", desc := "(Ljava/lang/String;)V" } : Jvm.MethodName) prog_31_method_2_code (2 : Nat) (Option.none : Option Jvm.ClassFile.FieldType)) ∈ lw_all := lw_g (lw_at lw_m5 45 rfl) rfl
theorem q1879 : (Jvm.Cond.sameMethod "java/lang/Throwable" "java/lang/Throwable" "fillInStackTrace" "(I)Ljava/lang/Throwable;") ∈ lw_all := lw_g (lw_at lw_m8 69 rfl) rfl
theorem in_J0 : ∀ w ∈ wsJ00, w ∈ lw_all := lw_in wsJ00 [686, 688, 690, 692, 694] (by decide +kernel) (by decide +kernel)

/-! java/lang/Exception -/
set_option maxRecDepth 100000
def RJ1 : String := "java/lang/Exception"
abbrev cJ1_init : ByteArray := prog_20_method_5_code
def yJ1_init : MethodName := ⟨RJ1, "<init>", "(Ljava/lang/String;Ljava/lang/Throwable;ZZ)V"⟩
def dkwJ1_init_0 : List UInt8 := [42, 43, 44, 29, 21, 4, 183, 0, 16, 177]
abbrev dktJ1_init_0 : List UInt8 := dkwJ1_init_0 ++ []
theorem dksJ1_init_0 : cJ1_init.data.toList.drop 0 = dktJ1_init_0 := by decide +kernel
theorem dJ1_init_0 : decode cJ1_init 0 = .ok (.aload_n 0, 1) := dk_42 (dk_at dksJ1_init_0 0 rfl rfl)
theorem dJ1_init_1 : decode cJ1_init 1 = .ok (.aload_n 1, 1) := dk_43 (dk_at dksJ1_init_0 1 rfl rfl)
theorem dJ1_init_2 : decode cJ1_init 2 = .ok (.aload_n 2, 1) := dk_44 (dk_at dksJ1_init_0 2 rfl rfl)
theorem dJ1_init_3 : decode cJ1_init 3 = .ok (.iload_n 3, 1) := dk_29 (dk_at dksJ1_init_0 3 rfl rfl)
theorem dJ1_init_4 : decode cJ1_init 4 = .ok (.iload 4, 2) := dk_21 4 (dk_at dksJ1_init_0 4 rfl rfl)
theorem dJ1_init_6 : decode cJ1_init 6 = .ok (.invokespecial 16, 3) := dk_183 0 16 (dk_at dksJ1_init_0 6 rfl rfl)
theorem dJ1_init_9 : decode cJ1_init 9 = .ok (.return_, 1) := dk_177 (dk_at dksJ1_init_0 9 rfl rfl)
abbrev cJ1_init_2 : ByteArray := prog_20_method_1_code
def yJ1_init_2 : MethodName := ⟨RJ1, "<init>", "()V"⟩
theorem dJ1_init_2_0 : decode cJ1_init_2 0 = .ok (.aload_n 0, 1) := by decide +kernel
theorem dJ1_init_2_1 : decode cJ1_init_2 1 = .ok (.invokespecial 1, 3) := by decide +kernel
theorem dJ1_init_2_4 : decode cJ1_init_2 4 = .ok (.return_, 1) := by decide +kernel
abbrev cJ1_init_3 : ByteArray := prog_20_method_2_code
def yJ1_init_3 : MethodName := ⟨RJ1, "<init>", "(Ljava/lang/String;)V"⟩
def dkwJ1_init_3_0 : List UInt8 := [42, 43, 183, 0, 7, 177]
abbrev dktJ1_init_3_0 : List UInt8 := dkwJ1_init_3_0 ++ []
theorem dksJ1_init_3_0 : cJ1_init_3.data.toList.drop 0 = dktJ1_init_3_0 := by decide +kernel
theorem dJ1_init_3_0 : decode cJ1_init_3 0 = .ok (.aload_n 0, 1) := dk_42 (dk_at dksJ1_init_3_0 0 rfl rfl)
theorem dJ1_init_3_1 : decode cJ1_init_3 1 = .ok (.aload_n 1, 1) := dk_43 (dk_at dksJ1_init_3_0 1 rfl rfl)
theorem dJ1_init_3_2 : decode cJ1_init_3 2 = .ok (.invokespecial 7, 3) := dk_183 0 7 (dk_at dksJ1_init_3_0 2 rfl rfl)
theorem dJ1_init_3_5 : decode cJ1_init_3 5 = .ok (.return_, 1) := dk_177 (dk_at dksJ1_init_3_0 5 rfl rfl)
theorem q133 : (Jvm.Cond.initialized "java/lang/Exception") ∈ lw_all := lw_g (lw_at lw_m1 3 rfl) rfl
theorem q679 : (Jvm.Cond.declares ({ cls := "java/lang/Exception", name := "<init>", desc := "()V" } : Jvm.MethodName)) ∈ lw_tbl := lw_at lw_m3 69 rfl
theorem q680 : (Jvm.Cond.declares ({ cls := "java/lang/Exception", name := "<init>", desc := "(Ljava/lang/String;)V" } : Jvm.MethodName)) ∈ lw_tbl := lw_at lw_m3 70 rfl
theorem q724 : (Jvm.Cond.superclass "java/lang/Exception" "java/lang/Throwable") ∈ lw_all := lw_g (lw_at lw_m3 114 rfl) rfl
theorem q738 : (Jvm.Cond.instanceMethod ({ cls := "java/lang/Exception", name := "<init>", desc := "(Ljava/lang/String;Ljava/lang/Throwable;ZZ)V" } : Jvm.MethodName)) ∈ lw_all := lw_g (lw_at lw_m3 128 rfl) rfl
theorem q739 : (Jvm.Cond.code ({ cls := "java/lang/Exception", name := "<init>", desc := "(Ljava/lang/String;Ljava/lang/Throwable;ZZ)V" } : Jvm.MethodName) prog_20_method_5_code (5 : Nat) (Option.none : Option Jvm.ClassFile.FieldType)) ∈ lw_all := lw_g (lw_at lw_m3 129 rfl) rfl
theorem q740 : (Jvm.Cond.methodLink "java/lang/Exception" (16 : Nat) ({ cls := "java/lang/Throwable", name := "<init>", desc := "(Ljava/lang/String;Ljava/lang/Throwable;ZZ)V" } : Jvm.MethodName)) ∈ lw_all := lw_g (lw_at lw_m3 130 rfl) rfl
theorem q1075 : (Jvm.Cond.instanceMethod ({ cls := "java/lang/Exception", name := "<init>", desc := "()V" } : Jvm.MethodName)) ∈ lw_all := lw_g (lw_at lw_m4 225 rfl) rfl
theorem q1076 : (Jvm.Cond.code ({ cls := "java/lang/Exception", name := "<init>", desc := "()V" } : Jvm.MethodName) prog_20_method_1_code (1 : Nat) (Option.none : Option Jvm.ClassFile.FieldType)) ∈ lw_all := lw_g (lw_at lw_m4 226 rfl) rfl
theorem q1077 : (Jvm.Cond.methodLink "java/lang/Exception" (1 : Nat) ({ cls := "java/lang/Throwable", name := "<init>", desc := "()V" } : Jvm.MethodName)) ∈ lw_all := lw_g (lw_at lw_m4 227 rfl) rfl
theorem q1131 : (Jvm.Cond.instanceMethod ({ cls := "java/lang/Exception", name := "<init>", desc := "(Ljava/lang/String;)V" } : Jvm.MethodName)) ∈ lw_all := lw_g (lw_at lw_m5 41 rfl) rfl
theorem q1132 : (Jvm.Cond.code ({ cls := "java/lang/Exception", name := "<init>", desc := "(Ljava/lang/String;)V" } : Jvm.MethodName) prog_20_method_2_code (2 : Nat) (Option.none : Option Jvm.ClassFile.FieldType)) ∈ lw_all := lw_g (lw_at lw_m5 42 rfl) rfl
theorem q1133 : (Jvm.Cond.methodLink "java/lang/Exception" (7 : Nat) ({ cls := "java/lang/Throwable", name := "<init>", desc := "(Ljava/lang/String;)V" } : Jvm.MethodName)) ∈ lw_all := lw_g (lw_at lw_m5 43 rfl) rfl

/-! java/lang/IndexOutOfBoundsException -/
set_option maxRecDepth 100000
def RJ10 : String := "java/lang/IndexOutOfBoundsException"
def TJ10 : u_T := fun k => match k with
  | 0 => ("java/lang/Throwable", "cause", "Ljava/lang/Throwable;", false)
  | 1 => ("java/lang/Throwable", "stackTrace", "[Ljava/lang/StackTraceElement;", false)
  | 2 => ("java/lang/Throwable", "suppressedExceptions", "Ljava/util/List;", false)
  | 3 => ("java/lang/Throwable", "detailMessage", "Ljava/lang/String;", false)
  | 4 => ("java/lang/Throwable", "backtrace", "Ljava/lang/Object;", false)
  | _ => ("java/lang/Throwable", "depth", "I", false)
def tyJ10 : Nat → FieldType := fun k => match k with
  | 0 => .object "java/lang/Throwable"
  | 1 => .array (.object "java/lang/StackTraceElement")
  | 2 => .object "java/util/List"
  | 3 => .object "java/lang/String"
  | 4 => .object "java/lang/Object"
  | _ => .int
abbrev wsJ100 : List Cond := u_ws RJ10 TJ10 6
theorem nmJ10 : ∀ a, a < 6 → ∀ b, b < 6 → a ≠ b → (TJ10 a).2.1 ≠ (TJ10 b).2.1 := by decide +kernel
theorem tyJ10_ok : ∀ k, k < 6 → parseFieldDescriptor (TJ10 k).2.2.1 = some (tyJ10 k) := by decide +kernel
abbrev cJ10_init : ByteArray := prog_21_method_1_code
def yJ10_init : MethodName := ⟨RJ10, "<init>", "()V"⟩
theorem dJ10_init_0 : decode cJ10_init 0 = .ok (.aload_n 0, 1) := by decide +kernel
theorem dJ10_init_1 : decode cJ10_init 1 = .ok (.invokespecial 1, 3) := by decide +kernel
theorem dJ10_init_4 : decode cJ10_init 4 = .ok (.return_, 1) := by decide +kernel
abbrev cJ10_init_2 : ByteArray := prog_21_method_2_code
def yJ10_init_2 : MethodName := ⟨RJ10, "<init>", "(Ljava/lang/String;)V"⟩
def dkwJ10_init_2_0 : List UInt8 := [42, 43, 183, 0, 7, 177]
abbrev dktJ10_init_2_0 : List UInt8 := dkwJ10_init_2_0 ++ []
theorem dksJ10_init_2_0 : cJ10_init_2.data.toList.drop 0 = dktJ10_init_2_0 := by decide +kernel
theorem dJ10_init_2_0 : decode cJ10_init_2 0 = .ok (.aload_n 0, 1) := dk_42 (dk_at dksJ10_init_2_0 0 rfl rfl)
theorem dJ10_init_2_1 : decode cJ10_init_2 1 = .ok (.aload_n 1, 1) := dk_43 (dk_at dksJ10_init_2_0 1 rfl rfl)
theorem dJ10_init_2_2 : decode cJ10_init_2 2 = .ok (.invokespecial 7, 3) := dk_183 0 7 (dk_at dksJ10_init_2_0 2 rfl rfl)
theorem dJ10_init_2_5 : decode cJ10_init_2 5 = .ok (.return_, 1) := dk_177 (dk_at dksJ10_init_2_0 5 rfl rfl)
theorem q156 : (Jvm.Cond.initialized "java/lang/IndexOutOfBoundsException") ∈ lw_all := lw_g (lw_at lw_m1 26 rfl) rfl
theorem q709 : (Jvm.Cond.selects "java/lang/IndexOutOfBoundsException" ({ cls := "java/lang/Throwable", name := "fillInStackTrace", desc := "()Ljava/lang/Throwable;" } : Jvm.MethodName) ({ cls := "java/lang/Throwable", name := "fillInStackTrace", desc := "()Ljava/lang/Throwable;" } : Jvm.MethodName)) ∈ lw_all := lw_g (lw_at lw_m3 99 rfl) rfl
theorem q1060 : (Jvm.Cond.instantiable "java/lang/IndexOutOfBoundsException" (6 : Nat)) ∈ lw_all := lw_g (lw_at lw_m4 210 rfl) rfl
theorem q1061 : (Jvm.Cond.castable "java/lang/IndexOutOfBoundsException" "java/lang/IndexOutOfBoundsException") ∈ lw_tbl := lw_at lw_m4 211 rfl
theorem q1062 : (Jvm.Cond.selects "java/lang/IndexOutOfBoundsException" ({ cls := "java/lang/Throwable", name := "fillInStackTrace", desc := "(I)Ljava/lang/Throwable;" } : Jvm.MethodName) ({ cls := "java/lang/Throwable", name := "fillInStackTrace", desc := "(I)Ljava/lang/Throwable;" } : Jvm.MethodName)) ∈ lw_all := lw_g (lw_at lw_m4 212 rfl) rfl
theorem q1063 : (Jvm.Cond.lays "java/lang/IndexOutOfBoundsException" "java/lang/Throwable" "cause" "Ljava/lang/Throwable;") ∈ lw_all := lw_g (lw_at lw_m4 213 rfl) rfl
theorem q1064 : (Jvm.Cond.lays "java/lang/IndexOutOfBoundsException" "java/lang/Throwable" "stackTrace" "[Ljava/lang/StackTraceElement;") ∈ lw_all := lw_g (lw_at lw_m4 214 rfl) rfl
theorem q1065 : (Jvm.Cond.lays "java/lang/IndexOutOfBoundsException" "java/lang/Throwable" "suppressedExceptions" "Ljava/util/List;") ∈ lw_all := lw_g (lw_at lw_m4 215 rfl) rfl
theorem q1066 : (Jvm.Cond.lays "java/lang/IndexOutOfBoundsException" "java/lang/Throwable" "detailMessage" "Ljava/lang/String;") ∈ lw_all := lw_g (lw_at lw_m4 216 rfl) rfl
theorem q1067 : (Jvm.Cond.lays "java/lang/IndexOutOfBoundsException" "java/lang/Throwable" "backtrace" "Ljava/lang/Object;") ∈ lw_all := lw_g (lw_at lw_m4 217 rfl) rfl
theorem q1069 : (Jvm.Cond.instanceMethod ({ cls := "java/lang/IndexOutOfBoundsException", name := "<init>", desc := "()V" } : Jvm.MethodName)) ∈ lw_all := lw_g (lw_at lw_m4 219 rfl) rfl
theorem q1070 : (Jvm.Cond.code ({ cls := "java/lang/IndexOutOfBoundsException", name := "<init>", desc := "()V" } : Jvm.MethodName) prog_21_method_1_code (1 : Nat) (Option.none : Option Jvm.ClassFile.FieldType)) ∈ lw_all := lw_g (lw_at lw_m4 220 rfl) rfl
theorem q1071 : (Jvm.Cond.methodLink "java/lang/IndexOutOfBoundsException" (1 : Nat) ({ cls := "java/lang/RuntimeException", name := "<init>", desc := "()V" } : Jvm.MethodName)) ∈ lw_all := lw_g (lw_at lw_m4 221 rfl) rfl
theorem q1078 : (Jvm.Cond.lays "java/lang/IndexOutOfBoundsException" "java/lang/Throwable" "depth" "I") ∈ lw_all := lw_g (lw_at lw_m4 228 rfl) rfl
theorem q1079 : (Jvm.Cond.superclass "java/lang/IndexOutOfBoundsException" "java/lang/RuntimeException") ∈ lw_all := lw_g (lw_at lw_m4 229 rfl) rfl
theorem q1182 : (Jvm.Cond.instanceMethod ({ cls := "java/lang/IndexOutOfBoundsException", name := "<init>", desc := "(Ljava/lang/String;)V" } : Jvm.MethodName)) ∈ lw_all := lw_g (lw_at lw_m5 92 rfl) rfl
theorem q1183 : (Jvm.Cond.code ({ cls := "java/lang/IndexOutOfBoundsException", name := "<init>", desc := "(Ljava/lang/String;)V" } : Jvm.MethodName) prog_21_method_2_code (2 : Nat) (Option.none : Option Jvm.ClassFile.FieldType)) ∈ lw_all := lw_g (lw_at lw_m5 93 rfl) rfl
theorem q1184 : (Jvm.Cond.methodLink "java/lang/IndexOutOfBoundsException" (7 : Nat) ({ cls := "java/lang/RuntimeException", name := "<init>", desc := "(Ljava/lang/String;)V" } : Jvm.MethodName)) ∈ lw_all := lw_g (lw_at lw_m5 94 rfl) rfl
theorem q1193 : (Jvm.Cond.declares ({ cls := "java/lang/IndexOutOfBoundsException", name := "<init>", desc := "()V" } : Jvm.MethodName)) ∈ lw_tbl := lw_at lw_m5 103 rfl
theorem q1194 : (Jvm.Cond.declares ({ cls := "java/lang/IndexOutOfBoundsException", name := "<init>", desc := "(Ljava/lang/String;)V" } : Jvm.MethodName)) ∈ lw_tbl := lw_at lw_m5 104 rfl
theorem in_J10 : ∀ w ∈ wsJ100, w ∈ lw_all := lw_in wsJ100 [1063, 1064, 1065, 1066, 1067, 1078] (by decide +kernel) (by decide +kernel)

/-! java/lang/NegativeArraySizeException -/
set_option maxRecDepth 100000
def RJ11 : String := "java/lang/NegativeArraySizeException"
def TJ11 : u_T := fun k => match k with
  | 0 => ("java/lang/Throwable", "backtrace", "Ljava/lang/Object;", false)
  | 1 => ("java/lang/Throwable", "detailMessage", "Ljava/lang/String;", false)
  | 2 => ("java/lang/Throwable", "cause", "Ljava/lang/Throwable;", false)
  | 3 => ("java/lang/Throwable", "stackTrace", "[Ljava/lang/StackTraceElement;", false)
  | 4 => ("java/lang/Throwable", "depth", "I", false)
  | _ => ("java/lang/Throwable", "suppressedExceptions", "Ljava/util/List;", false)
def tyJ11 : Nat → FieldType := fun k => match k with
  | 0 => .object "java/lang/Object"
  | 1 => .object "java/lang/String"
  | 2 => .object "java/lang/Throwable"
  | 3 => .array (.object "java/lang/StackTraceElement")
  | 4 => .int
  | _ => .object "java/util/List"
abbrev wsJ110 : List Cond := u_ws RJ11 TJ11 6
theorem nmJ11 : ∀ a, a < 6 → ∀ b, b < 6 → a ≠ b → (TJ11 a).2.1 ≠ (TJ11 b).2.1 := by decide +kernel
theorem tyJ11_ok : ∀ k, k < 6 → parseFieldDescriptor (TJ11 k).2.2.1 = some (tyJ11 k) := by decide +kernel
abbrev cJ11_init : ByteArray := prog_24_method_2_code
def yJ11_init : MethodName := ⟨RJ11, "<init>", "(Ljava/lang/String;)V"⟩
def dkwJ11_init_0 : List UInt8 := [42, 43, 183, 0, 7, 177]
abbrev dktJ11_init_0 : List UInt8 := dkwJ11_init_0 ++ []
theorem dksJ11_init_0 : cJ11_init.data.toList.drop 0 = dktJ11_init_0 := by decide +kernel
theorem dJ11_init_0 : decode cJ11_init 0 = .ok (.aload_n 0, 1) := dk_42 (dk_at dksJ11_init_0 0 rfl rfl)
theorem dJ11_init_1 : decode cJ11_init 1 = .ok (.aload_n 1, 1) := dk_43 (dk_at dksJ11_init_0 1 rfl rfl)
theorem dJ11_init_2 : decode cJ11_init 2 = .ok (.invokespecial 7, 3) := dk_183 0 7 (dk_at dksJ11_init_0 2 rfl rfl)
theorem dJ11_init_5 : decode cJ11_init 5 = .ok (.return_, 1) := dk_177 (dk_at dksJ11_init_0 5 rfl rfl)
theorem q157 : (Jvm.Cond.initialized "java/lang/NegativeArraySizeException") ∈ lw_all := lw_g (lw_at lw_m1 27 rfl) rfl
theorem q710 : (Jvm.Cond.selects "java/lang/NegativeArraySizeException" ({ cls := "java/lang/Throwable", name := "fillInStackTrace", desc := "()Ljava/lang/Throwable;" } : Jvm.MethodName) ({ cls := "java/lang/Throwable", name := "fillInStackTrace", desc := "()Ljava/lang/Throwable;" } : Jvm.MethodName)) ∈ lw_all := lw_g (lw_at lw_m3 100 rfl) rfl
theorem q1124 : (Jvm.Cond.instantiable "java/lang/NegativeArraySizeException" (6 : Nat)) ∈ lw_all := lw_g (lw_at lw_m5 34 rfl) rfl
theorem q1125 : (Jvm.Cond.instanceMethod ({ cls := "java/lang/NegativeArraySizeException", name := "<init>", desc := "(Ljava/lang/String;)V" } : Jvm.MethodName)) ∈ lw_all := lw_g (lw_at lw_m5 35 rfl) rfl
theorem q1126 : (Jvm.Cond.code ({ cls := "java/lang/NegativeArraySizeException", name := "<init>", desc := "(Ljava/lang/String;)V" } : Jvm.MethodName) prog_24_method_2_code (2 : Nat) (Option.none : Option Jvm.ClassFile.FieldType)) ∈ lw_all := lw_g (lw_at lw_m5 36 rfl) rfl
theorem q1127 : (Jvm.Cond.methodLink "java/lang/NegativeArraySizeException" (7 : Nat) ({ cls := "java/lang/RuntimeException", name := "<init>", desc := "(Ljava/lang/String;)V" } : Jvm.MethodName)) ∈ lw_all := lw_g (lw_at lw_m5 37 rfl) rfl
theorem q1136 : (Jvm.Cond.lays "java/lang/NegativeArraySizeException" "java/lang/Throwable" "backtrace" "Ljava/lang/Object;") ∈ lw_all := lw_g (lw_at lw_m5 46 rfl) rfl
theorem q1137 : (Jvm.Cond.lays "java/lang/NegativeArraySizeException" "java/lang/Throwable" "detailMessage" "Ljava/lang/String;") ∈ lw_all := lw_g (lw_at lw_m5 47 rfl) rfl
theorem q1138 : (Jvm.Cond.lays "java/lang/NegativeArraySizeException" "java/lang/Throwable" "cause" "Ljava/lang/Throwable;") ∈ lw_all := lw_g (lw_at lw_m5 48 rfl) rfl
theorem q1139 : (Jvm.Cond.lays "java/lang/NegativeArraySizeException" "java/lang/Throwable" "stackTrace" "[Ljava/lang/StackTraceElement;") ∈ lw_all := lw_g (lw_at lw_m5 49 rfl) rfl
theorem q1140 : (Jvm.Cond.lays "java/lang/NegativeArraySizeException" "java/lang/Throwable" "depth" "I") ∈ lw_all := lw_g (lw_at lw_m5 50 rfl) rfl
theorem q1141 : (Jvm.Cond.lays "java/lang/NegativeArraySizeException" "java/lang/Throwable" "suppressedExceptions" "Ljava/util/List;") ∈ lw_all := lw_g (lw_at lw_m5 51 rfl) rfl
theorem q1142 : (Jvm.Cond.superclass "java/lang/NegativeArraySizeException" "java/lang/RuntimeException") ∈ lw_all := lw_g (lw_at lw_m5 52 rfl) rfl
theorem q1143 : (Jvm.Cond.castable "java/lang/NegativeArraySizeException" "java/lang/NegativeArraySizeException") ∈ lw_tbl := lw_at lw_m5 53 rfl
theorem q1144 : (Jvm.Cond.selects "java/lang/NegativeArraySizeException" ({ cls := "java/lang/Throwable", name := "fillInStackTrace", desc := "(I)Ljava/lang/Throwable;" } : Jvm.MethodName) ({ cls := "java/lang/Throwable", name := "fillInStackTrace", desc := "(I)Ljava/lang/Throwable;" } : Jvm.MethodName)) ∈ lw_all := lw_g (lw_at lw_m5 54 rfl) rfl
theorem in_J11 : ∀ w ∈ wsJ110, w ∈ lw_all := lw_in wsJ110 [1136, 1137, 1138, 1139, 1140, 1141] (by decide +kernel) (by decide +kernel)

/-! java/lang/NullPointerException -/
set_option maxRecDepth 100000
def RJ12 : String := "java/lang/NullPointerException"
def TJ12 : u_T := fun k => match k with
  | 0 => ("java/lang/Throwable", "backtrace", "Ljava/lang/Object;", false)
  | 1 => ("java/lang/Throwable", "detailMessage", "Ljava/lang/String;", false)
  | 2 => ("java/lang/Throwable", "cause", "Ljava/lang/Throwable;", false)
  | 3 => ("java/lang/Throwable", "stackTrace", "[Ljava/lang/StackTraceElement;", false)
  | 4 => ("java/lang/Throwable", "depth", "I", false)
  | 5 => ("java/lang/Throwable", "suppressedExceptions", "Ljava/util/List;", false)
  | 6 => ("java/lang/NullPointerException", "extendedMessageState", "I", false)
  | _ => ("java/lang/NullPointerException", "extendedMessage", "Ljava/lang/String;", false)
def tyJ12 : Nat → FieldType := fun k => match k with
  | 0 => .object "java/lang/Object"
  | 1 => .object "java/lang/String"
  | 2 => .object "java/lang/Throwable"
  | 3 => .array (.object "java/lang/StackTraceElement")
  | 4 => .int
  | 5 => .object "java/util/List"
  | 6 => .int
  | _ => .object "java/lang/String"
abbrev wsJ120 : List Cond := u_ws RJ12 TJ12 8
theorem nmJ12 : ∀ a, a < 8 → ∀ b, b < 8 → a ≠ b → (TJ12 a).2.1 ≠ (TJ12 b).2.1 := by decide +kernel
theorem tyJ12_ok : ∀ k, k < 8 → parseFieldDescriptor (TJ12 k).2.2.1 = some (tyJ12 k) := by decide +kernel
abbrev cJ12_init : ByteArray := prog_25_method_1_code
def yJ12_init : MethodName := ⟨RJ12, "<init>", "()V"⟩
theorem dJ12_init_0 : decode cJ12_init 0 = .ok (.aload_n 0, 1) := by decide +kernel
theorem dJ12_init_1 : decode cJ12_init 1 = .ok (.invokespecial 1, 3) := by decide +kernel
theorem dJ12_init_4 : decode cJ12_init 4 = .ok (.return_, 1) := by decide +kernel
theorem q158 : (Jvm.Cond.initialized "java/lang/NullPointerException") ∈ lw_all := lw_g (lw_at lw_m1 28 rfl) rfl
theorem q711 : (Jvm.Cond.selects "java/lang/NullPointerException" ({ cls := "java/lang/Throwable", name := "fillInStackTrace", desc := "()Ljava/lang/Throwable;" } : Jvm.MethodName) ({ cls := "java/lang/NullPointerException", name := "fillInStackTrace", desc := "()Ljava/lang/Throwable;" } : Jvm.MethodName)) ∈ lw_all := lw_g (lw_at lw_m3 101 rfl) rfl
theorem q712 : (Jvm.Cond.instanceMethod ({ cls := "java/lang/NullPointerException", name := "fillInStackTrace", desc := "()Ljava/lang/Throwable;" } : Jvm.MethodName)) ∈ lw_all := lw_g (lw_at lw_m3 102 rfl) rfl
theorem q713 : (Jvm.Cond.codeSync ({ cls := "java/lang/NullPointerException", name := "fillInStackTrace", desc := "()Ljava/lang/Throwable;" } : Jvm.MethodName) prog_25_method_3_code (1 : Nat) (Option.some (Jvm.ClassFile.FieldType.object "java/lang/Throwable"))) ∈ lw_all := lw_g (lw_at lw_m3 103 rfl) rfl
theorem q714 : (Jvm.Cond.methodLink "java/lang/NullPointerException" (16 : Nat) ({ cls := "java/lang/NullPointerException", name := "getExtendedNPEMessage", desc := "()Ljava/lang/String;" } : Jvm.MethodName)) ∈ lw_all := lw_g (lw_at lw_m3 104 rfl) rfl
theorem q715 : (Jvm.Cond.privateMethod ({ cls := "java/lang/NullPointerException", name := "getExtendedNPEMessage", desc := "()Ljava/lang/String;" } : Jvm.MethodName)) ∈ lw_tbl := lw_at lw_m3 105 rfl
theorem q716 : (Jvm.Cond.instanceMethod ({ cls := "java/lang/NullPointerException", name := "getExtendedNPEMessage", desc := "()Ljava/lang/String;" } : Jvm.MethodName)) ∈ lw_all := lw_g (lw_at lw_m3 106 rfl) rfl
theorem q717 : (Jvm.Cond.instantiable "java/lang/NullPointerException" (8 : Nat)) ∈ lw_all := lw_g (lw_at lw_m3 107 rfl) rfl
theorem q718 : (Jvm.Cond.native ({ cls := "java/lang/NullPointerException", name := "getExtendedNPEMessage", desc := "()Ljava/lang/String;" } : Jvm.MethodName)) ∈ lw_all := lw_g (lw_at lw_m3 108 rfl) rfl
theorem q719 : (Jvm.Cond.methodLink "java/lang/NullPointerException" (24 : Nat) ({ cls := "java/lang/RuntimeException", name := "fillInStackTrace", desc := "()Ljava/lang/Throwable;" } : Jvm.MethodName)) ∈ lw_all := lw_g (lw_at lw_m3 109 rfl) rfl
theorem q722 : (Jvm.Cond.superclass "java/lang/NullPointerException" "java/lang/RuntimeException") ∈ lw_all := lw_g (lw_at lw_m3 112 rfl) rfl
theorem q1160 : (Jvm.Cond.instanceMethod ({ cls := "java/lang/NullPointerException", name := "<init>", desc := "()V" } : Jvm.MethodName)) ∈ lw_all := lw_g (lw_at lw_m5 70 rfl) rfl
theorem q1161 : (Jvm.Cond.code ({ cls := "java/lang/NullPointerException", name := "<init>", desc := "()V" } : Jvm.MethodName) prog_25_method_1_code (1 : Nat) (Option.none : Option Jvm.ClassFile.FieldType)) ∈ lw_all := lw_g (lw_at lw_m5 71 rfl) rfl
theorem q1162 : (Jvm.Cond.methodLink "java/lang/NullPointerException" (1 : Nat) ({ cls := "java/lang/RuntimeException", name := "<init>", desc := "()V" } : Jvm.MethodName)) ∈ lw_all := lw_g (lw_at lw_m5 72 rfl) rfl
theorem q1163 : (Jvm.Cond.fieldLink "java/lang/NullPointerException" (10 : Nat) "java/lang/NullPointerException" "extendedMessageState" "I") ∈ lw_all := lw_g (lw_at lw_m5 73 rfl) rfl
theorem q1164 : (Jvm.Cond.fieldLink "java/lang/NullPointerException" (20 : Nat) "java/lang/NullPointerException" "extendedMessage" "Ljava/lang/String;") ∈ lw_all := lw_g (lw_at lw_m5 74 rfl) rfl
theorem q1165 : (Jvm.Cond.lays "java/lang/NullPointerException" "java/lang/NullPointerException" "extendedMessageState" "I") ∈ lw_all := lw_g (lw_at lw_m5 75 rfl) rfl
theorem q1166 : (Jvm.Cond.soleField "java/lang/NullPointerException" "extendedMessageState") ∈ lw_all := lw_g (lw_at lw_m5 76 rfl) rfl
theorem q1167 : (Jvm.Cond.lays "java/lang/NullPointerException" "java/lang/NullPointerException" "extendedMessage" "Ljava/lang/String;") ∈ lw_all := lw_g (lw_at lw_m5 77 rfl) rfl
theorem q1168 : (Jvm.Cond.soleField "java/lang/NullPointerException" "extendedMessage") ∈ lw_all := lw_g (lw_at lw_m5 78 rfl) rfl
theorem q1169 : (Jvm.Cond.lays "java/lang/NullPointerException" "java/lang/Throwable" "backtrace" "Ljava/lang/Object;") ∈ lw_all := lw_g (lw_at lw_m5 79 rfl) rfl
theorem q1170 : (Jvm.Cond.lays "java/lang/NullPointerException" "java/lang/Throwable" "detailMessage" "Ljava/lang/String;") ∈ lw_all := lw_g (lw_at lw_m5 80 rfl) rfl
theorem q1171 : (Jvm.Cond.lays "java/lang/NullPointerException" "java/lang/Throwable" "cause" "Ljava/lang/Throwable;") ∈ lw_all := lw_g (lw_at lw_m5 81 rfl) rfl
theorem q1172 : (Jvm.Cond.lays "java/lang/NullPointerException" "java/lang/Throwable" "stackTrace" "[Ljava/lang/StackTraceElement;") ∈ lw_all := lw_g (lw_at lw_m5 82 rfl) rfl
theorem q1173 : (Jvm.Cond.lays "java/lang/NullPointerException" "java/lang/Throwable" "depth" "I") ∈ lw_all := lw_g (lw_at lw_m5 83 rfl) rfl
theorem q1174 : (Jvm.Cond.lays "java/lang/NullPointerException" "java/lang/Throwable" "suppressedExceptions" "Ljava/util/List;") ∈ lw_all := lw_g (lw_at lw_m5 84 rfl) rfl
theorem q1175 : (Jvm.Cond.castable "java/lang/NullPointerException" "java/lang/NullPointerException") ∈ lw_tbl := lw_at lw_m5 85 rfl
theorem q1176 : (Jvm.Cond.selects "java/lang/NullPointerException" ({ cls := "java/lang/Throwable", name := "fillInStackTrace", desc := "(I)Ljava/lang/Throwable;" } : Jvm.MethodName) ({ cls := "java/lang/Throwable", name := "fillInStackTrace", desc := "(I)Ljava/lang/Throwable;" } : Jvm.MethodName)) ∈ lw_all := lw_g (lw_at lw_m5 86 rfl) rfl
theorem in_J12 : ∀ w ∈ wsJ120, w ∈ lw_all := lw_in wsJ120 [1169, 1170, 1171, 1172, 1173, 1174, 1165, 1167] (by decide +kernel) (by decide +kernel)

/-! java/lang/ArrayIndexOutOfBoundsException -/
set_option maxRecDepth 100000
def RJ13 : String := "java/lang/ArrayIndexOutOfBoundsException"
def TJ13 : u_T := fun k => match k with
  | 0 => ("java/lang/Throwable", "backtrace", "Ljava/lang/Object;", false)
  | 1 => ("java/lang/Throwable", "detailMessage", "Ljava/lang/String;", false)
  | 2 => ("java/lang/Throwable", "cause", "Ljava/lang/Throwable;", false)
  | 3 => ("java/lang/Throwable", "stackTrace", "[Ljava/lang/StackTraceElement;", false)
  | 4 => ("java/lang/Throwable", "depth", "I", false)
  | _ => ("java/lang/Throwable", "suppressedExceptions", "Ljava/util/List;", false)
def tyJ13 : Nat → FieldType := fun k => match k with
  | 0 => .object "java/lang/Object"
  | 1 => .object "java/lang/String"
  | 2 => .object "java/lang/Throwable"
  | 3 => .array (.object "java/lang/StackTraceElement")
  | 4 => .int
  | _ => .object "java/util/List"
abbrev wsJ130 : List Cond := u_ws RJ13 TJ13 6
theorem nmJ13 : ∀ a, a < 6 → ∀ b, b < 6 → a ≠ b → (TJ13 a).2.1 ≠ (TJ13 b).2.1 := by decide +kernel
theorem tyJ13_ok : ∀ k, k < 6 → parseFieldDescriptor (TJ13 k).2.2.1 = some (tyJ13 k) := by decide +kernel
abbrev cJ13_init : ByteArray := prog_17_method_2_code
def yJ13_init : MethodName := ⟨RJ13, "<init>", "(Ljava/lang/String;)V"⟩
def dkwJ13_init_0 : List UInt8 := [42, 43, 183, 0, 7, 177]
abbrev dktJ13_init_0 : List UInt8 := dkwJ13_init_0 ++ []
theorem dksJ13_init_0 : cJ13_init.data.toList.drop 0 = dktJ13_init_0 := by decide +kernel
theorem dJ13_init_0 : decode cJ13_init 0 = .ok (.aload_n 0, 1) := dk_42 (dk_at dksJ13_init_0 0 rfl rfl)
theorem dJ13_init_1 : decode cJ13_init 1 = .ok (.aload_n 1, 1) := dk_43 (dk_at dksJ13_init_0 1 rfl rfl)
theorem dJ13_init_2 : decode cJ13_init 2 = .ok (.invokespecial 7, 3) := dk_183 0 7 (dk_at dksJ13_init_0 2 rfl rfl)
theorem dJ13_init_5 : decode cJ13_init 5 = .ok (.return_, 1) := dk_177 (dk_at dksJ13_init_0 5 rfl rfl)
theorem q159 : (Jvm.Cond.initialized "java/lang/ArrayIndexOutOfBoundsException") ∈ lw_all := lw_g (lw_at lw_m1 29 rfl) rfl
theorem q707 : (Jvm.Cond.selects "java/lang/ArrayIndexOutOfBoundsException" ({ cls := "java/lang/Throwable", name := "fillInStackTrace", desc := "()Ljava/lang/Throwable;" } : Jvm.MethodName) ({ cls := "java/lang/Throwable", name := "fillInStackTrace", desc := "()Ljava/lang/Throwable;" } : Jvm.MethodName)) ∈ lw_all := lw_g (lw_at lw_m3 97 rfl) rfl
theorem q1178 : (Jvm.Cond.instantiable "java/lang/ArrayIndexOutOfBoundsException" (6 : Nat)) ∈ lw_all := lw_g (lw_at lw_m5 88 rfl) rfl
theorem q1179 : (Jvm.Cond.instanceMethod ({ cls := "java/lang/ArrayIndexOutOfBoundsException", name := "<init>", desc := "(Ljava/lang/String;)V" } : Jvm.MethodName)) ∈ lw_all := lw_g (lw_at lw_m5 89 rfl) rfl
theorem q1180 : (Jvm.Cond.code ({ cls := "java/lang/ArrayIndexOutOfBoundsException", name := "<init>", desc := "(Ljava/lang/String;)V" } : Jvm.MethodName) prog_17_method_2_code (2 : Nat) (Option.none : Option Jvm.ClassFile.FieldType)) ∈ lw_all := lw_g (lw_at lw_m5 90 rfl) rfl
theorem q1181 : (Jvm.Cond.methodLink "java/lang/ArrayIndexOutOfBoundsException" (7 : Nat) ({ cls := "java/lang/IndexOutOfBoundsException", name := "<init>", desc := "(Ljava/lang/String;)V" } : Jvm.MethodName)) ∈ lw_all := lw_g (lw_at lw_m5 91 rfl) rfl
theorem q1185 : (Jvm.Cond.lays "java/lang/ArrayIndexOutOfBoundsException" "java/lang/Throwable" "backtrace" "Ljava/lang/Object;") ∈ lw_all := lw_g (lw_at lw_m5 95 rfl) rfl
theorem q1186 : (Jvm.Cond.lays "java/lang/ArrayIndexOutOfBoundsException" "java/lang/Throwable" "detailMessage" "Ljava/lang/String;") ∈ lw_all := lw_g (lw_at lw_m5 96 rfl) rfl
theorem q1187 : (Jvm.Cond.lays "java/lang/ArrayIndexOutOfBoundsException" "java/lang/Throwable" "cause" "Ljava/lang/Throwable;") ∈ lw_all := lw_g (lw_at lw_m5 97 rfl) rfl
theorem q1188 : (Jvm.Cond.lays "java/lang/ArrayIndexOutOfBoundsException" "java/lang/Throwable" "stackTrace" "[Ljava/lang/StackTraceElement;") ∈ lw_all := lw_g (lw_at lw_m5 98 rfl) rfl
theorem q1189 : (Jvm.Cond.lays "java/lang/ArrayIndexOutOfBoundsException" "java/lang/Throwable" "depth" "I") ∈ lw_all := lw_g (lw_at lw_m5 99 rfl) rfl
theorem q1190 : (Jvm.Cond.lays "java/lang/ArrayIndexOutOfBoundsException" "java/lang/Throwable" "suppressedExceptions" "Ljava/util/List;") ∈ lw_all := lw_g (lw_at lw_m5 100 rfl) rfl
theorem q1191 : (Jvm.Cond.superclass "java/lang/ArrayIndexOutOfBoundsException" "java/lang/IndexOutOfBoundsException") ∈ lw_all := lw_g (lw_at lw_m5 101 rfl) rfl
theorem q1192 : (Jvm.Cond.castable "java/lang/ArrayIndexOutOfBoundsException" "java/lang/ArrayIndexOutOfBoundsException") ∈ lw_tbl := lw_at lw_m5 102 rfl
theorem q1195 : (Jvm.Cond.selects "java/lang/ArrayIndexOutOfBoundsException" ({ cls := "java/lang/Throwable", name := "fillInStackTrace", desc := "(I)Ljava/lang/Throwable;" } : Jvm.MethodName) ({ cls := "java/lang/Throwable", name := "fillInStackTrace", desc := "(I)Ljava/lang/Throwable;" } : Jvm.MethodName)) ∈ lw_all := lw_g (lw_at lw_m5 105 rfl) rfl
theorem q1880 : (Jvm.Cond.castable "java/lang/ArrayIndexOutOfBoundsException" "java/lang/IndexOutOfBoundsException") ∈ lw_tbl := lw_at lw_m8 70 rfl
theorem in_J13 : ∀ w ∈ wsJ130, w ∈ lw_all := lw_in wsJ130 [1185, 1186, 1187, 1188, 1189, 1190] (by decide +kernel) (by decide +kernel)

/-! java/lang/ClassCastException -/
set_option maxRecDepth 100000
def RJ14 : String := "java/lang/ClassCastException"
def TJ14 : u_T := fun k => match k with
  | 0 => ("java/lang/Throwable", "backtrace", "Ljava/lang/Object;", false)
  | 1 => ("java/lang/Throwable", "detailMessage", "Ljava/lang/String;", false)
  | 2 => ("java/lang/Throwable", "cause", "Ljava/lang/Throwable;", false)
  | 3 => ("java/lang/Throwable", "stackTrace", "[Ljava/lang/StackTraceElement;", false)
  | 4 => ("java/lang/Throwable", "depth", "I", false)
  | _ => ("java/lang/Throwable", "suppressedExceptions", "Ljava/util/List;", false)
def tyJ14 : Nat → FieldType := fun k => match k with
  | 0 => .object "java/lang/Object"
  | 1 => .object "java/lang/String"
  | 2 => .object "java/lang/Throwable"
  | 3 => .array (.object "java/lang/StackTraceElement")
  | 4 => .int
  | _ => .object "java/util/List"
abbrev wsJ140 : List Cond := u_ws RJ14 TJ14 6
theorem nmJ14 : ∀ a, a < 6 → ∀ b, b < 6 → a ≠ b → (TJ14 a).2.1 ≠ (TJ14 b).2.1 := by decide +kernel
theorem tyJ14_ok : ∀ k, k < 6 → parseFieldDescriptor (TJ14 k).2.2.1 = some (tyJ14 k) := by decide +kernel
abbrev cJ14_init : ByteArray := prog_19_method_2_code
def yJ14_init : MethodName := ⟨RJ14, "<init>", "(Ljava/lang/String;)V"⟩
def dkwJ14_init_0 : List UInt8 := [42, 43, 183, 0, 7, 177]
abbrev dktJ14_init_0 : List UInt8 := dkwJ14_init_0 ++ []
theorem dksJ14_init_0 : cJ14_init.data.toList.drop 0 = dktJ14_init_0 := by decide +kernel
theorem dJ14_init_0 : decode cJ14_init 0 = .ok (.aload_n 0, 1) := dk_42 (dk_at dksJ14_init_0 0 rfl rfl)
theorem dJ14_init_1 : decode cJ14_init 1 = .ok (.aload_n 1, 1) := dk_43 (dk_at dksJ14_init_0 1 rfl rfl)
theorem dJ14_init_2 : decode cJ14_init 2 = .ok (.invokespecial 7, 3) := dk_183 0 7 (dk_at dksJ14_init_0 2 rfl rfl)
theorem dJ14_init_5 : decode cJ14_init 5 = .ok (.return_, 1) := dk_177 (dk_at dksJ14_init_0 5 rfl rfl)
theorem q161 : (Jvm.Cond.initialized "java/lang/ClassCastException") ∈ lw_all := lw_g (lw_at lw_m1 31 rfl) rfl
theorem q708 : (Jvm.Cond.selects "java/lang/ClassCastException" ({ cls := "java/lang/Throwable", name := "fillInStackTrace", desc := "()Ljava/lang/Throwable;" } : Jvm.MethodName) ({ cls := "java/lang/Throwable", name := "fillInStackTrace", desc := "()Ljava/lang/Throwable;" } : Jvm.MethodName)) ∈ lw_all := lw_g (lw_at lw_m3 98 rfl) rfl
theorem q1256 : (Jvm.Cond.instantiable "java/lang/ClassCastException" (6 : Nat)) ∈ lw_all := lw_g (lw_at lw_m5 166 rfl) rfl
theorem q1257 : (Jvm.Cond.instanceMethod ({ cls := "java/lang/ClassCastException", name := "<init>", desc := "(Ljava/lang/String;)V" } : Jvm.MethodName)) ∈ lw_all := lw_g (lw_at lw_m5 167 rfl) rfl
theorem q1258 : (Jvm.Cond.code ({ cls := "java/lang/ClassCastException", name := "<init>", desc := "(Ljava/lang/String;)V" } : Jvm.MethodName) prog_19_method_2_code (2 : Nat) (Option.none : Option Jvm.ClassFile.FieldType)) ∈ lw_all := lw_g (lw_at lw_m5 168 rfl) rfl
theorem q1259 : (Jvm.Cond.methodLink "java/lang/ClassCastException" (7 : Nat) ({ cls := "java/lang/RuntimeException", name := "<init>", desc := "(Ljava/lang/String;)V" } : Jvm.MethodName)) ∈ lw_all := lw_g (lw_at lw_m5 169 rfl) rfl
theorem q1260 : (Jvm.Cond.lays "java/lang/ClassCastException" "java/lang/Throwable" "backtrace" "Ljava/lang/Object;") ∈ lw_all := lw_g (lw_at lw_m5 170 rfl) rfl
theorem q1261 : (Jvm.Cond.lays "java/lang/ClassCastException" "java/lang/Throwable" "detailMessage" "Ljava/lang/String;") ∈ lw_all := lw_g (lw_at lw_m5 171 rfl) rfl
theorem q1262 : (Jvm.Cond.lays "java/lang/ClassCastException" "java/lang/Throwable" "cause" "Ljava/lang/Throwable;") ∈ lw_all := lw_g (lw_at lw_m5 172 rfl) rfl
theorem q1263 : (Jvm.Cond.lays "java/lang/ClassCastException" "java/lang/Throwable" "stackTrace" "[Ljava/lang/StackTraceElement;") ∈ lw_all := lw_g (lw_at lw_m5 173 rfl) rfl
theorem q1264 : (Jvm.Cond.lays "java/lang/ClassCastException" "java/lang/Throwable" "depth" "I") ∈ lw_all := lw_g (lw_at lw_m5 174 rfl) rfl
theorem q1265 : (Jvm.Cond.lays "java/lang/ClassCastException" "java/lang/Throwable" "suppressedExceptions" "Ljava/util/List;") ∈ lw_all := lw_g (lw_at lw_m5 175 rfl) rfl
theorem q1266 : (Jvm.Cond.superclass "java/lang/ClassCastException" "java/lang/RuntimeException") ∈ lw_all := lw_g (lw_at lw_m5 176 rfl) rfl
theorem q1267 : (Jvm.Cond.castable "java/lang/ClassCastException" "java/lang/ClassCastException") ∈ lw_tbl := lw_at lw_m5 177 rfl
theorem q1268 : (Jvm.Cond.selects "java/lang/ClassCastException" ({ cls := "java/lang/Throwable", name := "fillInStackTrace", desc := "(I)Ljava/lang/Throwable;" } : Jvm.MethodName) ({ cls := "java/lang/Throwable", name := "fillInStackTrace", desc := "(I)Ljava/lang/Throwable;" } : Jvm.MethodName)) ∈ lw_all := lw_g (lw_at lw_m5 178 rfl) rfl
theorem in_J14 : ∀ w ∈ wsJ140, w ∈ lw_all := lw_in wsJ140 [1260, 1261, 1262, 1263, 1264, 1265] (by decide +kernel) (by decide +kernel)

/-! java/lang/Object -/
set_option maxRecDepth 100000
def RJ15 : String := "java/lang/Object"
abbrev cJ15_init : ByteArray := object_method_1_code
def yJ15_init : MethodName := ⟨RJ15, "<init>", "()V"⟩
theorem dJ15_init_0 : decode cJ15_init 0 = .ok (.return_, 1) := by decide +kernel
theorem q187 : (Jvm.Cond.instanceMethod ({ cls := "java/lang/Object", name := "<init>", desc := "()V" } : Jvm.MethodName)) ∈ lw_all := lw_g (lw_at lw_m1 57 rfl) rfl
theorem q188 : (Jvm.Cond.code ({ cls := "java/lang/Object", name := "<init>", desc := "()V" } : Jvm.MethodName) object_method_1_code (1 : Nat) (Option.none : Option Jvm.ClassFile.FieldType)) ∈ lw_all := lw_g (lw_at lw_m1 58 rfl) rfl

/-! java/lang/RuntimeException -/
set_option maxRecDepth 100000
def RJ2 : String := "java/lang/RuntimeException"
abbrev cJ2_init : ByteArray := prog_26_method_5_code
def yJ2_init : MethodName := ⟨RJ2, "<init>", "(Ljava/lang/String;Ljava/lang/Throwable;ZZ)V"⟩
def dkwJ2_init_0 : List UInt8 := [42, 43, 44, 29, 21, 4, 183, 0, 16, 177]
abbrev dktJ2_init_0 : List UInt8 := dkwJ2_init_0 ++ []
theorem dksJ2_init_0 : cJ2_init.data.toList.drop 0 = dktJ2_init_0 := by decide +kernel
theorem dJ2_init_0 : decode cJ2_init 0 = .ok (.aload_n 0, 1) := dk_42 (dk_at dksJ2_init_0 0 rfl rfl)
theorem dJ2_init_1 : decode cJ2_init 1 = .ok (.aload_n 1, 1) := dk_43 (dk_at dksJ2_init_0 1 rfl rfl)
theorem dJ2_init_2 : decode cJ2_init 2 = .ok (.aload_n 2, 1) := dk_44 (dk_at dksJ2_init_0 2 rfl rfl)
theorem dJ2_init_3 : decode cJ2_init 3 = .ok (.iload_n 3, 1) := dk_29 (dk_at dksJ2_init_0 3 rfl rfl)
theorem dJ2_init_4 : decode cJ2_init 4 = .ok (.iload 4, 2) := dk_21 4 (dk_at dksJ2_init_0 4 rfl rfl)
theorem dJ2_init_6 : decode cJ2_init 6 = .ok (.invokespecial 16, 3) := dk_183 0 16 (dk_at dksJ2_init_0 6 rfl rfl)
theorem dJ2_init_9 : decode cJ2_init 9 = .ok (.return_, 1) := dk_177 (dk_at dksJ2_init_0 9 rfl rfl)
abbrev cJ2_init_2 : ByteArray := prog_26_method_1_code
def yJ2_init_2 : MethodName := ⟨RJ2, "<init>", "()V"⟩
theorem dJ2_init_2_0 : decode cJ2_init_2 0 = .ok (.aload_n 0, 1) := by decide +kernel
theorem dJ2_init_2_1 : decode cJ2_init_2 1 = .ok (.invokespecial 1, 3) := by decide +kernel
theorem dJ2_init_2_4 : decode cJ2_init_2 4 = .ok (.return_, 1) := by decide +kernel
abbrev cJ2_init_3 : ByteArray := prog_26_method_2_code
def yJ2_init_3 : MethodName := ⟨RJ2, "<init>", "(Ljava/lang/String;)V"⟩
def dkwJ2_init_3_0 : List UInt8 := [42, 43, 183, 0, 7, 177]
abbrev dktJ2_init_3_0 : List UInt8 := dkwJ2_init_3_0 ++ []
theorem dksJ2_init_3_0 : cJ2_init_3.data.toList.drop 0 = dktJ2_init_3_0 := by decide +kernel
theorem dJ2_init_3_0 : decode cJ2_init_3 0 = .ok (.aload_n 0, 1) := dk_42 (dk_at dksJ2_init_3_0 0 rfl rfl)
theorem dJ2_init_3_1 : decode cJ2_init_3 1 = .ok (.aload_n 1, 1) := dk_43 (dk_at dksJ2_init_3_0 1 rfl rfl)
theorem dJ2_init_3_2 : decode cJ2_init_3 2 = .ok (.invokespecial 7, 3) := dk_183 0 7 (dk_at dksJ2_init_3_0 2 rfl rfl)
theorem dJ2_init_3_5 : decode cJ2_init_3 5 = .ok (.return_, 1) := dk_177 (dk_at dksJ2_init_3_0 5 rfl rfl)
theorem q134 : (Jvm.Cond.initialized "java/lang/RuntimeException") ∈ lw_all := lw_g (lw_at lw_m1 4 rfl) rfl
theorem q677 : (Jvm.Cond.declares ({ cls := "java/lang/RuntimeException", name := "<init>", desc := "()V" } : Jvm.MethodName)) ∈ lw_tbl := lw_at lw_m3 67 rfl
theorem q678 : (Jvm.Cond.declares ({ cls := "java/lang/RuntimeException", name := "<init>", desc := "(Ljava/lang/String;)V" } : Jvm.MethodName)) ∈ lw_tbl := lw_at lw_m3 68 rfl
theorem q720 : (Jvm.Cond.sameMethod "java/lang/RuntimeException" "java/lang/Throwable" "fillInStackTrace" "()Ljava/lang/Throwable;") ∈ lw_all := lw_g (lw_at lw_m3 110 rfl) rfl
theorem q723 : (Jvm.Cond.superclass "java/lang/RuntimeException" "java/lang/Exception") ∈ lw_all := lw_g (lw_at lw_m3 113 rfl) rfl
theorem q735 : (Jvm.Cond.instanceMethod ({ cls := "java/lang/RuntimeException", name := "<init>", desc := "(Ljava/lang/String;Ljava/lang/Throwable;ZZ)V" } : Jvm.MethodName)) ∈ lw_all := lw_g (lw_at lw_m3 125 rfl) rfl
theorem q736 : (Jvm.Cond.code ({ cls := "java/lang/RuntimeException", name := "<init>", desc := "(Ljava/lang/String;Ljava/lang/Throwable;ZZ)V" } : Jvm.MethodName) prog_26_method_5_code (5 : Nat) (Option.none : Option Jvm.ClassFile.FieldType)) ∈ lw_all := lw_g (lw_at lw_m3 126 rfl) rfl
theorem q737 : (Jvm.Cond.methodLink "java/lang/RuntimeException" (16 : Nat) ({ cls := "java/lang/Exception", name := "<init>", desc := "(Ljava/lang/String;Ljava/lang/Throwable;ZZ)V" } : Jvm.MethodName)) ∈ lw_all := lw_g (lw_at lw_m3 127 rfl) rfl
theorem q1072 : (Jvm.Cond.instanceMethod ({ cls := "java/lang/RuntimeException", name := "<init>", desc := "()V" } : Jvm.MethodName)) ∈ lw_all := lw_g (lw_at lw_m4 222 rfl) rfl
theorem q1073 : (Jvm.Cond.code ({ cls := "java/lang/RuntimeException", name := "<init>", desc := "()V" } : Jvm.MethodName) prog_26_method_1_code (1 : Nat) (Option.none : Option Jvm.ClassFile.FieldType)) ∈ lw_all := lw_g (lw_at lw_m4 223 rfl) rfl
theorem q1074 : (Jvm.Cond.methodLink "java/lang/RuntimeException" (1 : Nat) ({ cls := "java/lang/Exception", name := "<init>", desc := "()V" } : Jvm.MethodName)) ∈ lw_all := lw_g (lw_at lw_m4 224 rfl) rfl
theorem q1128 : (Jvm.Cond.instanceMethod ({ cls := "java/lang/RuntimeException", name := "<init>", desc := "(Ljava/lang/String;)V" } : Jvm.MethodName)) ∈ lw_all := lw_g (lw_at lw_m5 38 rfl) rfl
theorem q1129 : (Jvm.Cond.code ({ cls := "java/lang/RuntimeException", name := "<init>", desc := "(Ljava/lang/String;)V" } : Jvm.MethodName) prog_26_method_2_code (2 : Nat) (Option.none : Option Jvm.ClassFile.FieldType)) ∈ lw_all := lw_g (lw_at lw_m5 39 rfl) rfl
theorem q1130 : (Jvm.Cond.methodLink "java/lang/RuntimeException" (7 : Nat) ({ cls := "java/lang/Exception", name := "<init>", desc := "(Ljava/lang/String;)V" } : Jvm.MethodName)) ∈ lw_all := lw_g (lw_at lw_m5 40 rfl) rfl
theorem q1177 : (Jvm.Cond.castable "java/lang/RuntimeException" "java/lang/Throwable") ∈ lw_tbl := lw_at lw_m5 87 rfl

/-! java/lang/String -/
set_option maxRecDepth 100000
def RJ3 : String := "java/lang/String"
def TJ3 : u_T := fun k => match k with
  | 0 => ("java/lang/String", "value", "[B", true)
  | _ => ("java/lang/String", "coder", "B", true)
def tyJ3 : Nat → FieldType := fun k => match k with
  | 0 => .array .byte
  | _ => .byte
abbrev wsJ30 : List Cond := u_ws RJ3 TJ3 2
theorem nmJ3 : ∀ a, a < 2 → ∀ b, b < 2 → a ≠ b → (TJ3 a).2.1 ≠ (TJ3 b).2.1 := by decide +kernel
theorem tyJ3_ok : ∀ k, k < 2 → parseFieldDescriptor (TJ3 k).2.2.1 = some (tyJ3 k) := by decide +kernel
abbrev cJ3_length : ByteArray := prog_27_method_54_code
def yJ3_length : MethodName := ⟨RJ3, "length", "()I"⟩
def dkwJ3_length_0 : List UInt8 := [42, 180, 0, 9, 190, 42, 182, 1, 79, 122, 172]
abbrev dktJ3_length_0 : List UInt8 := dkwJ3_length_0 ++ []
theorem dksJ3_length_0 : cJ3_length.data.toList.drop 0 = dktJ3_length_0 := by decide +kernel
theorem dJ3_length_0 : decode cJ3_length 0 = .ok (.aload_n 0, 1) := dk_42 (dk_at dksJ3_length_0 0 rfl rfl)
theorem dJ3_length_1 : decode cJ3_length 1 = .ok (.getfield 9, 3) := dk_180 0 9 (dk_at dksJ3_length_0 1 rfl rfl)
theorem dJ3_length_4 : decode cJ3_length 4 = .ok (.arraylength, 1) := dk_190 (dk_at dksJ3_length_0 4 rfl rfl)
theorem dJ3_length_5 : decode cJ3_length 5 = .ok (.aload_n 0, 1) := dk_42 (dk_at dksJ3_length_0 5 rfl rfl)
theorem dJ3_length_6 : decode cJ3_length 6 = .ok (.invokevirtual 335, 3) := dk_182 1 79 (dk_at dksJ3_length_0 6 rfl rfl)
theorem dJ3_length_9 : decode cJ3_length 9 = .ok (.ishr, 1) := dk_122 (dk_at dksJ3_length_0 9 rfl rfl)
theorem dJ3_length_10 : decode cJ3_length 10 = .ok (.ireturn, 1) := dk_172 (dk_at dksJ3_length_0 10 rfl rfl)
abbrev cJ3_coder : ByteArray := prog_27_method_152_code
def yJ3_coder : MethodName := ⟨RJ3, "coder", "()B"⟩
def dkwJ3_coder_0 : List UInt8 := [178, 0, 38, 153, 0, 10, 42, 180, 0, 15, 167, 0, 4, 4, 172]
abbrev dktJ3_coder_0 : List UInt8 := dkwJ3_coder_0 ++ []
theorem dksJ3_coder_0 : cJ3_coder.data.toList.drop 0 = dktJ3_coder_0 := by decide +kernel
theorem dJ3_coder_0 : decode cJ3_coder 0 = .ok (.getstatic 38, 3) := dk_178 0 38 (dk_at dksJ3_coder_0 0 rfl rfl)
theorem dJ3_coder_3 : decode cJ3_coder 3 = .ok (.ifCond .eq 10, 3) := dk_153 0 10 (dk_at dksJ3_coder_0 3 rfl rfl)
theorem dJ3_coder_6 : decode cJ3_coder 6 = .ok (.aload_n 0, 1) := dk_42 (dk_at dksJ3_coder_0 6 rfl rfl)
theorem dJ3_coder_7 : decode cJ3_coder 7 = .ok (.getfield 15, 3) := dk_180 0 15 (dk_at dksJ3_coder_0 7 rfl rfl)
theorem dJ3_coder_10 : decode cJ3_coder 10 = .ok (.goto 4, 3) := dk_167 0 4 (dk_at dksJ3_coder_0 10 rfl rfl)
theorem dJ3_coder_13 : decode cJ3_coder 13 = .ok (.iconst 1, 1) := dk_4 (dk_at dksJ3_coder_0 13 rfl rfl)
theorem dJ3_coder_14 : decode cJ3_coder 14 = .ok (.ireturn, 1) := dk_172 (dk_at dksJ3_coder_0 14 rfl rfl)
abbrev cJ3_charAt : ByteArray := prog_27_method_56_code
def yJ3_charAt : MethodName := ⟨RJ3, "charAt", "(I)C"⟩
def dkwJ3_charAt_1 : List UInt8 := [172]
abbrev dktJ3_charAt_1 : List UInt8 := dkwJ3_charAt_1 ++ []
def dkwJ3_charAt_0 : List UInt8 := [42, 182, 1, 236, 153, 0, 12, 42, 180, 0, 9, 27, 184, 1, 239, 172, 42, 180, 0, 9, 27, 184, 1, 242]
abbrev dktJ3_charAt_0 : List UInt8 := dkwJ3_charAt_0 ++ dktJ3_charAt_1
theorem dksJ3_charAt_0 : cJ3_charAt.data.toList.drop 0 = dktJ3_charAt_0 := by decide +kernel
theorem dksJ3_charAt_1 : cJ3_charAt.data.toList.drop 24 = dktJ3_charAt_1 := dk_seg dksJ3_charAt_0 24 rfl rfl
theorem dJ3_charAt_0 : decode cJ3_charAt 0 = .ok (.aload_n 0, 1) := dk_42 (dk_at dksJ3_charAt_0 0 rfl rfl)
theorem dJ3_charAt_1 : decode cJ3_charAt 1 = .ok (.invokevirtual 492, 3) := dk_182 1 236 (dk_at dksJ3_charAt_0 1 rfl rfl)
theorem dJ3_charAt_4 : decode cJ3_charAt 4 = .ok (.ifCond .eq 12, 3) := dk_153 0 12 (dk_at dksJ3_charAt_0 4 rfl rfl)
theorem dJ3_charAt_7 : decode cJ3_charAt 7 = .ok (.aload_n 0, 1) := dk_42 (dk_at dksJ3_charAt_0 7 rfl rfl)
theorem dJ3_charAt_8 : decode cJ3_charAt 8 = .ok (.getfield 9, 3) := dk_180 0 9 (dk_at dksJ3_charAt_0 8 rfl rfl)
theorem dJ3_charAt_11 : decode cJ3_charAt 11 = .ok (.iload_n 1, 1) := dk_27 (dk_at dksJ3_charAt_0 11 rfl rfl)
theorem dJ3_charAt_12 : decode cJ3_charAt 12 = .ok (.invokestatic 495, 3) := dk_184 1 239 (dk_at dksJ3_charAt_0 12 rfl rfl)
theorem dJ3_charAt_15 : decode cJ3_charAt 15 = .ok (.ireturn, 1) := dk_172 (dk_at dksJ3_charAt_0 15 rfl rfl)
theorem dJ3_charAt_16 : decode cJ3_charAt 16 = .ok (.aload_n 0, 1) := dk_42 (dk_at dksJ3_charAt_0 16 rfl rfl)
theorem dJ3_charAt_17 : decode cJ3_charAt 17 = .ok (.getfield 9, 3) := dk_180 0 9 (dk_at dksJ3_charAt_0 17 rfl rfl)
theorem dJ3_charAt_20 : decode cJ3_charAt 20 = .ok (.iload_n 1, 1) := dk_27 (dk_at dksJ3_charAt_0 20 rfl rfl)
theorem dJ3_charAt_21 : decode cJ3_charAt 21 = .ok (.invokestatic 498, 3) := dk_184 1 242 (dk_at dksJ3_charAt_0 21 rfl rfl)
theorem dJ3_charAt_24 : decode cJ3_charAt 24 = .ok (.ireturn, 1) := dk_172 (dk_at dksJ3_charAt_1 0 rfl rfl)
abbrev cJ3_isLatin1 : ByteArray := prog_27_method_154_code
def yJ3_isLatin1 : MethodName := ⟨RJ3, "isLatin1", "()Z"⟩
def dkwJ3_isLatin1_0 : List UInt8 := [178, 0, 38, 153, 0, 14, 42, 180, 0, 15, 154, 0, 7, 4, 167, 0, 4, 3, 172]
abbrev dktJ3_isLatin1_0 : List UInt8 := dkwJ3_isLatin1_0 ++ []
theorem dksJ3_isLatin1_0 : cJ3_isLatin1.data.toList.drop 0 = dktJ3_isLatin1_0 := by decide +kernel
theorem dJ3_isLatin1_0 : decode cJ3_isLatin1 0 = .ok (.getstatic 38, 3) := dk_178 0 38 (dk_at dksJ3_isLatin1_0 0 rfl rfl)
theorem dJ3_isLatin1_3 : decode cJ3_isLatin1 3 = .ok (.ifCond .eq 14, 3) := dk_153 0 14 (dk_at dksJ3_isLatin1_0 3 rfl rfl)
theorem dJ3_isLatin1_6 : decode cJ3_isLatin1 6 = .ok (.aload_n 0, 1) := dk_42 (dk_at dksJ3_isLatin1_0 6 rfl rfl)
theorem dJ3_isLatin1_7 : decode cJ3_isLatin1 7 = .ok (.getfield 15, 3) := dk_180 0 15 (dk_at dksJ3_isLatin1_0 7 rfl rfl)
theorem dJ3_isLatin1_10 : decode cJ3_isLatin1 10 = .ok (.ifCond .ne 7, 3) := dk_154 0 7 (dk_at dksJ3_isLatin1_0 10 rfl rfl)
theorem dJ3_isLatin1_13 : decode cJ3_isLatin1 13 = .ok (.iconst 1, 1) := dk_4 (dk_at dksJ3_isLatin1_0 13 rfl rfl)
theorem dJ3_isLatin1_14 : decode cJ3_isLatin1 14 = .ok (.goto 4, 3) := dk_167 0 4 (dk_at dksJ3_isLatin1_0 14 rfl rfl)
theorem dJ3_isLatin1_17 : decode cJ3_isLatin1 17 = .ok (.iconst 0, 1) := dk_3 (dk_at dksJ3_isLatin1_0 17 rfl rfl)
theorem dJ3_isLatin1_18 : decode cJ3_isLatin1 18 = .ok (.ireturn, 1) := dk_172 (dk_at dksJ3_isLatin1_0 18 rfl rfl)
abbrev cJ3_checkIndex : ByteArray := prog_27_method_155_code
def yJ3_checkIndex : MethodName := ⟨RJ3, "checkIndex", "(II)V"⟩
def dkwJ3_checkIndex_0 : List UInt8 := [26, 27, 178, 4, 29, 184, 4, 35, 87, 177]
abbrev dktJ3_checkIndex_0 : List UInt8 := dkwJ3_checkIndex_0 ++ []
theorem dksJ3_checkIndex_0 : cJ3_checkIndex.data.toList.drop 0 = dktJ3_checkIndex_0 := by decide +kernel
theorem dJ3_checkIndex_0 : decode cJ3_checkIndex 0 = .ok (.iload_n 0, 1) := dk_26 (dk_at dksJ3_checkIndex_0 0 rfl rfl)
theorem dJ3_checkIndex_1 : decode cJ3_checkIndex 1 = .ok (.iload_n 1, 1) := dk_27 (dk_at dksJ3_checkIndex_0 1 rfl rfl)
theorem dJ3_checkIndex_2 : decode cJ3_checkIndex 2 = .ok (.getstatic 1053, 3) := dk_178 4 29 (dk_at dksJ3_checkIndex_0 2 rfl rfl)
theorem dJ3_checkIndex_5 : decode cJ3_checkIndex 5 = .ok (.invokestatic 1059, 3) := dk_184 4 35 (dk_at dksJ3_checkIndex_0 5 rfl rfl)
theorem dJ3_checkIndex_8 : decode cJ3_checkIndex 8 = .ok (.pop, 1) := dk_87 (dk_at dksJ3_checkIndex_0 8 rfl rfl)
theorem dJ3_checkIndex_9 : decode cJ3_checkIndex 9 = .ok (.return_, 1) := dk_177 (dk_at dksJ3_checkIndex_0 9 rfl rfl)
abbrev cJ3_indexOf : ByteArray := prog_27_method_79_code
def yJ3_indexOf : MethodName := ⟨RJ3, "indexOf", "(I)I"⟩
def dkwJ3_indexOf_0 : List UInt8 := [42, 27, 3, 182, 2, 121, 172]
abbrev dktJ3_indexOf_0 : List UInt8 := dkwJ3_indexOf_0 ++ []
theorem dksJ3_indexOf_0 : cJ3_indexOf.data.toList.drop 0 = dktJ3_indexOf_0 := by decide +kernel
theorem dJ3_indexOf_0 : decode cJ3_indexOf 0 = .ok (.aload_n 0, 1) := dk_42 (dk_at dksJ3_indexOf_0 0 rfl rfl)
theorem dJ3_indexOf_1 : decode cJ3_indexOf 1 = .ok (.iload_n 1, 1) := dk_27 (dk_at dksJ3_indexOf_0 1 rfl rfl)
theorem dJ3_indexOf_2 : decode cJ3_indexOf 2 = .ok (.iconst 0, 1) := dk_3 (dk_at dksJ3_indexOf_0 2 rfl rfl)
theorem dJ3_indexOf_3 : decode cJ3_indexOf 3 = .ok (.invokevirtual 633, 3) := dk_182 2 121 (dk_at dksJ3_indexOf_0 3 rfl rfl)
theorem dJ3_indexOf_6 : decode cJ3_indexOf 6 = .ok (.ireturn, 1) := dk_172 (dk_at dksJ3_indexOf_0 6 rfl rfl)
abbrev cJ3_indexOf_2 : ByteArray := prog_27_method_80_code
def yJ3_indexOf_2 : MethodName := ⟨RJ3, "indexOf", "(II)I"⟩
def dkwJ3_indexOf_2_1 : List UInt8 := [180, 0, 9, 27, 28, 42, 182, 1, 249, 184, 2, 128, 172]
abbrev dktJ3_indexOf_2_1 : List UInt8 := dkwJ3_indexOf_2_1 ++ []
def dkwJ3_indexOf_2_0 : List UInt8 := [42, 182, 1, 236, 153, 0, 19, 42, 180, 0, 9, 27, 28, 42, 182, 1, 249, 184, 2, 125, 167, 0, 16, 42]
abbrev dktJ3_indexOf_2_0 : List UInt8 := dkwJ3_indexOf_2_0 ++ dktJ3_indexOf_2_1
theorem dksJ3_indexOf_2_0 : cJ3_indexOf_2.data.toList.drop 0 = dktJ3_indexOf_2_0 := by decide +kernel
theorem dksJ3_indexOf_2_1 : cJ3_indexOf_2.data.toList.drop 24 = dktJ3_indexOf_2_1 := dk_seg dksJ3_indexOf_2_0 24 rfl rfl
theorem dJ3_indexOf_2_0 : decode cJ3_indexOf_2 0 = .ok (.aload_n 0, 1) := dk_42 (dk_at dksJ3_indexOf_2_0 0 rfl rfl)
theorem dJ3_indexOf_2_1 : decode cJ3_indexOf_2 1 = .ok (.invokevirtual 492, 3) := dk_182 1 236 (dk_at dksJ3_indexOf_2_0 1 rfl rfl)
theorem dJ3_indexOf_2_4 : decode cJ3_indexOf_2 4 = .ok (.ifCond .eq 19, 3) := dk_153 0 19 (dk_at dksJ3_indexOf_2_0 4 rfl rfl)
theorem dJ3_indexOf_2_7 : decode cJ3_indexOf_2 7 = .ok (.aload_n 0, 1) := dk_42 (dk_at dksJ3_indexOf_2_0 7 rfl rfl)
theorem dJ3_indexOf_2_8 : decode cJ3_indexOf_2 8 = .ok (.getfield 9, 3) := dk_180 0 9 (dk_at dksJ3_indexOf_2_0 8 rfl rfl)
theorem dJ3_indexOf_2_11 : decode cJ3_indexOf_2 11 = .ok (.iload_n 1, 1) := dk_27 (dk_at dksJ3_indexOf_2_0 11 rfl rfl)
theorem dJ3_indexOf_2_12 : decode cJ3_indexOf_2 12 = .ok (.iload_n 2, 1) := dk_28 (dk_at dksJ3_indexOf_2_0 12 rfl rfl)
theorem dJ3_indexOf_2_13 : decode cJ3_indexOf_2 13 = .ok (.aload_n 0, 1) := dk_42 (dk_at dksJ3_indexOf_2_0 13 rfl rfl)
theorem dJ3_indexOf_2_14 : decode cJ3_indexOf_2 14 = .ok (.invokevirtual 505, 3) := dk_182 1 249 (dk_at dksJ3_indexOf_2_0 14 rfl rfl)
theorem dJ3_indexOf_2_17 : decode cJ3_indexOf_2 17 = .ok (.invokestatic 637, 3) := dk_184 2 125 (dk_at dksJ3_indexOf_2_0 17 rfl rfl)
theorem dJ3_indexOf_2_20 : decode cJ3_indexOf_2 20 = .ok (.goto 16, 3) := dk_167 0 16 (dk_at dksJ3_indexOf_2_0 20 rfl rfl)
theorem dJ3_indexOf_2_23 : decode cJ3_indexOf_2 23 = .ok (.aload_n 0, 1) := dk_42 (dk_at dksJ3_indexOf_2_0 23 rfl rfl)
theorem dJ3_indexOf_2_24 : decode cJ3_indexOf_2 24 = .ok (.getfield 9, 3) := dk_180 0 9 (dk_at dksJ3_indexOf_2_1 0 rfl rfl)
theorem dJ3_indexOf_2_27 : decode cJ3_indexOf_2 27 = .ok (.iload_n 1, 1) := dk_27 (dk_at dksJ3_indexOf_2_1 3 rfl rfl)
theorem dJ3_indexOf_2_28 : decode cJ3_indexOf_2 28 = .ok (.iload_n 2, 1) := dk_28 (dk_at dksJ3_indexOf_2_1 4 rfl rfl)
theorem dJ3_indexOf_2_29 : decode cJ3_indexOf_2 29 = .ok (.aload_n 0, 1) := dk_42 (dk_at dksJ3_indexOf_2_1 5 rfl rfl)
theorem dJ3_indexOf_2_30 : decode cJ3_indexOf_2 30 = .ok (.invokevirtual 505, 3) := dk_182 1 249 (dk_at dksJ3_indexOf_2_1 6 rfl rfl)
theorem dJ3_indexOf_2_33 : decode cJ3_indexOf_2 33 = .ok (.invokestatic 640, 3) := dk_184 2 128 (dk_at dksJ3_indexOf_2_1 9 rfl rfl)
theorem dJ3_indexOf_2_36 : decode cJ3_indexOf_2 36 = .ok (.ireturn, 1) := dk_172 (dk_at dksJ3_indexOf_2_1 12 rfl rfl)
abbrev cJ3_checkBoundsBeginEnd : ByteArray := prog_27_method_158_code
def yJ3_checkBoundsBeginEnd : MethodName := ⟨RJ3, "checkBoundsBeginEnd", "(III)V"⟩
def dkwJ3_checkBoundsBeginEnd_0 : List UInt8 := [26, 27, 28, 178, 4, 29, 184, 4, 38, 87, 177]
abbrev dktJ3_checkBoundsBeginEnd_0 : List UInt8 := dkwJ3_checkBoundsBeginEnd_0 ++ []
theorem dksJ3_checkBoundsBeginEnd_0 : cJ3_checkBoundsBeginEnd.data.toList.drop 0 = dktJ3_checkBoundsBeginEnd_0 := by decide +kernel
theorem dJ3_checkBoundsBeginEnd_0 : decode cJ3_checkBoundsBeginEnd 0 = .ok (.iload_n 0, 1) := dk_26 (dk_at dksJ3_checkBoundsBeginEnd_0 0 rfl rfl)
theorem dJ3_checkBoundsBeginEnd_1 : decode cJ3_checkBoundsBeginEnd 1 = .ok (.iload_n 1, 1) := dk_27 (dk_at dksJ3_checkBoundsBeginEnd_0 1 rfl rfl)
theorem dJ3_checkBoundsBeginEnd_2 : decode cJ3_checkBoundsBeginEnd 2 = .ok (.iload_n 2, 1) := dk_28 (dk_at dksJ3_checkBoundsBeginEnd_0 2 rfl rfl)
theorem dJ3_checkBoundsBeginEnd_3 : decode cJ3_checkBoundsBeginEnd 3 = .ok (.getstatic 1053, 3) := dk_178 4 29 (dk_at dksJ3_checkBoundsBeginEnd_0 3 rfl rfl)
theorem dJ3_checkBoundsBeginEnd_6 : decode cJ3_checkBoundsBeginEnd 6 = .ok (.invokestatic 1062, 3) := dk_184 4 38 (dk_at dksJ3_checkBoundsBeginEnd_0 6 rfl rfl)
theorem dJ3_checkBoundsBeginEnd_9 : decode cJ3_checkBoundsBeginEnd 9 = .ok (.pop, 1) := dk_87 (dk_at dksJ3_checkBoundsBeginEnd_0 9 rfl rfl)
theorem dJ3_checkBoundsBeginEnd_10 : decode cJ3_checkBoundsBeginEnd 10 = .ok (.return_, 1) := dk_177 (dk_at dksJ3_checkBoundsBeginEnd_0 10 rfl rfl)
theorem q137 : (Jvm.Cond.initialized "java/lang/String") ∈ lw_all := lw_g (lw_at lw_m1 7 rfl) rfl
theorem q459 : (Jvm.Cond.instanceMethod ({ cls := "java/lang/String", name := "length", desc := "()I" } : Jvm.MethodName)) ∈ lw_all := lw_g (lw_at lw_m2 89 rfl) rfl
theorem q460 : (Jvm.Cond.selects "java/lang/String" ({ cls := "java/lang/String", name := "length", desc := "()I" } : Jvm.MethodName) ({ cls := "java/lang/String", name := "length", desc := "()I" } : Jvm.MethodName)) ∈ lw_all := lw_g (lw_at lw_m2 90 rfl) rfl
theorem q461 : (Jvm.Cond.code ({ cls := "java/lang/String", name := "length", desc := "()I" } : Jvm.MethodName) prog_27_method_54_code (1 : Nat) (Option.some Jvm.ClassFile.FieldType.int)) ∈ lw_all := lw_g (lw_at lw_m2 91 rfl) rfl
theorem q462 : (Jvm.Cond.methodLink "java/lang/String" (335 : Nat) ({ cls := "java/lang/String", name := "coder", desc := "()B" } : Jvm.MethodName)) ∈ lw_all := lw_g (lw_at lw_m2 92 rfl) rfl
theorem q463 : (Jvm.Cond.instanceMethod ({ cls := "java/lang/String", name := "coder", desc := "()B" } : Jvm.MethodName)) ∈ lw_all := lw_g (lw_at lw_m2 93 rfl) rfl
theorem q464 : (Jvm.Cond.selects "java/lang/String" ({ cls := "java/lang/String", name := "coder", desc := "()B" } : Jvm.MethodName) ({ cls := "java/lang/String", name := "coder", desc := "()B" } : Jvm.MethodName)) ∈ lw_all := lw_g (lw_at lw_m2 94 rfl) rfl
theorem q465 : (Jvm.Cond.code ({ cls := "java/lang/String", name := "coder", desc := "()B" } : Jvm.MethodName) prog_27_method_152_code (1 : Nat) (Option.some Jvm.ClassFile.FieldType.byte)) ∈ lw_all := lw_g (lw_at lw_m2 95 rfl) rfl
theorem q466 : (Jvm.Cond.fieldLink "java/lang/String" (38 : Nat) "java/lang/String" "COMPACT_STRINGS" "Z") ∈ lw_all := lw_g (lw_at lw_m2 96 rfl) rfl
theorem q467 : (Jvm.Cond.laysStatic "java/lang/String" "COMPACT_STRINGS" "Z") ∈ lw_tbl := lw_at lw_m2 97 rfl
theorem q469 : (Jvm.Cond.instanceMethod ({ cls := "java/lang/String", name := "charAt", desc := "(I)C" } : Jvm.MethodName)) ∈ lw_all := lw_g (lw_at lw_m2 99 rfl) rfl
theorem q470 : (Jvm.Cond.selects "java/lang/String" ({ cls := "java/lang/String", name := "charAt", desc := "(I)C" } : Jvm.MethodName) ({ cls := "java/lang/String", name := "charAt", desc := "(I)C" } : Jvm.MethodName)) ∈ lw_all := lw_g (lw_at lw_m2 100 rfl) rfl
theorem q471 : (Jvm.Cond.code ({ cls := "java/lang/String", name := "charAt", desc := "(I)C" } : Jvm.MethodName) prog_27_method_56_code (2 : Nat) (Option.some Jvm.ClassFile.FieldType.char)) ∈ lw_all := lw_g (lw_at lw_m2 101 rfl) rfl
theorem q472 : (Jvm.Cond.methodLink "java/lang/String" (492 : Nat) ({ cls := "java/lang/String", name := "isLatin1", desc := "()Z" } : Jvm.MethodName)) ∈ lw_all := lw_g (lw_at lw_m2 102 rfl) rfl
theorem q473 : (Jvm.Cond.instanceMethod ({ cls := "java/lang/String", name := "isLatin1", desc := "()Z" } : Jvm.MethodName)) ∈ lw_all := lw_g (lw_at lw_m2 103 rfl) rfl
theorem q474 : (Jvm.Cond.selects "java/lang/String" ({ cls := "java/lang/String", name := "isLatin1", desc := "()Z" } : Jvm.MethodName) ({ cls := "java/lang/String", name := "isLatin1", desc := "()Z" } : Jvm.MethodName)) ∈ lw_all := lw_g (lw_at lw_m2 104 rfl) rfl
theorem q475 : (Jvm.Cond.code ({ cls := "java/lang/String", name := "isLatin1", desc := "()Z" } : Jvm.MethodName) prog_27_method_154_code (1 : Nat) (Option.some Jvm.ClassFile.FieldType.boolean)) ∈ lw_all := lw_g (lw_at lw_m2 105 rfl) rfl
theorem q476 : (Jvm.Cond.methodLink "java/lang/String" (495 : Nat) ({ cls := "java/lang/StringLatin1", name := "charAt", desc := "([BI)C" } : Jvm.MethodName)) ∈ lw_all := lw_g (lw_at lw_m2 106 rfl) rfl
theorem q480 : (Jvm.Cond.static ({ cls := "java/lang/String", name := "checkIndex", desc := "(II)V" } : Jvm.MethodName)) ∈ lw_all := lw_g (lw_at lw_m2 110 rfl) rfl
theorem q481 : (Jvm.Cond.code ({ cls := "java/lang/String", name := "checkIndex", desc := "(II)V" } : Jvm.MethodName) prog_27_method_155_code (2 : Nat) (Option.none : Option Jvm.ClassFile.FieldType)) ∈ lw_all := lw_g (lw_at lw_m2 111 rfl) rfl
theorem q482 : (Jvm.Cond.fieldLink "java/lang/String" (1053 : Nat) "jdk/internal/util/Preconditions" "SIOOBE_FORMATTER" "Ljava/util/function/BiFunction;") ∈ lw_all := lw_g (lw_at lw_m2 112 rfl) rfl
theorem q484 : (Jvm.Cond.methodLink "java/lang/String" (1059 : Nat) ({ cls := "jdk/internal/util/Preconditions", name := "checkIndex", desc := "(IILjava/util/function/BiFunction;)I" } : Jvm.MethodName)) ∈ lw_all := lw_g (lw_at lw_m2 114 rfl) rfl
theorem q487 : (Jvm.Cond.methodLink "java/lang/String" (498 : Nat) ({ cls := "java/lang/StringUTF16", name := "charAt", desc := "([BI)C" } : Jvm.MethodName)) ∈ lw_all := lw_g (lw_at lw_m2 117 rfl) rfl
theorem q517 : (Jvm.Cond.instanceMethod ({ cls := "java/lang/String", name := "indexOf", desc := "(I)I" } : Jvm.MethodName)) ∈ lw_all := lw_g (lw_at lw_m2 147 rfl) rfl
theorem q518 : (Jvm.Cond.selects "java/lang/String" ({ cls := "java/lang/String", name := "indexOf", desc := "(I)I" } : Jvm.MethodName) ({ cls := "java/lang/String", name := "indexOf", desc := "(I)I" } : Jvm.MethodName)) ∈ lw_all := lw_g (lw_at lw_m2 148 rfl) rfl
theorem q519 : (Jvm.Cond.code ({ cls := "java/lang/String", name := "indexOf", desc := "(I)I" } : Jvm.MethodName) prog_27_method_79_code (2 : Nat) (Option.some Jvm.ClassFile.FieldType.int)) ∈ lw_all := lw_g (lw_at lw_m2 149 rfl) rfl
theorem q520 : (Jvm.Cond.methodLink "java/lang/String" (633 : Nat) ({ cls := "java/lang/String", name := "indexOf", desc := "(II)I" } : Jvm.MethodName)) ∈ lw_all := lw_g (lw_at lw_m2 150 rfl) rfl
theorem q521 : (Jvm.Cond.instanceMethod ({ cls := "java/lang/String", name := "indexOf", desc := "(II)I" } : Jvm.MethodName)) ∈ lw_all := lw_g (lw_at lw_m2 151 rfl) rfl
theorem q522 : (Jvm.Cond.selects "java/lang/String" ({ cls := "java/lang/String", name := "indexOf", desc := "(II)I" } : Jvm.MethodName) ({ cls := "java/lang/String", name := "indexOf", desc := "(II)I" } : Jvm.MethodName)) ∈ lw_all := lw_g (lw_at lw_m2 152 rfl) rfl
theorem q523 : (Jvm.Cond.code ({ cls := "java/lang/String", name := "indexOf", desc := "(II)I" } : Jvm.MethodName) prog_27_method_80_code (3 : Nat) (Option.some Jvm.ClassFile.FieldType.int)) ∈ lw_all := lw_g (lw_at lw_m2 153 rfl) rfl
theorem q524 : (Jvm.Cond.methodLink "java/lang/String" (505 : Nat) ({ cls := "java/lang/String", name := "length", desc := "()I" } : Jvm.MethodName)) ∈ lw_all := lw_g (lw_at lw_m2 154 rfl) rfl
theorem q525 : (Jvm.Cond.methodLink "java/lang/String" (637 : Nat) ({ cls := "java/lang/StringLatin1", name := "indexOf", desc := "([BIII)I" } : Jvm.MethodName)) ∈ lw_all := lw_g (lw_at lw_m2 155 rfl) rfl
theorem q536 : (Jvm.Cond.methodLink "java/lang/String" (640 : Nat) ({ cls := "java/lang/StringUTF16", name := "indexOf", desc := "([BIII)I" } : Jvm.MethodName)) ∈ lw_all := lw_g (lw_at lw_m2 166 rfl) rfl
theorem q549 : (Jvm.Cond.static ({ cls := "java/lang/String", name := "checkBoundsBeginEnd", desc := "(III)V" } : Jvm.MethodName)) ∈ lw_all := lw_g (lw_at lw_m2 179 rfl) rfl
theorem q550 : (Jvm.Cond.code ({ cls := "java/lang/String", name := "checkBoundsBeginEnd", desc := "(III)V" } : Jvm.MethodName) prog_27_method_158_code (3 : Nat) (Option.none : Option Jvm.ClassFile.FieldType)) ∈ lw_all := lw_g (lw_at lw_m2 180 rfl) rfl
theorem q551 : (Jvm.Cond.methodLink "java/lang/String" (1062 : Nat) ({ cls := "jdk/internal/util/Preconditions", name := "checkFromToIndex", desc := "(IIILjava/util/function/BiFunction;)I" } : Jvm.MethodName)) ∈ lw_all := lw_g (lw_at lw_m2 181 rfl) rfl
theorem q1145 : (Jvm.Cond.instantiable "java/lang/String" (4 : Nat)) ∈ lw_all := lw_g (lw_at lw_m5 55 rfl) rfl
theorem q1146 : (Jvm.Cond.laysFinal "java/lang/String" "java/lang/String" "value" "[B") ∈ lw_all := lw_g (lw_at lw_m5 56 rfl) rfl
theorem q1147 : (Jvm.Cond.soleField "java/lang/String" "value") ∈ lw_all := lw_g (lw_at lw_m5 57 rfl) rfl
theorem q1148 : (Jvm.Cond.laysFinal "java/lang/String" "java/lang/String" "coder" "B") ∈ lw_all := lw_g (lw_at lw_m5 58 rfl) rfl
theorem q1149 : (Jvm.Cond.soleField "java/lang/String" "coder") ∈ lw_all := lw_g (lw_at lw_m5 59 rfl) rfl
theorem q1892 : (Jvm.Cond.fieldLink "java/lang/String" (9 : Nat) "java/lang/String" "value" "[B") ∈ lw_all := lw_g (lw_at lw_m8 82 rfl) rfl
theorem q1893 : (Jvm.Cond.fieldLink "java/lang/String" (15 : Nat) "java/lang/String" "coder" "B") ∈ lw_all := lw_g (lw_at lw_m8 83 rfl) rfl
theorem in_J3 : ∀ w ∈ wsJ30, w ∈ lw_all := lw_in wsJ30 [1146, 1148] (by decide +kernel) (by decide +kernel)

/-! java/lang/StringLatin1 -/
set_option maxRecDepth 100000
def RJ4 : String := "java/lang/StringLatin1"
abbrev cJ4_charAt : ByteArray := prog_28_method_2_code
def yJ4_charAt : MethodName := ⟨RJ4, "charAt", "([BI)C"⟩
def dkwJ4_charAt_0 : List UInt8 := [27, 42, 190, 184, 0, 9, 42, 27, 51, 17, 0, 255, 126, 146, 172]
abbrev dktJ4_charAt_0 : List UInt8 := dkwJ4_charAt_0 ++ []
theorem dksJ4_charAt_0 : cJ4_charAt.data.toList.drop 0 = dktJ4_charAt_0 := by decide +kernel
theorem dJ4_charAt_0 : decode cJ4_charAt 0 = .ok (.iload_n 1, 1) := dk_27 (dk_at dksJ4_charAt_0 0 rfl rfl)
theorem dJ4_charAt_1 : decode cJ4_charAt 1 = .ok (.aload_n 0, 1) := dk_42 (dk_at dksJ4_charAt_0 1 rfl rfl)
theorem dJ4_charAt_2 : decode cJ4_charAt 2 = .ok (.arraylength, 1) := dk_190 (dk_at dksJ4_charAt_0 2 rfl rfl)
theorem dJ4_charAt_3 : decode cJ4_charAt 3 = .ok (.invokestatic 9, 3) := dk_184 0 9 (dk_at dksJ4_charAt_0 3 rfl rfl)
theorem dJ4_charAt_6 : decode cJ4_charAt 6 = .ok (.aload_n 0, 1) := dk_42 (dk_at dksJ4_charAt_0 6 rfl rfl)
theorem dJ4_charAt_7 : decode cJ4_charAt 7 = .ok (.iload_n 1, 1) := dk_27 (dk_at dksJ4_charAt_0 7 rfl rfl)
theorem dJ4_charAt_8 : decode cJ4_charAt 8 = .ok (.baload, 1) := dk_51 (dk_at dksJ4_charAt_0 8 rfl rfl)
theorem dJ4_charAt_9 : decode cJ4_charAt 9 = .ok (.sipush 255, 3) := dk_17 0 255 (dk_at dksJ4_charAt_0 9 rfl rfl)
theorem dJ4_charAt_12 : decode cJ4_charAt 12 = .ok (.iand, 1) := dk_126 (dk_at dksJ4_charAt_0 12 rfl rfl)
theorem dJ4_charAt_13 : decode cJ4_charAt 13 = .ok (.i2c, 1) := dk_146 (dk_at dksJ4_charAt_0 13 rfl rfl)
theorem dJ4_charAt_14 : decode cJ4_charAt 14 = .ok (.ireturn, 1) := dk_172 (dk_at dksJ4_charAt_0 14 rfl rfl)
abbrev cJ4_indexOf : ByteArray := prog_28_method_22_code
def yJ4_indexOf : MethodName := ⟨RJ4, "indexOf", "([BIII)I"⟩
def dkwJ4_indexOf_1 : List UInt8 := [161, 0, 5, 2, 172, 42, 27, 28, 29, 184, 0, 95, 172]
abbrev dktJ4_indexOf_1 : List UInt8 := dkwJ4_indexOf_1 ++ []
def dkwJ4_indexOf_0 : List UInt8 := [27, 184, 0, 88, 154, 0, 5, 2, 172, 28, 3, 184, 0, 92, 61, 29, 42, 190, 184, 0, 38, 62, 28, 29]
abbrev dktJ4_indexOf_0 : List UInt8 := dkwJ4_indexOf_0 ++ dktJ4_indexOf_1
theorem dksJ4_indexOf_0 : cJ4_indexOf.data.toList.drop 0 = dktJ4_indexOf_0 := by decide +kernel
theorem dksJ4_indexOf_1 : cJ4_indexOf.data.toList.drop 24 = dktJ4_indexOf_1 := dk_seg dksJ4_indexOf_0 24 rfl rfl
theorem dJ4_indexOf_0 : decode cJ4_indexOf 0 = .ok (.iload_n 1, 1) := dk_27 (dk_at dksJ4_indexOf_0 0 rfl rfl)
theorem dJ4_indexOf_1 : decode cJ4_indexOf 1 = .ok (.invokestatic 88, 3) := dk_184 0 88 (dk_at dksJ4_indexOf_0 1 rfl rfl)
theorem dJ4_indexOf_4 : decode cJ4_indexOf 4 = .ok (.ifCond .ne 5, 3) := dk_154 0 5 (dk_at dksJ4_indexOf_0 4 rfl rfl)
theorem dJ4_indexOf_7 : decode cJ4_indexOf 7 = .ok (.iconst (-1), 1) := dk_2 (dk_at dksJ4_indexOf_0 7 rfl rfl)
theorem dJ4_indexOf_8 : decode cJ4_indexOf 8 = .ok (.ireturn, 1) := dk_172 (dk_at dksJ4_indexOf_0 8 rfl rfl)
theorem dJ4_indexOf_9 : decode cJ4_indexOf 9 = .ok (.iload_n 2, 1) := dk_28 (dk_at dksJ4_indexOf_0 9 rfl rfl)
theorem dJ4_indexOf_10 : decode cJ4_indexOf 10 = .ok (.iconst 0, 1) := dk_3 (dk_at dksJ4_indexOf_0 10 rfl rfl)
theorem dJ4_indexOf_11 : decode cJ4_indexOf 11 = .ok (.invokestatic 92, 3) := dk_184 0 92 (dk_at dksJ4_indexOf_0 11 rfl rfl)
theorem dJ4_indexOf_14 : decode cJ4_indexOf 14 = .ok (.istore_n 2, 1) := dk_61 (dk_at dksJ4_indexOf_0 14 rfl rfl)
theorem dJ4_indexOf_15 : decode cJ4_indexOf 15 = .ok (.iload_n 3, 1) := dk_29 (dk_at dksJ4_indexOf_0 15 rfl rfl)
theorem dJ4_indexOf_16 : decode cJ4_indexOf 16 = .ok (.aload_n 0, 1) := dk_42 (dk_at dksJ4_indexOf_0 16 rfl rfl)
theorem dJ4_indexOf_17 : decode cJ4_indexOf 17 = .ok (.arraylength, 1) := dk_190 (dk_at dksJ4_indexOf_0 17 rfl rfl)
theorem dJ4_indexOf_18 : decode cJ4_indexOf 18 = .ok (.invokestatic 38, 3) := dk_184 0 38 (dk_at dksJ4_indexOf_0 18 rfl rfl)
theorem dJ4_indexOf_21 : decode cJ4_indexOf 21 = .ok (.istore_n 3, 1) := dk_62 (dk_at dksJ4_indexOf_0 21 rfl rfl)
theorem dJ4_indexOf_22 : decode cJ4_indexOf 22 = .ok (.iload_n 2, 1) := dk_28 (dk_at dksJ4_indexOf_0 22 rfl rfl)
theorem dJ4_indexOf_23 : decode cJ4_indexOf 23 = .ok (.iload_n 3, 1) := dk_29 (dk_at dksJ4_indexOf_0 23 rfl rfl)
theorem dJ4_indexOf_24 : decode cJ4_indexOf 24 = .ok (.if_icmp .lt 5, 3) := dk_161 0 5 (dk_at dksJ4_indexOf_1 0 rfl rfl)
theorem dJ4_indexOf_27 : decode cJ4_indexOf 27 = .ok (.iconst (-1), 1) := dk_2 (dk_at dksJ4_indexOf_1 3 rfl rfl)
theorem dJ4_indexOf_28 : decode cJ4_indexOf 28 = .ok (.ireturn, 1) := dk_172 (dk_at dksJ4_indexOf_1 4 rfl rfl)
theorem dJ4_indexOf_29 : decode cJ4_indexOf 29 = .ok (.aload_n 0, 1) := dk_42 (dk_at dksJ4_indexOf_1 5 rfl rfl)
theorem dJ4_indexOf_30 : decode cJ4_indexOf 30 = .ok (.iload_n 1, 1) := dk_27 (dk_at dksJ4_indexOf_1 6 rfl rfl)
theorem dJ4_indexOf_31 : decode cJ4_indexOf 31 = .ok (.iload_n 2, 1) := dk_28 (dk_at dksJ4_indexOf_1 7 rfl rfl)
theorem dJ4_indexOf_32 : decode cJ4_indexOf 32 = .ok (.iload_n 3, 1) := dk_29 (dk_at dksJ4_indexOf_1 8 rfl rfl)
theorem dJ4_indexOf_33 : decode cJ4_indexOf 33 = .ok (.invokestatic 95, 3) := dk_184 0 95 (dk_at dksJ4_indexOf_1 9 rfl rfl)
theorem dJ4_indexOf_36 : decode cJ4_indexOf 36 = .ok (.ireturn, 1) := dk_172 (dk_at dksJ4_indexOf_1 12 rfl rfl)
abbrev cJ4_canEncode : ByteArray := prog_28_method_4_code
def yJ4_canEncode : MethodName := ⟨RJ4, "canEncode", "(I)Z"⟩
def dkwJ4_canEncode_0 : List UInt8 := [26, 155, 0, 14, 26, 17, 0, 255, 163, 0, 7, 4, 167, 0, 4, 3, 172]
abbrev dktJ4_canEncode_0 : List UInt8 := dkwJ4_canEncode_0 ++ []
theorem dksJ4_canEncode_0 : cJ4_canEncode.data.toList.drop 0 = dktJ4_canEncode_0 := by decide +kernel
theorem dJ4_canEncode_0 : decode cJ4_canEncode 0 = .ok (.iload_n 0, 1) := dk_26 (dk_at dksJ4_canEncode_0 0 rfl rfl)
theorem dJ4_canEncode_1 : decode cJ4_canEncode 1 = .ok (.ifCond .lt 14, 3) := dk_155 0 14 (dk_at dksJ4_canEncode_0 1 rfl rfl)
theorem dJ4_canEncode_4 : decode cJ4_canEncode 4 = .ok (.iload_n 0, 1) := dk_26 (dk_at dksJ4_canEncode_0 4 rfl rfl)
theorem dJ4_canEncode_5 : decode cJ4_canEncode 5 = .ok (.sipush 255, 3) := dk_17 0 255 (dk_at dksJ4_canEncode_0 5 rfl rfl)
theorem dJ4_canEncode_8 : decode cJ4_canEncode 8 = .ok (.if_icmp .gt 7, 3) := dk_163 0 7 (dk_at dksJ4_canEncode_0 8 rfl rfl)
theorem dJ4_canEncode_11 : decode cJ4_canEncode 11 = .ok (.iconst 1, 1) := dk_4 (dk_at dksJ4_canEncode_0 11 rfl rfl)
theorem dJ4_canEncode_12 : decode cJ4_canEncode 12 = .ok (.goto 4, 3) := dk_167 0 4 (dk_at dksJ4_canEncode_0 12 rfl rfl)
theorem dJ4_canEncode_15 : decode cJ4_canEncode 15 = .ok (.iconst 0, 1) := dk_3 (dk_at dksJ4_canEncode_0 15 rfl rfl)
theorem dJ4_canEncode_16 : decode cJ4_canEncode 16 = .ok (.ireturn, 1) := dk_172 (dk_at dksJ4_canEncode_0 16 rfl rfl)
abbrev cJ4_indexOfChar : ByteArray := prog_28_method_23_code
def yJ4_indexOfChar : MethodName := ⟨RJ4, "indexOfChar", "([BIII)I"⟩
def dkwJ4_indexOfChar_1 : List UInt8 := [172, 132, 5, 1, 167, 255, 235, 2, 172]
abbrev dktJ4_indexOfChar_1 : List UInt8 := dkwJ4_indexOfChar_1 ++ []
def dkwJ4_indexOfChar_0 : List UInt8 := [27, 145, 54, 4, 28, 54, 5, 21, 5, 29, 162, 0, 21, 42, 21, 5, 51, 21, 4, 160, 0, 6, 21, 5]
abbrev dktJ4_indexOfChar_0 : List UInt8 := dkwJ4_indexOfChar_0 ++ dktJ4_indexOfChar_1
theorem dksJ4_indexOfChar_0 : cJ4_indexOfChar.data.toList.drop 0 = dktJ4_indexOfChar_0 := by decide +kernel
theorem dksJ4_indexOfChar_1 : cJ4_indexOfChar.data.toList.drop 24 = dktJ4_indexOfChar_1 := dk_seg dksJ4_indexOfChar_0 24 rfl rfl
theorem dJ4_indexOfChar_0 : decode cJ4_indexOfChar 0 = .ok (.iload_n 1, 1) := dk_27 (dk_at dksJ4_indexOfChar_0 0 rfl rfl)
theorem dJ4_indexOfChar_1 : decode cJ4_indexOfChar 1 = .ok (.i2b, 1) := dk_145 (dk_at dksJ4_indexOfChar_0 1 rfl rfl)
theorem dJ4_indexOfChar_2 : decode cJ4_indexOfChar 2 = .ok (.istore 4, 2) := dk_54 4 (dk_at dksJ4_indexOfChar_0 2 rfl rfl)
theorem dJ4_indexOfChar_4 : decode cJ4_indexOfChar 4 = .ok (.iload_n 2, 1) := dk_28 (dk_at dksJ4_indexOfChar_0 4 rfl rfl)
theorem dJ4_indexOfChar_5 : decode cJ4_indexOfChar 5 = .ok (.istore 5, 2) := dk_54 5 (dk_at dksJ4_indexOfChar_0 5 rfl rfl)
theorem dJ4_indexOfChar_7 : decode cJ4_indexOfChar 7 = .ok (.iload 5, 2) := dk_21 5 (dk_at dksJ4_indexOfChar_0 7 rfl rfl)
theorem dJ4_indexOfChar_9 : decode cJ4_indexOfChar 9 = .ok (.iload_n 3, 1) := dk_29 (dk_at dksJ4_indexOfChar_0 9 rfl rfl)
theorem dJ4_indexOfChar_10 : decode cJ4_indexOfChar 10 = .ok (.if_icmp .ge 21, 3) := dk_162 0 21 (dk_at dksJ4_indexOfChar_0 10 rfl rfl)
theorem dJ4_indexOfChar_13 : decode cJ4_indexOfChar 13 = .ok (.aload_n 0, 1) := dk_42 (dk_at dksJ4_indexOfChar_0 13 rfl rfl)
theorem dJ4_indexOfChar_14 : decode cJ4_indexOfChar 14 = .ok (.iload 5, 2) := dk_21 5 (dk_at dksJ4_indexOfChar_0 14 rfl rfl)
theorem dJ4_indexOfChar_16 : decode cJ4_indexOfChar 16 = .ok (.baload, 1) := dk_51 (dk_at dksJ4_indexOfChar_0 16 rfl rfl)
theorem dJ4_indexOfChar_17 : decode cJ4_indexOfChar 17 = .ok (.iload 4, 2) := dk_21 4 (dk_at dksJ4_indexOfChar_0 17 rfl rfl)
theorem dJ4_indexOfChar_19 : decode cJ4_indexOfChar 19 = .ok (.if_icmp .ne 6, 3) := dk_160 0 6 (dk_at dksJ4_indexOfChar_0 19 rfl rfl)
theorem dJ4_indexOfChar_22 : decode cJ4_indexOfChar 22 = .ok (.iload 5, 2) := dk_21 5 (dk_at dksJ4_indexOfChar_0 22 rfl rfl)
theorem dJ4_indexOfChar_24 : decode cJ4_indexOfChar 24 = .ok (.ireturn, 1) := dk_172 (dk_at dksJ4_indexOfChar_1 0 rfl rfl)
theorem dJ4_indexOfChar_25 : decode cJ4_indexOfChar 25 = .ok (.iinc 5 1, 3) := dk_132 5 1 (dk_at dksJ4_indexOfChar_1 1 rfl rfl)
theorem dJ4_indexOfChar_28 : decode cJ4_indexOfChar 28 = .ok (.goto (-21), 3) := dk_167 255 235 (dk_at dksJ4_indexOfChar_1 4 rfl rfl)
theorem dJ4_indexOfChar_31 : decode cJ4_indexOfChar 31 = .ok (.iconst (-1), 1) := dk_2 (dk_at dksJ4_indexOfChar_1 7 rfl rfl)
theorem dJ4_indexOfChar_32 : decode cJ4_indexOfChar 32 = .ok (.ireturn, 1) := dk_172 (dk_at dksJ4_indexOfChar_1 8 rfl rfl)
theorem q138 : (Jvm.Cond.initialized "java/lang/StringLatin1") ∈ lw_all := lw_g (lw_at lw_m1 8 rfl) rfl
theorem q477 : (Jvm.Cond.static ({ cls := "java/lang/StringLatin1", name := "charAt", desc := "([BI)C" } : Jvm.MethodName)) ∈ lw_all := lw_g (lw_at lw_m2 107 rfl) rfl
theorem q478 : (Jvm.Cond.code ({ cls := "java/lang/StringLatin1", name := "charAt", desc := "([BI)C" } : Jvm.MethodName) prog_28_method_2_code (2 : Nat) (Option.some Jvm.ClassFile.FieldType.char)) ∈ lw_all := lw_g (lw_at lw_m2 108 rfl) rfl
theorem q479 : (Jvm.Cond.methodLink "java/lang/StringLatin1" (9 : Nat) ({ cls := "java/lang/String", name := "checkIndex", desc := "(II)V" } : Jvm.MethodName)) ∈ lw_all := lw_g (lw_at lw_m2 109 rfl) rfl
theorem q526 : (Jvm.Cond.static ({ cls := "java/lang/StringLatin1", name := "indexOf", desc := "([BIII)I" } : Jvm.MethodName)) ∈ lw_all := lw_g (lw_at lw_m2 156 rfl) rfl
theorem q527 : (Jvm.Cond.code ({ cls := "java/lang/StringLatin1", name := "indexOf", desc := "([BIII)I" } : Jvm.MethodName) prog_28_method_22_code (4 : Nat) (Option.some Jvm.ClassFile.FieldType.int)) ∈ lw_all := lw_g (lw_at lw_m2 157 rfl) rfl
theorem q528 : (Jvm.Cond.methodLink "java/lang/StringLatin1" (88 : Nat) ({ cls := "java/lang/StringLatin1", name := "canEncode", desc := "(I)Z" } : Jvm.MethodName)) ∈ lw_all := lw_g (lw_at lw_m2 158 rfl) rfl
theorem q529 : (Jvm.Cond.static ({ cls := "java/lang/StringLatin1", name := "canEncode", desc := "(I)Z" } : Jvm.MethodName)) ∈ lw_all := lw_g (lw_at lw_m2 159 rfl) rfl
theorem q530 : (Jvm.Cond.code ({ cls := "java/lang/StringLatin1", name := "canEncode", desc := "(I)Z" } : Jvm.MethodName) prog_28_method_4_code (1 : Nat) (Option.some Jvm.ClassFile.FieldType.boolean)) ∈ lw_all := lw_g (lw_at lw_m2 160 rfl) rfl
theorem q531 : (Jvm.Cond.methodLink "java/lang/StringLatin1" (92 : Nat) ({ cls := "java/lang/Math", name := "max", desc := "(II)I" } : Jvm.MethodName)) ∈ lw_all := lw_g (lw_at lw_m2 161 rfl) rfl
theorem q532 : (Jvm.Cond.methodLink "java/lang/StringLatin1" (38 : Nat) ({ cls := "java/lang/Math", name := "min", desc := "(II)I" } : Jvm.MethodName)) ∈ lw_all := lw_g (lw_at lw_m2 162 rfl) rfl
theorem q533 : (Jvm.Cond.methodLink "java/lang/StringLatin1" (95 : Nat) ({ cls := "java/lang/StringLatin1", name := "indexOfChar", desc := "([BIII)I" } : Jvm.MethodName)) ∈ lw_all := lw_g (lw_at lw_m2 163 rfl) rfl
theorem q534 : (Jvm.Cond.static ({ cls := "java/lang/StringLatin1", name := "indexOfChar", desc := "([BIII)I" } : Jvm.MethodName)) ∈ lw_all := lw_g (lw_at lw_m2 164 rfl) rfl
theorem q535 : (Jvm.Cond.code ({ cls := "java/lang/StringLatin1", name := "indexOfChar", desc := "([BIII)I" } : Jvm.MethodName) prog_28_method_23_code (6 : Nat) (Option.some Jvm.ClassFile.FieldType.int)) ∈ lw_all := lw_g (lw_at lw_m2 165 rfl) rfl

/-! jdk/internal/util/Preconditions -/
set_option maxRecDepth 100000
def RJ5 : String := "jdk/internal/util/Preconditions"
abbrev cJ5_checkIndex : ByteArray := prog_32_method_11_code
def yJ5_checkIndex : MethodName := ⟨RJ5, "checkIndex", "(IILjava/util/function/BiFunction;)I"⟩
def dkwJ5_checkIndex_0 : List UInt8 := [26, 155, 0, 8, 26, 27, 161, 0, 10, 44, 26, 27, 184, 0, 95, 191, 26, 172]
abbrev dktJ5_checkIndex_0 : List UInt8 := dkwJ5_checkIndex_0 ++ []
theorem dksJ5_checkIndex_0 : cJ5_checkIndex.data.toList.drop 0 = dktJ5_checkIndex_0 := by decide +kernel
theorem dJ5_checkIndex_0 : decode cJ5_checkIndex 0 = .ok (.iload_n 0, 1) := dk_26 (dk_at dksJ5_checkIndex_0 0 rfl rfl)
theorem dJ5_checkIndex_1 : decode cJ5_checkIndex 1 = .ok (.ifCond .lt 8, 3) := dk_155 0 8 (dk_at dksJ5_checkIndex_0 1 rfl rfl)
theorem dJ5_checkIndex_4 : decode cJ5_checkIndex 4 = .ok (.iload_n 0, 1) := dk_26 (dk_at dksJ5_checkIndex_0 4 rfl rfl)
theorem dJ5_checkIndex_5 : decode cJ5_checkIndex 5 = .ok (.iload_n 1, 1) := dk_27 (dk_at dksJ5_checkIndex_0 5 rfl rfl)
theorem dJ5_checkIndex_6 : decode cJ5_checkIndex 6 = .ok (.if_icmp .lt 10, 3) := dk_161 0 10 (dk_at dksJ5_checkIndex_0 6 rfl rfl)
theorem dJ5_checkIndex_9 : decode cJ5_checkIndex 9 = .ok (.aload_n 2, 1) := dk_44 (dk_at dksJ5_checkIndex_0 9 rfl rfl)
theorem dJ5_checkIndex_10 : decode cJ5_checkIndex 10 = .ok (.iload_n 0, 1) := dk_26 (dk_at dksJ5_checkIndex_0 10 rfl rfl)
theorem dJ5_checkIndex_11 : decode cJ5_checkIndex 11 = .ok (.iload_n 1, 1) := dk_27 (dk_at dksJ5_checkIndex_0 11 rfl rfl)
theorem dJ5_checkIndex_12 : decode cJ5_checkIndex 12 = .ok (.invokestatic 95, 3) := dk_184 0 95 (dk_at dksJ5_checkIndex_0 12 rfl rfl)
theorem dJ5_checkIndex_15 : decode cJ5_checkIndex 15 = .ok (.athrow, 1) := dk_191 (dk_at dksJ5_checkIndex_0 15 rfl rfl)
theorem dJ5_checkIndex_16 : decode cJ5_checkIndex 16 = .ok (.iload_n 0, 1) := dk_26 (dk_at dksJ5_checkIndex_0 16 rfl rfl)
theorem dJ5_checkIndex_17 : decode cJ5_checkIndex 17 = .ok (.ireturn, 1) := dk_172 (dk_at dksJ5_checkIndex_0 17 rfl rfl)
abbrev cJ5_checkFromToIndex : ByteArray := prog_32_method_12_code
def yJ5_checkFromToIndex : MethodName := ⟨RJ5, "checkFromToIndex", "(IIILjava/util/function/BiFunction;)I"⟩
def dkwJ5_checkFromToIndex_0 : List UInt8 := [26, 155, 0, 13, 26, 27, 163, 0, 8, 27, 28, 164, 0, 11, 45, 26, 27, 28, 184, 0, 99, 191, 26, 172]
abbrev dktJ5_checkFromToIndex_0 : List UInt8 := dkwJ5_checkFromToIndex_0 ++ []
theorem dksJ5_checkFromToIndex_0 : cJ5_checkFromToIndex.data.toList.drop 0 = dktJ5_checkFromToIndex_0 := by decide +kernel
theorem dJ5_checkFromToIndex_0 : decode cJ5_checkFromToIndex 0 = .ok (.iload_n 0, 1) := dk_26 (dk_at dksJ5_checkFromToIndex_0 0 rfl rfl)
theorem dJ5_checkFromToIndex_1 : decode cJ5_checkFromToIndex 1 = .ok (.ifCond .lt 13, 3) := dk_155 0 13 (dk_at dksJ5_checkFromToIndex_0 1 rfl rfl)
theorem dJ5_checkFromToIndex_4 : decode cJ5_checkFromToIndex 4 = .ok (.iload_n 0, 1) := dk_26 (dk_at dksJ5_checkFromToIndex_0 4 rfl rfl)
theorem dJ5_checkFromToIndex_5 : decode cJ5_checkFromToIndex 5 = .ok (.iload_n 1, 1) := dk_27 (dk_at dksJ5_checkFromToIndex_0 5 rfl rfl)
theorem dJ5_checkFromToIndex_6 : decode cJ5_checkFromToIndex 6 = .ok (.if_icmp .gt 8, 3) := dk_163 0 8 (dk_at dksJ5_checkFromToIndex_0 6 rfl rfl)
theorem dJ5_checkFromToIndex_9 : decode cJ5_checkFromToIndex 9 = .ok (.iload_n 1, 1) := dk_27 (dk_at dksJ5_checkFromToIndex_0 9 rfl rfl)
theorem dJ5_checkFromToIndex_10 : decode cJ5_checkFromToIndex 10 = .ok (.iload_n 2, 1) := dk_28 (dk_at dksJ5_checkFromToIndex_0 10 rfl rfl)
theorem dJ5_checkFromToIndex_11 : decode cJ5_checkFromToIndex 11 = .ok (.if_icmp .le 11, 3) := dk_164 0 11 (dk_at dksJ5_checkFromToIndex_0 11 rfl rfl)
theorem dJ5_checkFromToIndex_14 : decode cJ5_checkFromToIndex 14 = .ok (.aload_n 3, 1) := dk_45 (dk_at dksJ5_checkFromToIndex_0 14 rfl rfl)
theorem dJ5_checkFromToIndex_15 : decode cJ5_checkFromToIndex 15 = .ok (.iload_n 0, 1) := dk_26 (dk_at dksJ5_checkFromToIndex_0 15 rfl rfl)
theorem dJ5_checkFromToIndex_16 : decode cJ5_checkFromToIndex 16 = .ok (.iload_n 1, 1) := dk_27 (dk_at dksJ5_checkFromToIndex_0 16 rfl rfl)
theorem dJ5_checkFromToIndex_17 : decode cJ5_checkFromToIndex 17 = .ok (.iload_n 2, 1) := dk_28 (dk_at dksJ5_checkFromToIndex_0 17 rfl rfl)
theorem dJ5_checkFromToIndex_18 : decode cJ5_checkFromToIndex 18 = .ok (.invokestatic 99, 3) := dk_184 0 99 (dk_at dksJ5_checkFromToIndex_0 18 rfl rfl)
theorem dJ5_checkFromToIndex_21 : decode cJ5_checkFromToIndex 21 = .ok (.athrow, 1) := dk_191 (dk_at dksJ5_checkFromToIndex_0 21 rfl rfl)
theorem dJ5_checkFromToIndex_22 : decode cJ5_checkFromToIndex 22 = .ok (.iload_n 0, 1) := dk_26 (dk_at dksJ5_checkFromToIndex_0 22 rfl rfl)
theorem dJ5_checkFromToIndex_23 : decode cJ5_checkFromToIndex 23 = .ok (.ireturn, 1) := dk_172 (dk_at dksJ5_checkFromToIndex_0 23 rfl rfl)
theorem q139 : (Jvm.Cond.initialized "jdk/internal/util/Preconditions") ∈ lw_all := lw_g (lw_at lw_m1 9 rfl) rfl
theorem q483 : (Jvm.Cond.laysStatic "jdk/internal/util/Preconditions" "SIOOBE_FORMATTER" "Ljava/util/function/BiFunction;") ∈ lw_tbl := lw_at lw_m2 113 rfl
theorem q485 : (Jvm.Cond.static ({ cls := "jdk/internal/util/Preconditions", name := "checkIndex", desc := "(IILjava/util/function/BiFunction;)I" } : Jvm.MethodName)) ∈ lw_all := lw_g (lw_at lw_m2 115 rfl) rfl
theorem q486 : (Jvm.Cond.code ({ cls := "jdk/internal/util/Preconditions", name := "checkIndex", desc := "(IILjava/util/function/BiFunction;)I" } : Jvm.MethodName) prog_32_method_11_code (3 : Nat) (Option.some Jvm.ClassFile.FieldType.int)) ∈ lw_all := lw_g (lw_at lw_m2 116 rfl) rfl
theorem q552 : (Jvm.Cond.static ({ cls := "jdk/internal/util/Preconditions", name := "checkFromToIndex", desc := "(IIILjava/util/function/BiFunction;)I" } : Jvm.MethodName)) ∈ lw_all := lw_g (lw_at lw_m2 182 rfl) rfl
theorem q553 : (Jvm.Cond.code ({ cls := "jdk/internal/util/Preconditions", name := "checkFromToIndex", desc := "(IIILjava/util/function/BiFunction;)I" } : Jvm.MethodName) prog_32_method_12_code (4 : Nat) (Option.some Jvm.ClassFile.FieldType.int)) ∈ lw_all := lw_g (lw_at lw_m2 183 rfl) rfl

/-! java/lang/StringUTF16 -/
set_option maxRecDepth 100000
def RJ6 : String := "java/lang/StringUTF16"
abbrev cJ6_charAt : ByteArray := prog_29_method_83_code
def yJ6_charAt : MethodName := ⟨RJ6, "charAt", "([BI)C"⟩
def dkwJ6_charAt_0 : List UInt8 := [27, 42, 184, 0, 67, 42, 27, 184, 0, 71, 172]
abbrev dktJ6_charAt_0 : List UInt8 := dkwJ6_charAt_0 ++ []
theorem dksJ6_charAt_0 : cJ6_charAt.data.toList.drop 0 = dktJ6_charAt_0 := by decide +kernel
theorem dJ6_charAt_0 : decode cJ6_charAt 0 = .ok (.iload_n 1, 1) := dk_27 (dk_at dksJ6_charAt_0 0 rfl rfl)
theorem dJ6_charAt_1 : decode cJ6_charAt 1 = .ok (.aload_n 0, 1) := dk_42 (dk_at dksJ6_charAt_0 1 rfl rfl)
theorem dJ6_charAt_2 : decode cJ6_charAt 2 = .ok (.invokestatic 67, 3) := dk_184 0 67 (dk_at dksJ6_charAt_0 2 rfl rfl)
theorem dJ6_charAt_5 : decode cJ6_charAt 5 = .ok (.aload_n 0, 1) := dk_42 (dk_at dksJ6_charAt_0 5 rfl rfl)
theorem dJ6_charAt_6 : decode cJ6_charAt 6 = .ok (.iload_n 1, 1) := dk_27 (dk_at dksJ6_charAt_0 6 rfl rfl)
theorem dJ6_charAt_7 : decode cJ6_charAt 7 = .ok (.invokestatic 71, 3) := dk_184 0 71 (dk_at dksJ6_charAt_0 7 rfl rfl)
theorem dJ6_charAt_10 : decode cJ6_charAt 10 = .ok (.ireturn, 1) := dk_172 (dk_at dksJ6_charAt_0 10 rfl rfl)
abbrev cJ6_checkIndex : ByteArray := prog_29_method_91_code
def yJ6_checkIndex : MethodName := ⟨RJ6, "checkIndex", "(I[B)V"⟩
def dkwJ6_checkIndex_0 : List UInt8 := [26, 43, 184, 0, 48, 184, 1, 158, 177]
abbrev dktJ6_checkIndex_0 : List UInt8 := dkwJ6_checkIndex_0 ++ []
theorem dksJ6_checkIndex_0 : cJ6_checkIndex.data.toList.drop 0 = dktJ6_checkIndex_0 := by decide +kernel
theorem dJ6_checkIndex_0 : decode cJ6_checkIndex 0 = .ok (.iload_n 0, 1) := dk_26 (dk_at dksJ6_checkIndex_0 0 rfl rfl)
theorem dJ6_checkIndex_1 : decode cJ6_checkIndex 1 = .ok (.aload_n 1, 1) := dk_43 (dk_at dksJ6_checkIndex_0 1 rfl rfl)
theorem dJ6_checkIndex_2 : decode cJ6_checkIndex 2 = .ok (.invokestatic 48, 3) := dk_184 0 48 (dk_at dksJ6_checkIndex_0 2 rfl rfl)
theorem dJ6_checkIndex_5 : decode cJ6_checkIndex 5 = .ok (.invokestatic 414, 3) := dk_184 1 158 (dk_at dksJ6_checkIndex_0 5 rfl rfl)
theorem dJ6_checkIndex_8 : decode cJ6_checkIndex 8 = .ok (.return_, 1) := dk_177 (dk_at dksJ6_checkIndex_0 8 rfl rfl)
abbrev cJ6_length : ByteArray := prog_29_method_6_code
def yJ6_length : MethodName := ⟨RJ6, "length", "([B)I"⟩
def dkwJ6_length_0 : List UInt8 := [42, 190, 4, 122, 172]
abbrev dktJ6_length_0 : List UInt8 := dkwJ6_length_0 ++ []
theorem dksJ6_length_0 : cJ6_length.data.toList.drop 0 = dktJ6_length_0 := by decide +kernel
theorem dJ6_length_0 : decode cJ6_length 0 = .ok (.aload_n 0, 1) := dk_42 (dk_at dksJ6_length_0 0 rfl rfl)
theorem dJ6_length_1 : decode cJ6_length 1 = .ok (.arraylength, 1) := dk_190 (dk_at dksJ6_length_0 1 rfl rfl)
theorem dJ6_length_2 : decode cJ6_length 2 = .ok (.iconst 1, 1) := dk_4 (dk_at dksJ6_length_0 2 rfl rfl)
theorem dJ6_length_3 : decode cJ6_length 3 = .ok (.ishr, 1) := dk_122 (dk_at dksJ6_length_0 3 rfl rfl)
theorem dJ6_length_4 : decode cJ6_length 4 = .ok (.ireturn, 1) := dk_172 (dk_at dksJ6_length_0 4 rfl rfl)
abbrev cJ6_getChar : ByteArray := prog_29_method_5_code
def yJ6_getChar : MethodName := ⟨RJ6, "getChar", "([BI)C"⟩
def dkwJ6_getChar_2 : List UInt8 := [51, 17, 0, 255, 126, 178, 0, 63, 120, 128, 146, 172]
abbrev dktJ6_getChar_2 : List UInt8 := dkwJ6_getChar_2 ++ []
def dkwJ6_getChar_1 : List UInt8 := [183, 0, 56, 191, 27, 4, 120, 60, 42, 27, 132, 1, 1, 51, 17, 0, 255, 126, 178, 0, 59, 120, 42, 27]
abbrev dktJ6_getChar_1 : List UInt8 := dkwJ6_getChar_1 ++ dktJ6_getChar_2
def dkwJ6_getChar_0 : List UInt8 := [178, 0, 44, 154, 0, 25, 27, 155, 0, 11, 27, 42, 184, 0, 48, 161, 0, 13, 187, 0, 52, 89, 18, 54]
abbrev dktJ6_getChar_0 : List UInt8 := dkwJ6_getChar_0 ++ dktJ6_getChar_1
theorem dksJ6_getChar_0 : cJ6_getChar.data.toList.drop 0 = dktJ6_getChar_0 := by decide +kernel
theorem dksJ6_getChar_1 : cJ6_getChar.data.toList.drop 24 = dktJ6_getChar_1 := dk_seg dksJ6_getChar_0 24 rfl rfl
theorem dksJ6_getChar_2 : cJ6_getChar.data.toList.drop 48 = dktJ6_getChar_2 := dk_seg dksJ6_getChar_1 24 rfl rfl
theorem dJ6_getChar_0 : decode cJ6_getChar 0 = .ok (.getstatic 44, 3) := dk_178 0 44 (dk_at dksJ6_getChar_0 0 rfl rfl)
theorem dJ6_getChar_3 : decode cJ6_getChar 3 = .ok (.ifCond .ne 25, 3) := dk_154 0 25 (dk_at dksJ6_getChar_0 3 rfl rfl)
theorem dJ6_getChar_6 : decode cJ6_getChar 6 = .ok (.iload_n 1, 1) := dk_27 (dk_at dksJ6_getChar_0 6 rfl rfl)
theorem dJ6_getChar_7 : decode cJ6_getChar 7 = .ok (.ifCond .lt 11, 3) := dk_155 0 11 (dk_at dksJ6_getChar_0 7 rfl rfl)
theorem dJ6_getChar_10 : decode cJ6_getChar 10 = .ok (.iload_n 1, 1) := dk_27 (dk_at dksJ6_getChar_0 10 rfl rfl)
theorem dJ6_getChar_11 : decode cJ6_getChar 11 = .ok (.aload_n 0, 1) := dk_42 (dk_at dksJ6_getChar_0 11 rfl rfl)
theorem dJ6_getChar_12 : decode cJ6_getChar 12 = .ok (.invokestatic 48, 3) := dk_184 0 48 (dk_at dksJ6_getChar_0 12 rfl rfl)
theorem dJ6_getChar_15 : decode cJ6_getChar 15 = .ok (.if_icmp .lt 13, 3) := dk_161 0 13 (dk_at dksJ6_getChar_0 15 rfl rfl)
theorem dJ6_getChar_18 : decode cJ6_getChar 18 = .ok (.new 52, 3) := dk_187 0 52 (dk_at dksJ6_getChar_0 18 rfl rfl)
theorem dJ6_getChar_21 : decode cJ6_getChar 21 = .ok (.dup, 1) := dk_89 (dk_at dksJ6_getChar_0 21 rfl rfl)
theorem dJ6_getChar_22 : decode cJ6_getChar 22 = .ok (.ldc 54, 2) := dk_18 54 (dk_at dksJ6_getChar_0 22 rfl rfl)
theorem dJ6_getChar_24 : decode cJ6_getChar 24 = .ok (.invokespecial 56, 3) := dk_183 0 56 (dk_at dksJ6_getChar_1 0 rfl rfl)
theorem dJ6_getChar_27 : decode cJ6_getChar 27 = .ok (.athrow, 1) := dk_191 (dk_at dksJ6_getChar_1 3 rfl rfl)
theorem dJ6_getChar_28 : decode cJ6_getChar 28 = .ok (.iload_n 1, 1) := dk_27 (dk_at dksJ6_getChar_1 4 rfl rfl)
theorem dJ6_getChar_29 : decode cJ6_getChar 29 = .ok (.iconst 1, 1) := dk_4 (dk_at dksJ6_getChar_1 5 rfl rfl)
theorem dJ6_getChar_30 : decode cJ6_getChar 30 = .ok (.ishl, 1) := dk_120 (dk_at dksJ6_getChar_1 6 rfl rfl)
theorem dJ6_getChar_31 : decode cJ6_getChar 31 = .ok (.istore_n 1, 1) := dk_60 (dk_at dksJ6_getChar_1 7 rfl rfl)
theorem dJ6_getChar_32 : decode cJ6_getChar 32 = .ok (.aload_n 0, 1) := dk_42 (dk_at dksJ6_getChar_1 8 rfl rfl)
theorem dJ6_getChar_33 : decode cJ6_getChar 33 = .ok (.iload_n 1, 1) := dk_27 (dk_at dksJ6_getChar_1 9 rfl rfl)
theorem dJ6_getChar_34 : decode cJ6_getChar 34 = .ok (.iinc 1 1, 3) := dk_132 1 1 (dk_at dksJ6_getChar_1 10 rfl rfl)
theorem dJ6_getChar_37 : decode cJ6_getChar 37 = .ok (.baload, 1) := dk_51 (dk_at dksJ6_getChar_1 13 rfl rfl)
theorem dJ6_getChar_38 : decode cJ6_getChar 38 = .ok (.sipush 255, 3) := dk_17 0 255 (dk_at dksJ6_getChar_1 14 rfl rfl)
theorem dJ6_getChar_41 : decode cJ6_getChar 41 = .ok (.iand, 1) := dk_126 (dk_at dksJ6_getChar_1 17 rfl rfl)
theorem dJ6_getChar_42 : decode cJ6_getChar 42 = .ok (.getstatic 59, 3) := dk_178 0 59 (dk_at dksJ6_getChar_1 18 rfl rfl)
theorem dJ6_getChar_45 : decode cJ6_getChar 45 = .ok (.ishl, 1) := dk_120 (dk_at dksJ6_getChar_1 21 rfl rfl)
theorem dJ6_getChar_46 : decode cJ6_getChar 46 = .ok (.aload_n 0, 1) := dk_42 (dk_at dksJ6_getChar_1 22 rfl rfl)
theorem dJ6_getChar_47 : decode cJ6_getChar 47 = .ok (.iload_n 1, 1) := dk_27 (dk_at dksJ6_getChar_1 23 rfl rfl)
theorem dJ6_getChar_48 : decode cJ6_getChar 48 = .ok (.baload, 1) := dk_51 (dk_at dksJ6_getChar_2 0 rfl rfl)
theorem dJ6_getChar_49 : decode cJ6_getChar 49 = .ok (.sipush 255, 3) := dk_17 0 255 (dk_at dksJ6_getChar_2 1 rfl rfl)
theorem dJ6_getChar_52 : decode cJ6_getChar 52 = .ok (.iand, 1) := dk_126 (dk_at dksJ6_getChar_2 4 rfl rfl)
theorem dJ6_getChar_53 : decode cJ6_getChar 53 = .ok (.getstatic 63, 3) := dk_178 0 63 (dk_at dksJ6_getChar_2 5 rfl rfl)
theorem dJ6_getChar_56 : decode cJ6_getChar 56 = .ok (.ishl, 1) := dk_120 (dk_at dksJ6_getChar_2 8 rfl rfl)
theorem dJ6_getChar_57 : decode cJ6_getChar 57 = .ok (.ior, 1) := dk_128 (dk_at dksJ6_getChar_2 9 rfl rfl)
theorem dJ6_getChar_58 : decode cJ6_getChar 58 = .ok (.i2c, 1) := dk_146 (dk_at dksJ6_getChar_2 10 rfl rfl)
theorem dJ6_getChar_59 : decode cJ6_getChar 59 = .ok (.ireturn, 1) := dk_172 (dk_at dksJ6_getChar_2 11 rfl rfl)
abbrev cJ6_indexOf : ByteArray := prog_29_method_40_code
def yJ6_indexOf : MethodName := ⟨RJ6, "indexOf", "([BIII)I"⟩
def dkwJ6_indexOf_1 : List UInt8 := [18, 227, 162, 0, 11, 42, 27, 28, 29, 184, 0, 228, 172, 42, 27, 28, 29, 184, 0, 232, 172]
abbrev dktJ6_indexOf_1 : List UInt8 := dkwJ6_indexOf_1 ++ []
def dkwJ6_indexOf_0 : List UInt8 := [28, 3, 184, 0, 224, 61, 29, 42, 190, 4, 122, 184, 0, 183, 62, 28, 29, 161, 0, 5, 2, 172, 27]
abbrev dktJ6_indexOf_0 : List UInt8 := dkwJ6_indexOf_0 ++ dktJ6_indexOf_1
theorem dksJ6_indexOf_0 : cJ6_indexOf.data.toList.drop 0 = dktJ6_indexOf_0 := by decide +kernel
theorem dksJ6_indexOf_1 : cJ6_indexOf.data.toList.drop 23 = dktJ6_indexOf_1 := dk_seg dksJ6_indexOf_0 23 rfl rfl
theorem dJ6_indexOf_0 : decode cJ6_indexOf 0 = .ok (.iload_n 2, 1) := dk_28 (dk_at dksJ6_indexOf_0 0 rfl rfl)
theorem dJ6_indexOf_1 : decode cJ6_indexOf 1 = .ok (.iconst 0, 1) := dk_3 (dk_at dksJ6_indexOf_0 1 rfl rfl)
theorem dJ6_indexOf_2 : decode cJ6_indexOf 2 = .ok (.invokestatic 224, 3) := dk_184 0 224 (dk_at dksJ6_indexOf_0 2 rfl rfl)
theorem dJ6_indexOf_5 : decode cJ6_indexOf 5 = .ok (.istore_n 2, 1) := dk_61 (dk_at dksJ6_indexOf_0 5 rfl rfl)
theorem dJ6_indexOf_6 : decode cJ6_indexOf 6 = .ok (.iload_n 3, 1) := dk_29 (dk_at dksJ6_indexOf_0 6 rfl rfl)
theorem dJ6_indexOf_7 : decode cJ6_indexOf 7 = .ok (.aload_n 0, 1) := dk_42 (dk_at dksJ6_indexOf_0 7 rfl rfl)
theorem dJ6_indexOf_8 : decode cJ6_indexOf 8 = .ok (.arraylength, 1) := dk_190 (dk_at dksJ6_indexOf_0 8 rfl rfl)
theorem dJ6_indexOf_9 : decode cJ6_indexOf 9 = .ok (.iconst 1, 1) := dk_4 (dk_at dksJ6_indexOf_0 9 rfl rfl)
theorem dJ6_indexOf_10 : decode cJ6_indexOf 10 = .ok (.ishr, 1) := dk_122 (dk_at dksJ6_indexOf_0 10 rfl rfl)
theorem dJ6_indexOf_11 : decode cJ6_indexOf 11 = .ok (.invokestatic 183, 3) := dk_184 0 183 (dk_at dksJ6_indexOf_0 11 rfl rfl)
theorem dJ6_indexOf_14 : decode cJ6_indexOf 14 = .ok (.istore_n 3, 1) := dk_62 (dk_at dksJ6_indexOf_0 14 rfl rfl)
theorem dJ6_indexOf_15 : decode cJ6_indexOf 15 = .ok (.iload_n 2, 1) := dk_28 (dk_at dksJ6_indexOf_0 15 rfl rfl)
theorem dJ6_indexOf_16 : decode cJ6_indexOf 16 = .ok (.iload_n 3, 1) := dk_29 (dk_at dksJ6_indexOf_0 16 rfl rfl)
theorem dJ6_indexOf_17 : decode cJ6_indexOf 17 = .ok (.if_icmp .lt 5, 3) := dk_161 0 5 (dk_at dksJ6_indexOf_0 17 rfl rfl)
theorem dJ6_indexOf_20 : decode cJ6_indexOf 20 = .ok (.iconst (-1), 1) := dk_2 (dk_at dksJ6_indexOf_0 20 rfl rfl)
theorem dJ6_indexOf_21 : decode cJ6_indexOf 21 = .ok (.ireturn, 1) := dk_172 (dk_at dksJ6_indexOf_0 21 rfl rfl)
theorem dJ6_indexOf_22 : decode cJ6_indexOf 22 = .ok (.iload_n 1, 1) := dk_27 (dk_at dksJ6_indexOf_0 22 rfl rfl)
theorem dJ6_indexOf_23 : decode cJ6_indexOf 23 = .ok (.ldc 227, 2) := dk_18 227 (dk_at dksJ6_indexOf_1 0 rfl rfl)
theorem dJ6_indexOf_25 : decode cJ6_indexOf 25 = .ok (.if_icmp .ge 11, 3) := dk_162 0 11 (dk_at dksJ6_indexOf_1 2 rfl rfl)
theorem dJ6_indexOf_28 : decode cJ6_indexOf 28 = .ok (.aload_n 0, 1) := dk_42 (dk_at dksJ6_indexOf_1 5 rfl rfl)
theorem dJ6_indexOf_29 : decode cJ6_indexOf 29 = .ok (.iload_n 1, 1) := dk_27 (dk_at dksJ6_indexOf_1 6 rfl rfl)
theorem dJ6_indexOf_30 : decode cJ6_indexOf 30 = .ok (.iload_n 2, 1) := dk_28 (dk_at dksJ6_indexOf_1 7 rfl rfl)
theorem dJ6_indexOf_31 : decode cJ6_indexOf 31 = .ok (.iload_n 3, 1) := dk_29 (dk_at dksJ6_indexOf_1 8 rfl rfl)
theorem dJ6_indexOf_32 : decode cJ6_indexOf 32 = .ok (.invokestatic 228, 3) := dk_184 0 228 (dk_at dksJ6_indexOf_1 9 rfl rfl)
theorem dJ6_indexOf_35 : decode cJ6_indexOf 35 = .ok (.ireturn, 1) := dk_172 (dk_at dksJ6_indexOf_1 12 rfl rfl)
theorem dJ6_indexOf_36 : decode cJ6_indexOf 36 = .ok (.aload_n 0, 1) := dk_42 (dk_at dksJ6_indexOf_1 13 rfl rfl)
theorem dJ6_indexOf_37 : decode cJ6_indexOf 37 = .ok (.iload_n 1, 1) := dk_27 (dk_at dksJ6_indexOf_1 14 rfl rfl)
theorem dJ6_indexOf_38 : decode cJ6_indexOf 38 = .ok (.iload_n 2, 1) := dk_28 (dk_at dksJ6_indexOf_1 15 rfl rfl)
theorem dJ6_indexOf_39 : decode cJ6_indexOf 39 = .ok (.iload_n 3, 1) := dk_29 (dk_at dksJ6_indexOf_1 16 rfl rfl)
theorem dJ6_indexOf_40 : decode cJ6_indexOf 40 = .ok (.invokestatic 232, 3) := dk_184 0 232 (dk_at dksJ6_indexOf_1 17 rfl rfl)
theorem dJ6_indexOf_43 : decode cJ6_indexOf 43 = .ok (.ireturn, 1) := dk_172 (dk_at dksJ6_indexOf_1 20 rfl rfl)
abbrev cJ6_indexOfChar : ByteArray := prog_29_method_47_code
def yJ6_indexOfChar : MethodName := ⟨RJ6, "indexOfChar", "([BIII)I"⟩
def dkwJ6_indexOfChar_0 : List UInt8 := [28, 29, 42, 184, 0, 96, 42, 27, 28, 29, 184, 0, 244, 172]
abbrev dktJ6_indexOfChar_0 : List UInt8 := dkwJ6_indexOfChar_0 ++ []
theorem dksJ6_indexOfChar_0 : cJ6_indexOfChar.data.toList.drop 0 = dktJ6_indexOfChar_0 := by decide +kernel
theorem dJ6_indexOfChar_0 : decode cJ6_indexOfChar 0 = .ok (.iload_n 2, 1) := dk_28 (dk_at dksJ6_indexOfChar_0 0 rfl rfl)
theorem dJ6_indexOfChar_1 : decode cJ6_indexOfChar 1 = .ok (.iload_n 3, 1) := dk_29 (dk_at dksJ6_indexOfChar_0 1 rfl rfl)
theorem dJ6_indexOfChar_2 : decode cJ6_indexOfChar 2 = .ok (.aload_n 0, 1) := dk_42 (dk_at dksJ6_indexOfChar_0 2 rfl rfl)
theorem dJ6_indexOfChar_3 : decode cJ6_indexOfChar 3 = .ok (.invokestatic 96, 3) := dk_184 0 96 (dk_at dksJ6_indexOfChar_0 3 rfl rfl)
theorem dJ6_indexOfChar_6 : decode cJ6_indexOfChar 6 = .ok (.aload_n 0, 1) := dk_42 (dk_at dksJ6_indexOfChar_0 6 rfl rfl)
theorem dJ6_indexOfChar_7 : decode cJ6_indexOfChar 7 = .ok (.iload_n 1, 1) := dk_27 (dk_at dksJ6_indexOfChar_0 7 rfl rfl)
theorem dJ6_indexOfChar_8 : decode cJ6_indexOfChar 8 = .ok (.iload_n 2, 1) := dk_28 (dk_at dksJ6_indexOfChar_0 8 rfl rfl)
theorem dJ6_indexOfChar_9 : decode cJ6_indexOfChar 9 = .ok (.iload_n 3, 1) := dk_29 (dk_at dksJ6_indexOfChar_0 9 rfl rfl)
theorem dJ6_indexOfChar_10 : decode cJ6_indexOfChar 10 = .ok (.invokestatic 244, 3) := dk_184 0 244 (dk_at dksJ6_indexOfChar_0 10 rfl rfl)
theorem dJ6_indexOfChar_13 : decode cJ6_indexOfChar 13 = .ok (.ireturn, 1) := dk_172 (dk_at dksJ6_indexOfChar_0 13 rfl rfl)
abbrev cJ6_checkBoundsBeginEnd : ByteArray := prog_29_method_93_code
def yJ6_checkBoundsBeginEnd : MethodName := ⟨RJ6, "checkBoundsBeginEnd", "(II[B)V"⟩
def dkwJ6_checkBoundsBeginEnd_0 : List UInt8 := [26, 27, 44, 184, 0, 48, 184, 0, 241, 177]
abbrev dktJ6_checkBoundsBeginEnd_0 : List UInt8 := dkwJ6_checkBoundsBeginEnd_0 ++ []
theorem dksJ6_checkBoundsBeginEnd_0 : cJ6_checkBoundsBeginEnd.data.toList.drop 0 = dktJ6_checkBoundsBeginEnd_0 := by decide +kernel
theorem dJ6_checkBoundsBeginEnd_0 : decode cJ6_checkBoundsBeginEnd 0 = .ok (.iload_n 0, 1) := dk_26 (dk_at dksJ6_checkBoundsBeginEnd_0 0 rfl rfl)
theorem dJ6_checkBoundsBeginEnd_1 : decode cJ6_checkBoundsBeginEnd 1 = .ok (.iload_n 1, 1) := dk_27 (dk_at dksJ6_checkBoundsBeginEnd_0 1 rfl rfl)
theorem dJ6_checkBoundsBeginEnd_2 : decode cJ6_checkBoundsBeginEnd 2 = .ok (.aload_n 2, 1) := dk_44 (dk_at dksJ6_checkBoundsBeginEnd_0 2 rfl rfl)
theorem dJ6_checkBoundsBeginEnd_3 : decode cJ6_checkBoundsBeginEnd 3 = .ok (.invokestatic 48, 3) := dk_184 0 48 (dk_at dksJ6_checkBoundsBeginEnd_0 3 rfl rfl)
theorem dJ6_checkBoundsBeginEnd_6 : decode cJ6_checkBoundsBeginEnd 6 = .ok (.invokestatic 241, 3) := dk_184 0 241 (dk_at dksJ6_checkBoundsBeginEnd_0 6 rfl rfl)
theorem dJ6_checkBoundsBeginEnd_9 : decode cJ6_checkBoundsBeginEnd 9 = .ok (.return_, 1) := dk_177 (dk_at dksJ6_checkBoundsBeginEnd_0 9 rfl rfl)
abbrev cJ6_indexOfCharUnsafe : ByteArray := prog_29_method_48_code
def yJ6_indexOfCharUnsafe : MethodName := ⟨RJ6, "indexOfCharUnsafe", "([BIII)I"⟩
def dkwJ6_indexOfCharUnsafe_1 : List UInt8 := [132, 4, 1, 167, 255, 234, 2, 172]
abbrev dktJ6_indexOfCharUnsafe_1 : List UInt8 := dkwJ6_indexOfCharUnsafe_1 ++ []
def dkwJ6_indexOfCharUnsafe_0 : List UInt8 := [28, 54, 4, 21, 4, 29, 162, 0, 22, 42, 21, 4, 184, 0, 71, 27, 160, 0, 6, 21, 4, 172]
abbrev dktJ6_indexOfCharUnsafe_0 : List UInt8 := dkwJ6_indexOfCharUnsafe_0 ++ dktJ6_indexOfCharUnsafe_1
theorem dksJ6_indexOfCharUnsafe_0 : cJ6_indexOfCharUnsafe.data.toList.drop 0 = dktJ6_indexOfCharUnsafe_0 := by decide +kernel
theorem dksJ6_indexOfCharUnsafe_1 : cJ6_indexOfCharUnsafe.data.toList.drop 22 = dktJ6_indexOfCharUnsafe_1 := dk_seg dksJ6_indexOfCharUnsafe_0 22 rfl rfl
theorem dJ6_indexOfCharUnsafe_0 : decode cJ6_indexOfCharUnsafe 0 = .ok (.iload_n 2, 1) := dk_28 (dk_at dksJ6_indexOfCharUnsafe_0 0 rfl rfl)
theorem dJ6_indexOfCharUnsafe_1 : decode cJ6_indexOfCharUnsafe 1 = .ok (.istore 4, 2) := dk_54 4 (dk_at dksJ6_indexOfCharUnsafe_0 1 rfl rfl)
theorem dJ6_indexOfCharUnsafe_3 : decode cJ6_indexOfCharUnsafe 3 = .ok (.iload 4, 2) := dk_21 4 (dk_at dksJ6_indexOfCharUnsafe_0 3 rfl rfl)
theorem dJ6_indexOfCharUnsafe_5 : decode cJ6_indexOfCharUnsafe 5 = .ok (.iload_n 3, 1) := dk_29 (dk_at dksJ6_indexOfCharUnsafe_0 5 rfl rfl)
theorem dJ6_indexOfCharUnsafe_6 : decode cJ6_indexOfCharUnsafe 6 = .ok (.if_icmp .ge 22, 3) := dk_162 0 22 (dk_at dksJ6_indexOfCharUnsafe_0 6 rfl rfl)
theorem dJ6_indexOfCharUnsafe_9 : decode cJ6_indexOfCharUnsafe 9 = .ok (.aload_n 0, 1) := dk_42 (dk_at dksJ6_indexOfCharUnsafe_0 9 rfl rfl)
theorem dJ6_indexOfCharUnsafe_10 : decode cJ6_indexOfCharUnsafe 10 = .ok (.iload 4, 2) := dk_21 4 (dk_at dksJ6_indexOfCharUnsafe_0 10 rfl rfl)
theorem dJ6_indexOfCharUnsafe_12 : decode cJ6_indexOfCharUnsafe 12 = .ok (.invokestatic 71, 3) := dk_184 0 71 (dk_at dksJ6_indexOfCharUnsafe_0 12 rfl rfl)
theorem dJ6_indexOfCharUnsafe_15 : decode cJ6_indexOfCharUnsafe 15 = .ok (.iload_n 1, 1) := dk_27 (dk_at dksJ6_indexOfCharUnsafe_0 15 rfl rfl)
theorem dJ6_indexOfCharUnsafe_16 : decode cJ6_indexOfCharUnsafe 16 = .ok (.if_icmp .ne 6, 3) := dk_160 0 6 (dk_at dksJ6_indexOfCharUnsafe_0 16 rfl rfl)
theorem dJ6_indexOfCharUnsafe_19 : decode cJ6_indexOfCharUnsafe 19 = .ok (.iload 4, 2) := dk_21 4 (dk_at dksJ6_indexOfCharUnsafe_0 19 rfl rfl)
theorem dJ6_indexOfCharUnsafe_21 : decode cJ6_indexOfCharUnsafe 21 = .ok (.ireturn, 1) := dk_172 (dk_at dksJ6_indexOfCharUnsafe_0 21 rfl rfl)
theorem dJ6_indexOfCharUnsafe_22 : decode cJ6_indexOfCharUnsafe 22 = .ok (.iinc 4 1, 3) := dk_132 4 1 (dk_at dksJ6_indexOfCharUnsafe_1 0 rfl rfl)
theorem dJ6_indexOfCharUnsafe_25 : decode cJ6_indexOfCharUnsafe 25 = .ok (.goto (-22), 3) := dk_167 255 234 (dk_at dksJ6_indexOfCharUnsafe_1 3 rfl rfl)
theorem dJ6_indexOfCharUnsafe_28 : decode cJ6_indexOfCharUnsafe 28 = .ok (.iconst (-1), 1) := dk_2 (dk_at dksJ6_indexOfCharUnsafe_1 6 rfl rfl)
theorem dJ6_indexOfCharUnsafe_29 : decode cJ6_indexOfCharUnsafe 29 = .ok (.ireturn, 1) := dk_172 (dk_at dksJ6_indexOfCharUnsafe_1 7 rfl rfl)
abbrev cJ6_indexOfSupplementary : ByteArray := prog_29_method_49_code
def yJ6_indexOfSupplementary : MethodName := ⟨RJ6, "indexOfSupplementary", "([BIII)I"⟩
def dkwJ6_indexOfSupplementary_3 : List UInt8 := [167, 255, 218, 2, 172]
abbrev dktJ6_indexOfSupplementary_3 : List UInt8 := dkwJ6_indexOfSupplementary_3 ++ []
def dkwJ6_indexOfSupplementary_2 : List UInt8 := [160, 0, 19, 42, 21, 6, 4, 96, 184, 0, 71, 21, 5, 160, 0, 6, 21, 6, 172, 132, 6, 1]
abbrev dktJ6_indexOfSupplementary_2 : List UInt8 := dkwJ6_indexOfSupplementary_2 ++ dktJ6_indexOfSupplementary_3
def dkwJ6_indexOfSupplementary_1 : List UInt8 := [184, 0, 96, 28, 54, 6, 21, 6, 29, 4, 100, 162, 0, 36, 42, 21, 6, 184, 0, 71, 21, 4]
abbrev dktJ6_indexOfSupplementary_1 : List UInt8 := dkwJ6_indexOfSupplementary_1 ++ dktJ6_indexOfSupplementary_2
def dkwJ6_indexOfSupplementary_0 : List UInt8 := [27, 184, 0, 164, 153, 0, 65, 27, 184, 0, 157, 54, 4, 27, 184, 0, 161, 54, 5, 28, 29, 42]
abbrev dktJ6_indexOfSupplementary_0 : List UInt8 := dkwJ6_indexOfSupplementary_0 ++ dktJ6_indexOfSupplementary_1
theorem dksJ6_indexOfSupplementary_0 : cJ6_indexOfSupplementary.data.toList.drop 0 = dktJ6_indexOfSupplementary_0 := by decide +kernel
theorem dksJ6_indexOfSupplementary_1 : cJ6_indexOfSupplementary.data.toList.drop 22 = dktJ6_indexOfSupplementary_1 := dk_seg dksJ6_indexOfSupplementary_0 22 rfl rfl
theorem dksJ6_indexOfSupplementary_2 : cJ6_indexOfSupplementary.data.toList.drop 44 = dktJ6_indexOfSupplementary_2 := dk_seg dksJ6_indexOfSupplementary_1 22 rfl rfl
theorem dksJ6_indexOfSupplementary_3 : cJ6_indexOfSupplementary.data.toList.drop 66 = dktJ6_indexOfSupplementary_3 := dk_seg dksJ6_indexOfSupplementary_2 22 rfl rfl
theorem dJ6_indexOfSupplementary_0 : decode cJ6_indexOfSupplementary 0 = .ok (.iload_n 1, 1) := dk_27 (dk_at dksJ6_indexOfSupplementary_0 0 rfl rfl)
theorem dJ6_indexOfSupplementary_1 : decode cJ6_indexOfSupplementary 1 = .ok (.invokestatic 164, 3) := dk_184 0 164 (dk_at dksJ6_indexOfSupplementary_0 1 rfl rfl)
theorem dJ6_indexOfSupplementary_4 : decode cJ6_indexOfSupplementary 4 = .ok (.ifCond .eq 65, 3) := dk_153 0 65 (dk_at dksJ6_indexOfSupplementary_0 4 rfl rfl)
theorem dJ6_indexOfSupplementary_7 : decode cJ6_indexOfSupplementary 7 = .ok (.iload_n 1, 1) := dk_27 (dk_at dksJ6_indexOfSupplementary_0 7 rfl rfl)
theorem dJ6_indexOfSupplementary_8 : decode cJ6_indexOfSupplementary 8 = .ok (.invokestatic 157, 3) := dk_184 0 157 (dk_at dksJ6_indexOfSupplementary_0 8 rfl rfl)
theorem dJ6_indexOfSupplementary_11 : decode cJ6_indexOfSupplementary 11 = .ok (.istore 4, 2) := dk_54 4 (dk_at dksJ6_indexOfSupplementary_0 11 rfl rfl)
theorem dJ6_indexOfSupplementary_13 : decode cJ6_indexOfSupplementary 13 = .ok (.iload_n 1, 1) := dk_27 (dk_at dksJ6_indexOfSupplementary_0 13 rfl rfl)
theorem dJ6_indexOfSupplementary_14 : decode cJ6_indexOfSupplementary 14 = .ok (.invokestatic 161, 3) := dk_184 0 161 (dk_at dksJ6_indexOfSupplementary_0 14 rfl rfl)
theorem dJ6_indexOfSupplementary_17 : decode cJ6_indexOfSupplementary 17 = .ok (.istore 5, 2) := dk_54 5 (dk_at dksJ6_indexOfSupplementary_0 17 rfl rfl)
theorem dJ6_indexOfSupplementary_19 : decode cJ6_indexOfSupplementary 19 = .ok (.iload_n 2, 1) := dk_28 (dk_at dksJ6_indexOfSupplementary_0 19 rfl rfl)
theorem dJ6_indexOfSupplementary_20 : decode cJ6_indexOfSupplementary 20 = .ok (.iload_n 3, 1) := dk_29 (dk_at dksJ6_indexOfSupplementary_0 20 rfl rfl)
theorem dJ6_indexOfSupplementary_21 : decode cJ6_indexOfSupplementary 21 = .ok (.aload_n 0, 1) := dk_42 (dk_at dksJ6_indexOfSupplementary_0 21 rfl rfl)
theorem dJ6_indexOfSupplementary_22 : decode cJ6_indexOfSupplementary 22 = .ok (.invokestatic 96, 3) := dk_184 0 96 (dk_at dksJ6_indexOfSupplementary_1 0 rfl rfl)
theorem dJ6_indexOfSupplementary_25 : decode cJ6_indexOfSupplementary 25 = .ok (.iload_n 2, 1) := dk_28 (dk_at dksJ6_indexOfSupplementary_1 3 rfl rfl)
theorem dJ6_indexOfSupplementary_26 : decode cJ6_indexOfSupplementary 26 = .ok (.istore 6, 2) := dk_54 6 (dk_at dksJ6_indexOfSupplementary_1 4 rfl rfl)
theorem dJ6_indexOfSupplementary_28 : decode cJ6_indexOfSupplementary 28 = .ok (.iload 6, 2) := dk_21 6 (dk_at dksJ6_indexOfSupplementary_1 6 rfl rfl)
theorem dJ6_indexOfSupplementary_30 : decode cJ6_indexOfSupplementary 30 = .ok (.iload_n 3, 1) := dk_29 (dk_at dksJ6_indexOfSupplementary_1 8 rfl rfl)
theorem dJ6_indexOfSupplementary_31 : decode cJ6_indexOfSupplementary 31 = .ok (.iconst 1, 1) := dk_4 (dk_at dksJ6_indexOfSupplementary_1 9 rfl rfl)
theorem dJ6_indexOfSupplementary_32 : decode cJ6_indexOfSupplementary 32 = .ok (.isub, 1) := dk_100 (dk_at dksJ6_indexOfSupplementary_1 10 rfl rfl)
theorem dJ6_indexOfSupplementary_33 : decode cJ6_indexOfSupplementary 33 = .ok (.if_icmp .ge 36, 3) := dk_162 0 36 (dk_at dksJ6_indexOfSupplementary_1 11 rfl rfl)
theorem dJ6_indexOfSupplementary_36 : decode cJ6_indexOfSupplementary 36 = .ok (.aload_n 0, 1) := dk_42 (dk_at dksJ6_indexOfSupplementary_1 14 rfl rfl)
theorem dJ6_indexOfSupplementary_37 : decode cJ6_indexOfSupplementary 37 = .ok (.iload 6, 2) := dk_21 6 (dk_at dksJ6_indexOfSupplementary_1 15 rfl rfl)
theorem dJ6_indexOfSupplementary_39 : decode cJ6_indexOfSupplementary 39 = .ok (.invokestatic 71, 3) := dk_184 0 71 (dk_at dksJ6_indexOfSupplementary_1 17 rfl rfl)
theorem dJ6_indexOfSupplementary_42 : decode cJ6_indexOfSupplementary 42 = .ok (.iload 4, 2) := dk_21 4 (dk_at dksJ6_indexOfSupplementary_1 20 rfl rfl)
theorem dJ6_indexOfSupplementary_44 : decode cJ6_indexOfSupplementary 44 = .ok (.if_icmp .ne 19, 3) := dk_160 0 19 (dk_at dksJ6_indexOfSupplementary_2 0 rfl rfl)
theorem dJ6_indexOfSupplementary_47 : decode cJ6_indexOfSupplementary 47 = .ok (.aload_n 0, 1) := dk_42 (dk_at dksJ6_indexOfSupplementary_2 3 rfl rfl)
theorem dJ6_indexOfSupplementary_48 : decode cJ6_indexOfSupplementary 48 = .ok (.iload 6, 2) := dk_21 6 (dk_at dksJ6_indexOfSupplementary_2 4 rfl rfl)
theorem dJ6_indexOfSupplementary_50 : decode cJ6_indexOfSupplementary 50 = .ok (.iconst 1, 1) := dk_4 (dk_at dksJ6_indexOfSupplementary_2 6 rfl rfl)
theorem dJ6_indexOfSupplementary_51 : decode cJ6_indexOfSupplementary 51 = .ok (.iadd, 1) := dk_96 (dk_at dksJ6_indexOfSupplementary_2 7 rfl rfl)
theorem dJ6_indexOfSupplementary_52 : decode cJ6_indexOfSupplementary 52 = .ok (.invokestatic 71, 3) := dk_184 0 71 (dk_at dksJ6_indexOfSupplementary_2 8 rfl rfl)
theorem dJ6_indexOfSupplementary_55 : decode cJ6_indexOfSupplementary 55 = .ok (.iload 5, 2) := dk_21 5 (dk_at dksJ6_indexOfSupplementary_2 11 rfl rfl)
theorem dJ6_indexOfSupplementary_57 : decode cJ6_indexOfSupplementary 57 = .ok (.if_icmp .ne 6, 3) := dk_160 0 6 (dk_at dksJ6_indexOfSupplementary_2 13 rfl rfl)
theorem dJ6_indexOfSupplementary_60 : decode cJ6_indexOfSupplementary 60 = .ok (.iload 6, 2) := dk_21 6 (dk_at dksJ6_indexOfSupplementary_2 16 rfl rfl)
theorem dJ6_indexOfSupplementary_62 : decode cJ6_indexOfSupplementary 62 = .ok (.ireturn, 1) := dk_172 (dk_at dksJ6_indexOfSupplementary_2 18 rfl rfl)
theorem dJ6_indexOfSupplementary_63 : decode cJ6_indexOfSupplementary 63 = .ok (.iinc 6 1, 3) := dk_132 6 1 (dk_at dksJ6_indexOfSupplementary_2 19 rfl rfl)
theorem dJ6_indexOfSupplementary_66 : decode cJ6_indexOfSupplementary 66 = .ok (.goto (-38), 3) := dk_167 255 218 (dk_at dksJ6_indexOfSupplementary_3 0 rfl rfl)
theorem dJ6_indexOfSupplementary_69 : decode cJ6_indexOfSupplementary 69 = .ok (.iconst (-1), 1) := dk_2 (dk_at dksJ6_indexOfSupplementary_3 3 rfl rfl)
theorem dJ6_indexOfSupplementary_70 : decode cJ6_indexOfSupplementary 70 = .ok (.ireturn, 1) := dk_172 (dk_at dksJ6_indexOfSupplementary_3 4 rfl rfl)
theorem q140 : (Jvm.Cond.initialized "java/lang/StringUTF16") ∈ lw_all := lw_g (lw_at lw_m1 10 rfl) rfl
theorem q488 : (Jvm.Cond.static ({ cls := "java/lang/StringUTF16", name := "charAt", desc := "([BI)C" } : Jvm.MethodName)) ∈ lw_all := lw_g (lw_at lw_m2 118 rfl) rfl
theorem q489 : (Jvm.Cond.code ({ cls := "java/lang/StringUTF16", name := "charAt", desc := "([BI)C" } : Jvm.MethodName) prog_29_method_83_code (2 : Nat) (Option.some Jvm.ClassFile.FieldType.char)) ∈ lw_all := lw_g (lw_at lw_m2 119 rfl) rfl
theorem q490 : (Jvm.Cond.methodLink "java/lang/StringUTF16" (67 : Nat) ({ cls := "java/lang/StringUTF16", name := "checkIndex", desc := "(I[B)V" } : Jvm.MethodName)) ∈ lw_all := lw_g (lw_at lw_m2 120 rfl) rfl
theorem q491 : (Jvm.Cond.static ({ cls := "java/lang/StringUTF16", name := "checkIndex", desc := "(I[B)V" } : Jvm.MethodName)) ∈ lw_all := lw_g (lw_at lw_m2 121 rfl) rfl
theorem q492 : (Jvm.Cond.code ({ cls := "java/lang/StringUTF16", name := "checkIndex", desc := "(I[B)V" } : Jvm.MethodName) prog_29_method_91_code (2 : Nat) (Option.none : Option Jvm.ClassFile.FieldType)) ∈ lw_all := lw_g (lw_at lw_m2 122 rfl) rfl
theorem q493 : (Jvm.Cond.methodLink "java/lang/StringUTF16" (48 : Nat) ({ cls := "java/lang/StringUTF16", name := "length", desc := "([B)I" } : Jvm.MethodName)) ∈ lw_all := lw_g (lw_at lw_m2 123 rfl) rfl
theorem q494 : (Jvm.Cond.static ({ cls := "java/lang/StringUTF16", name := "length", desc := "([B)I" } : Jvm.MethodName)) ∈ lw_all := lw_g (lw_at lw_m2 124 rfl) rfl
theorem q495 : (Jvm.Cond.code ({ cls := "java/lang/StringUTF16", name := "length", desc := "([B)I" } : Jvm.MethodName) prog_29_method_6_code (1 : Nat) (Option.some Jvm.ClassFile.FieldType.int)) ∈ lw_all := lw_g (lw_at lw_m2 125 rfl) rfl
theorem q496 : (Jvm.Cond.methodLink "java/lang/StringUTF16" (414 : Nat) ({ cls := "java/lang/String", name := "checkIndex", desc := "(II)V" } : Jvm.MethodName)) ∈ lw_all := lw_g (lw_at lw_m2 126 rfl) rfl
theorem q497 : (Jvm.Cond.methodLink "java/lang/StringUTF16" (71 : Nat) ({ cls := "java/lang/StringUTF16", name := "getChar", desc := "([BI)C" } : Jvm.MethodName)) ∈ lw_all := lw_g (lw_at lw_m2 127 rfl) rfl
theorem q498 : (Jvm.Cond.static ({ cls := "java/lang/StringUTF16", name := "getChar", desc := "([BI)C" } : Jvm.MethodName)) ∈ lw_all := lw_g (lw_at lw_m2 128 rfl) rfl
theorem q499 : (Jvm.Cond.code ({ cls := "java/lang/StringUTF16", name := "getChar", desc := "([BI)C" } : Jvm.MethodName) prog_29_method_5_code (2 : Nat) (Option.some Jvm.ClassFile.FieldType.char)) ∈ lw_all := lw_g (lw_at lw_m2 129 rfl) rfl
theorem q500 : (Jvm.Cond.fieldLink "java/lang/StringUTF16" (44 : Nat) "java/lang/StringUTF16" "$assertionsDisabled" "Z") ∈ lw_all := lw_g (lw_at lw_m2 130 rfl) rfl
theorem q501 : (Jvm.Cond.laysStatic "java/lang/StringUTF16" "$assertionsDisabled" "Z") ∈ lw_tbl := lw_at lw_m2 131 rfl
theorem q502 : (Jvm.Cond.fieldLink "java/lang/StringUTF16" (59 : Nat) "java/lang/StringUTF16" "HI_BYTE_SHIFT" "I") ∈ lw_all := lw_g (lw_at lw_m2 132 rfl) rfl
theorem q503 : (Jvm.Cond.laysStatic "java/lang/StringUTF16" "HI_BYTE_SHIFT" "I") ∈ lw_tbl := lw_at lw_m2 133 rfl
theorem q504 : (Jvm.Cond.fieldLink "java/lang/StringUTF16" (63 : Nat) "java/lang/StringUTF16" "LO_BYTE_SHIFT" "I") ∈ lw_all := lw_g (lw_at lw_m2 134 rfl) rfl
theorem q505 : (Jvm.Cond.laysStatic "java/lang/StringUTF16" "LO_BYTE_SHIFT" "I") ∈ lw_tbl := lw_at lw_m2 135 rfl
theorem q537 : (Jvm.Cond.static ({ cls := "java/lang/StringUTF16", name := "indexOf", desc := "([BIII)I" } : Jvm.MethodName)) ∈ lw_all := lw_g (lw_at lw_m2 167 rfl) rfl
theorem q538 : (Jvm.Cond.code ({ cls := "java/lang/StringUTF16", name := "indexOf", desc := "([BIII)I" } : Jvm.MethodName) prog_29_method_40_code (4 : Nat) (Option.some Jvm.ClassFile.FieldType.int)) ∈ lw_all := lw_g (lw_at lw_m2 168 rfl) rfl
theorem q539 : (Jvm.Cond.methodLink "java/lang/StringUTF16" (224 : Nat) ({ cls := "java/lang/Math", name := "max", desc := "(II)I" } : Jvm.MethodName)) ∈ lw_all := lw_g (lw_at lw_m2 169 rfl) rfl
theorem q540 : (Jvm.Cond.methodLink "java/lang/StringUTF16" (183 : Nat) ({ cls := "java/lang/Math", name := "min", desc := "(II)I" } : Jvm.MethodName)) ∈ lw_all := lw_g (lw_at lw_m2 170 rfl) rfl
theorem q541 : (Jvm.Cond.constant "java/lang/StringUTF16" (227 : Nat) (65536 : Int32)) ∈ lw_all := lw_g (lw_at lw_m2 171 rfl) rfl
theorem q542 : (Jvm.Cond.methodLink "java/lang/StringUTF16" (228 : Nat) ({ cls := "java/lang/StringUTF16", name := "indexOfChar", desc := "([BIII)I" } : Jvm.MethodName)) ∈ lw_all := lw_g (lw_at lw_m2 172 rfl) rfl
theorem q543 : (Jvm.Cond.static ({ cls := "java/lang/StringUTF16", name := "indexOfChar", desc := "([BIII)I" } : Jvm.MethodName)) ∈ lw_all := lw_g (lw_at lw_m2 173 rfl) rfl
theorem q544 : (Jvm.Cond.code ({ cls := "java/lang/StringUTF16", name := "indexOfChar", desc := "([BIII)I" } : Jvm.MethodName) prog_29_method_47_code (4 : Nat) (Option.some Jvm.ClassFile.FieldType.int)) ∈ lw_all := lw_g (lw_at lw_m2 174 rfl) rfl
theorem q545 : (Jvm.Cond.methodLink "java/lang/StringUTF16" (96 : Nat) ({ cls := "java/lang/StringUTF16", name := "checkBoundsBeginEnd", desc := "(II[B)V" } : Jvm.MethodName)) ∈ lw_all := lw_g (lw_at lw_m2 175 rfl) rfl
theorem q546 : (Jvm.Cond.static ({ cls := "java/lang/StringUTF16", name := "checkBoundsBeginEnd", desc := "(II[B)V" } : Jvm.MethodName)) ∈ lw_all := lw_g (lw_at lw_m2 176 rfl) rfl
theorem q547 : (Jvm.Cond.code ({ cls := "java/lang/StringUTF16", name := "checkBoundsBeginEnd", desc := "(II[B)V" } : Jvm.MethodName) prog_29_method_93_code (3 : Nat) (Option.none : Option Jvm.ClassFile.FieldType)) ∈ lw_all := lw_g (lw_at lw_m2 177 rfl) rfl
theorem q548 : (Jvm.Cond.methodLink "java/lang/StringUTF16" (241 : Nat) ({ cls := "java/lang/String", name := "checkBoundsBeginEnd", desc := "(III)V" } : Jvm.MethodName)) ∈ lw_all := lw_g (lw_at lw_m2 178 rfl) rfl
theorem q554 : (Jvm.Cond.methodLink "java/lang/StringUTF16" (244 : Nat) ({ cls := "java/lang/StringUTF16", name := "indexOfCharUnsafe", desc := "([BIII)I" } : Jvm.MethodName)) ∈ lw_all := lw_g (lw_at lw_m2 184 rfl) rfl
theorem q555 : (Jvm.Cond.static ({ cls := "java/lang/StringUTF16", name := "indexOfCharUnsafe", desc := "([BIII)I" } : Jvm.MethodName)) ∈ lw_all := lw_g (lw_at lw_m2 185 rfl) rfl
theorem q556 : (Jvm.Cond.code ({ cls := "java/lang/StringUTF16", name := "indexOfCharUnsafe", desc := "([BIII)I" } : Jvm.MethodName) prog_29_method_48_code (5 : Nat) (Option.some Jvm.ClassFile.FieldType.int)) ∈ lw_all := lw_g (lw_at lw_m2 186 rfl) rfl
theorem q557 : (Jvm.Cond.methodLink "java/lang/StringUTF16" (232 : Nat) ({ cls := "java/lang/StringUTF16", name := "indexOfSupplementary", desc := "([BIII)I" } : Jvm.MethodName)) ∈ lw_all := lw_g (lw_at lw_m2 187 rfl) rfl
theorem q558 : (Jvm.Cond.static ({ cls := "java/lang/StringUTF16", name := "indexOfSupplementary", desc := "([BIII)I" } : Jvm.MethodName)) ∈ lw_all := lw_g (lw_at lw_m2 188 rfl) rfl
theorem q559 : (Jvm.Cond.code ({ cls := "java/lang/StringUTF16", name := "indexOfSupplementary", desc := "([BIII)I" } : Jvm.MethodName) prog_29_method_49_code (7 : Nat) (Option.some Jvm.ClassFile.FieldType.int)) ∈ lw_all := lw_g (lw_at lw_m2 189 rfl) rfl
theorem q560 : (Jvm.Cond.methodLink "java/lang/StringUTF16" (164 : Nat) ({ cls := "java/lang/Character", name := "isValidCodePoint", desc := "(I)Z" } : Jvm.MethodName)) ∈ lw_all := lw_g (lw_at lw_m2 190 rfl) rfl
theorem q563 : (Jvm.Cond.methodLink "java/lang/StringUTF16" (157 : Nat) ({ cls := "java/lang/Character", name := "highSurrogate", desc := "(I)C" } : Jvm.MethodName)) ∈ lw_all := lw_g (lw_at lw_m2 193 rfl) rfl
theorem q567 : (Jvm.Cond.methodLink "java/lang/StringUTF16" (161 : Nat) ({ cls := "java/lang/Character", name := "lowSurrogate", desc := "(I)C" } : Jvm.MethodName)) ∈ lw_all := lw_g (lw_at lw_m2 197 rfl) rfl

/-! java/lang/Math -/
set_option maxRecDepth 100000
def RJ7 : String := "java/lang/Math"
abbrev cJ7_min : ByteArray := prog_23_method_69_code
def yJ7_min : MethodName := ⟨RJ7, "min", "(II)I"⟩
def dkwJ7_min_0 : List UInt8 := [26, 27, 163, 0, 7, 26, 167, 0, 4, 27, 172]
abbrev dktJ7_min_0 : List UInt8 := dkwJ7_min_0 ++ []
theorem dksJ7_min_0 : cJ7_min.data.toList.drop 0 = dktJ7_min_0 := by decide +kernel
theorem dJ7_min_0 : decode cJ7_min 0 = .ok (.iload_n 0, 1) := dk_26 (dk_at dksJ7_min_0 0 rfl rfl)
theorem dJ7_min_1 : decode cJ7_min 1 = .ok (.iload_n 1, 1) := dk_27 (dk_at dksJ7_min_0 1 rfl rfl)
theorem dJ7_min_2 : decode cJ7_min 2 = .ok (.if_icmp .gt 7, 3) := dk_163 0 7 (dk_at dksJ7_min_0 2 rfl rfl)
theorem dJ7_min_5 : decode cJ7_min 5 = .ok (.iload_n 0, 1) := dk_26 (dk_at dksJ7_min_0 5 rfl rfl)
theorem dJ7_min_6 : decode cJ7_min 6 = .ok (.goto 4, 3) := dk_167 0 4 (dk_at dksJ7_min_0 6 rfl rfl)
theorem dJ7_min_9 : decode cJ7_min 9 = .ok (.iload_n 1, 1) := dk_27 (dk_at dksJ7_min_0 9 rfl rfl)
theorem dJ7_min_10 : decode cJ7_min 10 = .ok (.ireturn, 1) := dk_172 (dk_at dksJ7_min_0 10 rfl rfl)
abbrev cJ7_max : ByteArray := prog_23_method_65_code
def yJ7_max : MethodName := ⟨RJ7, "max", "(II)I"⟩
def dkwJ7_max_0 : List UInt8 := [26, 27, 161, 0, 7, 26, 167, 0, 4, 27, 172]
abbrev dktJ7_max_0 : List UInt8 := dkwJ7_max_0 ++ []
theorem dksJ7_max_0 : cJ7_max.data.toList.drop 0 = dktJ7_max_0 := by decide +kernel
theorem dJ7_max_0 : decode cJ7_max 0 = .ok (.iload_n 0, 1) := dk_26 (dk_at dksJ7_max_0 0 rfl rfl)
theorem dJ7_max_1 : decode cJ7_max 1 = .ok (.iload_n 1, 1) := dk_27 (dk_at dksJ7_max_0 1 rfl rfl)
theorem dJ7_max_2 : decode cJ7_max 2 = .ok (.if_icmp .lt 7, 3) := dk_161 0 7 (dk_at dksJ7_max_0 2 rfl rfl)
theorem dJ7_max_5 : decode cJ7_max 5 = .ok (.iload_n 0, 1) := dk_26 (dk_at dksJ7_max_0 5 rfl rfl)
theorem dJ7_max_6 : decode cJ7_max 6 = .ok (.goto 4, 3) := dk_167 0 4 (dk_at dksJ7_max_0 6 rfl rfl)
theorem dJ7_max_9 : decode cJ7_max 9 = .ok (.iload_n 1, 1) := dk_27 (dk_at dksJ7_max_0 9 rfl rfl)
theorem dJ7_max_10 : decode cJ7_max 10 = .ok (.ireturn, 1) := dk_172 (dk_at dksJ7_max_0 10 rfl rfl)
theorem q141 : (Jvm.Cond.initialized "java/lang/Math") ∈ lw_all := lw_g (lw_at lw_m1 11 rfl) rfl
theorem q272 : (Jvm.Cond.static ({ cls := "java/lang/Math", name := "min", desc := "(II)I" } : Jvm.MethodName)) ∈ lw_all := lw_g (lw_at lw_m1 142 rfl) rfl
theorem q273 : (Jvm.Cond.code ({ cls := "java/lang/Math", name := "min", desc := "(II)I" } : Jvm.MethodName) prog_23_method_69_code (2 : Nat) (Option.some Jvm.ClassFile.FieldType.int)) ∈ lw_all := lw_g (lw_at lw_m1 143 rfl) rfl
theorem q361 : (Jvm.Cond.static ({ cls := "java/lang/Math", name := "max", desc := "(II)I" } : Jvm.MethodName)) ∈ lw_all := lw_g (lw_at lw_m1 231 rfl) rfl
theorem q362 : (Jvm.Cond.code ({ cls := "java/lang/Math", name := "max", desc := "(II)I" } : Jvm.MethodName) prog_23_method_65_code (2 : Nat) (Option.some Jvm.ClassFile.FieldType.int)) ∈ lw_all := lw_g (lw_at lw_m1 232 rfl) rfl

/-! java/lang/Character -/
set_option maxRecDepth 100000
def RJ8 : String := "java/lang/Character"
abbrev cJ8_isValidCodePoint : ByteArray := prog_18_method_11_code
def yJ8_isValidCodePoint : MethodName := ⟨RJ8, "isValidCodePoint", "(I)Z"⟩
def dkwJ8_isValidCodePoint_0 : List UInt8 := [26, 16, 16, 124, 60, 27, 16, 17, 162, 0, 7, 4, 167, 0, 4, 3, 172]
abbrev dktJ8_isValidCodePoint_0 : List UInt8 := dkwJ8_isValidCodePoint_0 ++ []
theorem dksJ8_isValidCodePoint_0 : cJ8_isValidCodePoint.data.toList.drop 0 = dktJ8_isValidCodePoint_0 := by decide +kernel
theorem dJ8_isValidCodePoint_0 : decode cJ8_isValidCodePoint 0 = .ok (.iload_n 0, 1) := dk_26 (dk_at dksJ8_isValidCodePoint_0 0 rfl rfl)
theorem dJ8_isValidCodePoint_1 : decode cJ8_isValidCodePoint 1 = .ok (.bipush 16, 2) := dk_16 16 (dk_at dksJ8_isValidCodePoint_0 1 rfl rfl)
theorem dJ8_isValidCodePoint_3 : decode cJ8_isValidCodePoint 3 = .ok (.iushr, 1) := dk_124 (dk_at dksJ8_isValidCodePoint_0 3 rfl rfl)
theorem dJ8_isValidCodePoint_4 : decode cJ8_isValidCodePoint 4 = .ok (.istore_n 1, 1) := dk_60 (dk_at dksJ8_isValidCodePoint_0 4 rfl rfl)
theorem dJ8_isValidCodePoint_5 : decode cJ8_isValidCodePoint 5 = .ok (.iload_n 1, 1) := dk_27 (dk_at dksJ8_isValidCodePoint_0 5 rfl rfl)
theorem dJ8_isValidCodePoint_6 : decode cJ8_isValidCodePoint 6 = .ok (.bipush 17, 2) := dk_16 17 (dk_at dksJ8_isValidCodePoint_0 6 rfl rfl)
theorem dJ8_isValidCodePoint_8 : decode cJ8_isValidCodePoint 8 = .ok (.if_icmp .ge 7, 3) := dk_162 0 7 (dk_at dksJ8_isValidCodePoint_0 8 rfl rfl)
theorem dJ8_isValidCodePoint_11 : decode cJ8_isValidCodePoint 11 = .ok (.iconst 1, 1) := dk_4 (dk_at dksJ8_isValidCodePoint_0 11 rfl rfl)
theorem dJ8_isValidCodePoint_12 : decode cJ8_isValidCodePoint 12 = .ok (.goto 4, 3) := dk_167 0 4 (dk_at dksJ8_isValidCodePoint_0 12 rfl rfl)
theorem dJ8_isValidCodePoint_15 : decode cJ8_isValidCodePoint 15 = .ok (.iconst 0, 1) := dk_3 (dk_at dksJ8_isValidCodePoint_0 15 rfl rfl)
theorem dJ8_isValidCodePoint_16 : decode cJ8_isValidCodePoint 16 = .ok (.ireturn, 1) := dk_172 (dk_at dksJ8_isValidCodePoint_0 16 rfl rfl)
abbrev cJ8_highSurrogate : ByteArray := prog_18_method_28_code
def yJ8_highSurrogate : MethodName := ⟨RJ8, "highSurrogate", "(I)C"⟩
def dkwJ8_highSurrogate_0 : List UInt8 := [26, 16, 10, 124, 18, 110, 96, 146, 172]
abbrev dktJ8_highSurrogate_0 : List UInt8 := dkwJ8_highSurrogate_0 ++ []
theorem dksJ8_highSurrogate_0 : cJ8_highSurrogate.data.toList.drop 0 = dktJ8_highSurrogate_0 := by decide +kernel
theorem dJ8_highSurrogate_0 : decode cJ8_highSurrogate 0 = .ok (.iload_n 0, 1) := dk_26 (dk_at dksJ8_highSurrogate_0 0 rfl rfl)
theorem dJ8_highSurrogate_1 : decode cJ8_highSurrogate 1 = .ok (.bipush 10, 2) := dk_16 10 (dk_at dksJ8_highSurrogate_0 1 rfl rfl)
theorem dJ8_highSurrogate_3 : decode cJ8_highSurrogate 3 = .ok (.iushr, 1) := dk_124 (dk_at dksJ8_highSurrogate_0 3 rfl rfl)
theorem dJ8_highSurrogate_4 : decode cJ8_highSurrogate 4 = .ok (.ldc 110, 2) := dk_18 110 (dk_at dksJ8_highSurrogate_0 4 rfl rfl)
theorem dJ8_highSurrogate_6 : decode cJ8_highSurrogate 6 = .ok (.iadd, 1) := dk_96 (dk_at dksJ8_highSurrogate_0 6 rfl rfl)
theorem dJ8_highSurrogate_7 : decode cJ8_highSurrogate 7 = .ok (.i2c, 1) := dk_146 (dk_at dksJ8_highSurrogate_0 7 rfl rfl)
theorem dJ8_highSurrogate_8 : decode cJ8_highSurrogate 8 = .ok (.ireturn, 1) := dk_172 (dk_at dksJ8_highSurrogate_0 8 rfl rfl)
abbrev cJ8_lowSurrogate : ByteArray := prog_18_method_29_code
def yJ8_lowSurrogate : MethodName := ⟨RJ8, "lowSurrogate", "(I)C"⟩
def dkwJ8_lowSurrogate_0 : List UInt8 := [26, 17, 3, 255, 126, 18, 76, 96, 146, 172]
abbrev dktJ8_lowSurrogate_0 : List UInt8 := dkwJ8_lowSurrogate_0 ++ []
theorem dksJ8_lowSurrogate_0 : cJ8_lowSurrogate.data.toList.drop 0 = dktJ8_lowSurrogate_0 := by decide +kernel
theorem dJ8_lowSurrogate_0 : decode cJ8_lowSurrogate 0 = .ok (.iload_n 0, 1) := dk_26 (dk_at dksJ8_lowSurrogate_0 0 rfl rfl)
theorem dJ8_lowSurrogate_1 : decode cJ8_lowSurrogate 1 = .ok (.sipush 1023, 3) := dk_17 3 255 (dk_at dksJ8_lowSurrogate_0 1 rfl rfl)
theorem dJ8_lowSurrogate_4 : decode cJ8_lowSurrogate 4 = .ok (.iand, 1) := dk_126 (dk_at dksJ8_lowSurrogate_0 4 rfl rfl)
theorem dJ8_lowSurrogate_5 : decode cJ8_lowSurrogate 5 = .ok (.ldc 76, 2) := dk_18 76 (dk_at dksJ8_lowSurrogate_0 5 rfl rfl)
theorem dJ8_lowSurrogate_7 : decode cJ8_lowSurrogate 7 = .ok (.iadd, 1) := dk_96 (dk_at dksJ8_lowSurrogate_0 7 rfl rfl)
theorem dJ8_lowSurrogate_8 : decode cJ8_lowSurrogate 8 = .ok (.i2c, 1) := dk_146 (dk_at dksJ8_lowSurrogate_0 8 rfl rfl)
theorem dJ8_lowSurrogate_9 : decode cJ8_lowSurrogate 9 = .ok (.ireturn, 1) := dk_172 (dk_at dksJ8_lowSurrogate_0 9 rfl rfl)
theorem q142 : (Jvm.Cond.initialized "java/lang/Character") ∈ lw_all := lw_g (lw_at lw_m1 12 rfl) rfl
theorem q561 : (Jvm.Cond.static ({ cls := "java/lang/Character", name := "isValidCodePoint", desc := "(I)Z" } : Jvm.MethodName)) ∈ lw_all := lw_g (lw_at lw_m2 191 rfl) rfl
theorem q562 : (Jvm.Cond.code ({ cls := "java/lang/Character", name := "isValidCodePoint", desc := "(I)Z" } : Jvm.MethodName) prog_18_method_11_code (2 : Nat) (Option.some Jvm.ClassFile.FieldType.boolean)) ∈ lw_all := lw_g (lw_at lw_m2 192 rfl) rfl
theorem q564 : (Jvm.Cond.static ({ cls := "java/lang/Character", name := "highSurrogate", desc := "(I)C" } : Jvm.MethodName)) ∈ lw_all := lw_g (lw_at lw_m2 194 rfl) rfl
theorem q565 : (Jvm.Cond.code ({ cls := "java/lang/Character", name := "highSurrogate", desc := "(I)C" } : Jvm.MethodName) prog_18_method_28_code (1 : Nat) (Option.some Jvm.ClassFile.FieldType.char)) ∈ lw_all := lw_g (lw_at lw_m2 195 rfl) rfl
theorem q566 : (Jvm.Cond.constant "java/lang/Character" (110 : Nat) (55232 : Int32)) ∈ lw_all := lw_g (lw_at lw_m2 196 rfl) rfl
theorem q568 : (Jvm.Cond.static ({ cls := "java/lang/Character", name := "lowSurrogate", desc := "(I)C" } : Jvm.MethodName)) ∈ lw_all := lw_g (lw_at lw_m2 198 rfl) rfl
theorem q569 : (Jvm.Cond.code ({ cls := "java/lang/Character", name := "lowSurrogate", desc := "(I)C" } : Jvm.MethodName) prog_18_method_29_code (1 : Nat) (Option.some Jvm.ClassFile.FieldType.char)) ∈ lw_all := lw_g (lw_at lw_m2 199 rfl) rfl
theorem q570 : (Jvm.Cond.constant "java/lang/Character" (76 : Nat) (56320 : Int32)) ∈ lw_all := lw_g (lw_at lw_m2 200 rfl) rfl

/-! java/lang/Integer -/
set_option maxRecDepth 100000
def RJ9 : String := "java/lang/Integer"
abbrev cJ9_bitCount : ByteArray := prog_22_method_49_code
def yJ9_bitCount : MethodName := ⟨RJ9, "bitCount", "(I)I"⟩
def dkwJ9_bitCount_2 : List UInt8 := [26, 16, 63, 126, 172]
abbrev dktJ9_bitCount_2 : List UInt8 := dkwJ9_bitCount_2 ++ []
def dkwJ9_bitCount_1 : List UInt8 := [26, 26, 7, 124, 96, 19, 1, 11, 126, 59, 26, 26, 16, 8, 124, 96, 59, 26, 26, 16, 16, 124, 96, 59]
abbrev dktJ9_bitCount_1 : List UInt8 := dkwJ9_bitCount_1 ++ dktJ9_bitCount_2
def dkwJ9_bitCount_0 : List UInt8 := [26, 26, 4, 124, 19, 1, 9, 126, 100, 59, 26, 19, 1, 10, 126, 26, 5, 124, 19, 1, 10, 126, 96, 59]
abbrev dktJ9_bitCount_0 : List UInt8 := dkwJ9_bitCount_0 ++ dktJ9_bitCount_1
theorem dksJ9_bitCount_0 : cJ9_bitCount.data.toList.drop 0 = dktJ9_bitCount_0 := by decide +kernel
theorem dksJ9_bitCount_1 : cJ9_bitCount.data.toList.drop 24 = dktJ9_bitCount_1 := dk_seg dksJ9_bitCount_0 24 rfl rfl
theorem dksJ9_bitCount_2 : cJ9_bitCount.data.toList.drop 48 = dktJ9_bitCount_2 := dk_seg dksJ9_bitCount_1 24 rfl rfl
theorem dJ9_bitCount_0 : decode cJ9_bitCount 0 = .ok (.iload_n 0, 1) := dk_26 (dk_at dksJ9_bitCount_0 0 rfl rfl)
theorem dJ9_bitCount_1 : decode cJ9_bitCount 1 = .ok (.iload_n 0, 1) := dk_26 (dk_at dksJ9_bitCount_0 1 rfl rfl)
theorem dJ9_bitCount_2 : decode cJ9_bitCount 2 = .ok (.iconst 1, 1) := dk_4 (dk_at dksJ9_bitCount_0 2 rfl rfl)
theorem dJ9_bitCount_3 : decode cJ9_bitCount 3 = .ok (.iushr, 1) := dk_124 (dk_at dksJ9_bitCount_0 3 rfl rfl)
theorem dJ9_bitCount_4 : decode cJ9_bitCount 4 = .ok (.ldc_w 265, 3) := dk_19 1 9 (dk_at dksJ9_bitCount_0 4 rfl rfl)
theorem dJ9_bitCount_7 : decode cJ9_bitCount 7 = .ok (.iand, 1) := dk_126 (dk_at dksJ9_bitCount_0 7 rfl rfl)
theorem dJ9_bitCount_8 : decode cJ9_bitCount 8 = .ok (.isub, 1) := dk_100 (dk_at dksJ9_bitCount_0 8 rfl rfl)
theorem dJ9_bitCount_9 : decode cJ9_bitCount 9 = .ok (.istore_n 0, 1) := dk_59 (dk_at dksJ9_bitCount_0 9 rfl rfl)
theorem dJ9_bitCount_10 : decode cJ9_bitCount 10 = .ok (.iload_n 0, 1) := dk_26 (dk_at dksJ9_bitCount_0 10 rfl rfl)
theorem dJ9_bitCount_11 : decode cJ9_bitCount 11 = .ok (.ldc_w 266, 3) := dk_19 1 10 (dk_at dksJ9_bitCount_0 11 rfl rfl)
theorem dJ9_bitCount_14 : decode cJ9_bitCount 14 = .ok (.iand, 1) := dk_126 (dk_at dksJ9_bitCount_0 14 rfl rfl)
theorem dJ9_bitCount_15 : decode cJ9_bitCount 15 = .ok (.iload_n 0, 1) := dk_26 (dk_at dksJ9_bitCount_0 15 rfl rfl)
theorem dJ9_bitCount_16 : decode cJ9_bitCount 16 = .ok (.iconst 2, 1) := dk_5 (dk_at dksJ9_bitCount_0 16 rfl rfl)
theorem dJ9_bitCount_17 : decode cJ9_bitCount 17 = .ok (.iushr, 1) := dk_124 (dk_at dksJ9_bitCount_0 17 rfl rfl)
theorem dJ9_bitCount_18 : decode cJ9_bitCount 18 = .ok (.ldc_w 266, 3) := dk_19 1 10 (dk_at dksJ9_bitCount_0 18 rfl rfl)
theorem dJ9_bitCount_21 : decode cJ9_bitCount 21 = .ok (.iand, 1) := dk_126 (dk_at dksJ9_bitCount_0 21 rfl rfl)
theorem dJ9_bitCount_22 : decode cJ9_bitCount 22 = .ok (.iadd, 1) := dk_96 (dk_at dksJ9_bitCount_0 22 rfl rfl)
theorem dJ9_bitCount_23 : decode cJ9_bitCount 23 = .ok (.istore_n 0, 1) := dk_59 (dk_at dksJ9_bitCount_0 23 rfl rfl)
theorem dJ9_bitCount_24 : decode cJ9_bitCount 24 = .ok (.iload_n 0, 1) := dk_26 (dk_at dksJ9_bitCount_1 0 rfl rfl)
theorem dJ9_bitCount_25 : decode cJ9_bitCount 25 = .ok (.iload_n 0, 1) := dk_26 (dk_at dksJ9_bitCount_1 1 rfl rfl)
theorem dJ9_bitCount_26 : decode cJ9_bitCount 26 = .ok (.iconst 4, 1) := dk_7 (dk_at dksJ9_bitCount_1 2 rfl rfl)
theorem dJ9_bitCount_27 : decode cJ9_bitCount 27 = .ok (.iushr, 1) := dk_124 (dk_at dksJ9_bitCount_1 3 rfl rfl)
theorem dJ9_bitCount_28 : decode cJ9_bitCount 28 = .ok (.iadd, 1) := dk_96 (dk_at dksJ9_bitCount_1 4 rfl rfl)
theorem dJ9_bitCount_29 : decode cJ9_bitCount 29 = .ok (.ldc_w 267, 3) := dk_19 1 11 (dk_at dksJ9_bitCount_1 5 rfl rfl)
theorem dJ9_bitCount_32 : decode cJ9_bitCount 32 = .ok (.iand, 1) := dk_126 (dk_at dksJ9_bitCount_1 8 rfl rfl)
theorem dJ9_bitCount_33 : decode cJ9_bitCount 33 = .ok (.istore_n 0, 1) := dk_59 (dk_at dksJ9_bitCount_1 9 rfl rfl)
theorem dJ9_bitCount_34 : decode cJ9_bitCount 34 = .ok (.iload_n 0, 1) := dk_26 (dk_at dksJ9_bitCount_1 10 rfl rfl)
theorem dJ9_bitCount_35 : decode cJ9_bitCount 35 = .ok (.iload_n 0, 1) := dk_26 (dk_at dksJ9_bitCount_1 11 rfl rfl)
theorem dJ9_bitCount_36 : decode cJ9_bitCount 36 = .ok (.bipush 8, 2) := dk_16 8 (dk_at dksJ9_bitCount_1 12 rfl rfl)
theorem dJ9_bitCount_38 : decode cJ9_bitCount 38 = .ok (.iushr, 1) := dk_124 (dk_at dksJ9_bitCount_1 14 rfl rfl)
theorem dJ9_bitCount_39 : decode cJ9_bitCount 39 = .ok (.iadd, 1) := dk_96 (dk_at dksJ9_bitCount_1 15 rfl rfl)
theorem dJ9_bitCount_40 : decode cJ9_bitCount 40 = .ok (.istore_n 0, 1) := dk_59 (dk_at dksJ9_bitCount_1 16 rfl rfl)
theorem dJ9_bitCount_41 : decode cJ9_bitCount 41 = .ok (.iload_n 0, 1) := dk_26 (dk_at dksJ9_bitCount_1 17 rfl rfl)
theorem dJ9_bitCount_42 : decode cJ9_bitCount 42 = .ok (.iload_n 0, 1) := dk_26 (dk_at dksJ9_bitCount_1 18 rfl rfl)
theorem dJ9_bitCount_43 : decode cJ9_bitCount 43 = .ok (.bipush 16, 2) := dk_16 16 (dk_at dksJ9_bitCount_1 19 rfl rfl)
theorem dJ9_bitCount_45 : decode cJ9_bitCount 45 = .ok (.iushr, 1) := dk_124 (dk_at dksJ9_bitCount_1 21 rfl rfl)
theorem dJ9_bitCount_46 : decode cJ9_bitCount 46 = .ok (.iadd, 1) := dk_96 (dk_at dksJ9_bitCount_1 22 rfl rfl)
theorem dJ9_bitCount_47 : decode cJ9_bitCount 47 = .ok (.istore_n 0, 1) := dk_59 (dk_at dksJ9_bitCount_1 23 rfl rfl)
theorem dJ9_bitCount_48 : decode cJ9_bitCount 48 = .ok (.iload_n 0, 1) := dk_26 (dk_at dksJ9_bitCount_2 0 rfl rfl)
theorem dJ9_bitCount_49 : decode cJ9_bitCount 49 = .ok (.bipush 63, 2) := dk_16 63 (dk_at dksJ9_bitCount_2 1 rfl rfl)
theorem dJ9_bitCount_51 : decode cJ9_bitCount 51 = .ok (.iand, 1) := dk_126 (dk_at dksJ9_bitCount_2 3 rfl rfl)
theorem dJ9_bitCount_52 : decode cJ9_bitCount 52 = .ok (.ireturn, 1) := dk_172 (dk_at dksJ9_bitCount_2 4 rfl rfl)
abbrev cJ9_numberOfTrailingZeros : ByteArray := prog_22_method_48_code
def yJ9_numberOfTrailingZeros : MethodName := ⟨RJ9, "numberOfTrailingZeros", "(I)I"⟩
def dkwJ9_numberOfTrailingZeros_3 : List UInt8 := [5, 124, 59, 27, 26, 4, 124, 96, 172]
abbrev dktJ9_numberOfTrailingZeros_3 : List UInt8 := dkwJ9_numberOfTrailingZeros_3 ++ []
def dkwJ9_numberOfTrailingZeros_2 : List UInt8 := [124, 59, 26, 16, 16, 164, 0, 10, 132, 1, 4, 26, 7, 124, 59, 26, 7, 164, 0, 10, 132, 1, 2, 26]
abbrev dktJ9_numberOfTrailingZeros_2 : List UInt8 := dkwJ9_numberOfTrailingZeros_2 ++ dktJ9_numberOfTrailingZeros_3
def dkwJ9_numberOfTrailingZeros_1 : List UInt8 := [164, 0, 11, 132, 1, 16, 26, 16, 16, 124, 59, 26, 17, 1, 0, 164, 0, 11, 132, 1, 8, 26, 16, 8]
abbrev dktJ9_numberOfTrailingZeros_1 : List UInt8 := dkwJ9_numberOfTrailingZeros_1 ++ dktJ9_numberOfTrailingZeros_2
def dkwJ9_numberOfTrailingZeros_0 : List UInt8 := [26, 2, 130, 26, 4, 100, 126, 59, 26, 157, 0, 8, 26, 16, 32, 126, 172, 4, 60, 26, 19, 1, 8]
abbrev dktJ9_numberOfTrailingZeros_0 : List UInt8 := dkwJ9_numberOfTrailingZeros_0 ++ dktJ9_numberOfTrailingZeros_1
theorem dksJ9_numberOfTrailingZeros_0 : cJ9_numberOfTrailingZeros.data.toList.drop 0 = dktJ9_numberOfTrailingZeros_0 := by decide +kernel
theorem dksJ9_numberOfTrailingZeros_1 : cJ9_numberOfTrailingZeros.data.toList.drop 23 = dktJ9_numberOfTrailingZeros_1 := dk_seg dksJ9_numberOfTrailingZeros_0 23 rfl rfl
theorem dksJ9_numberOfTrailingZeros_2 : cJ9_numberOfTrailingZeros.data.toList.drop 47 = dktJ9_numberOfTrailingZeros_2 := dk_seg dksJ9_numberOfTrailingZeros_1 24 rfl rfl
theorem dksJ9_numberOfTrailingZeros_3 : cJ9_numberOfTrailingZeros.data.toList.drop 71 = dktJ9_numberOfTrailingZeros_3 := dk_seg dksJ9_numberOfTrailingZeros_2 24 rfl rfl
theorem dJ9_numberOfTrailingZeros_0 : decode cJ9_numberOfTrailingZeros 0 = .ok (.iload_n 0, 1) := dk_26 (dk_at dksJ9_numberOfTrailingZeros_0 0 rfl rfl)
theorem dJ9_numberOfTrailingZeros_1 : decode cJ9_numberOfTrailingZeros 1 = .ok (.iconst (-1), 1) := dk_2 (dk_at dksJ9_numberOfTrailingZeros_0 1 rfl rfl)
theorem dJ9_numberOfTrailingZeros_2 : decode cJ9_numberOfTrailingZeros 2 = .ok (.ixor, 1) := dk_130 (dk_at dksJ9_numberOfTrailingZeros_0 2 rfl rfl)
theorem dJ9_numberOfTrailingZeros_3 : decode cJ9_numberOfTrailingZeros 3 = .ok (.iload_n 0, 1) := dk_26 (dk_at dksJ9_numberOfTrailingZeros_0 3 rfl rfl)
theorem dJ9_numberOfTrailingZeros_4 : decode cJ9_numberOfTrailingZeros 4 = .ok (.iconst 1, 1) := dk_4 (dk_at dksJ9_numberOfTrailingZeros_0 4 rfl rfl)
theorem dJ9_numberOfTrailingZeros_5 : decode cJ9_numberOfTrailingZeros 5 = .ok (.isub, 1) := dk_100 (dk_at dksJ9_numberOfTrailingZeros_0 5 rfl rfl)
theorem dJ9_numberOfTrailingZeros_6 : decode cJ9_numberOfTrailingZeros 6 = .ok (.iand, 1) := dk_126 (dk_at dksJ9_numberOfTrailingZeros_0 6 rfl rfl)
theorem dJ9_numberOfTrailingZeros_7 : decode cJ9_numberOfTrailingZeros 7 = .ok (.istore_n 0, 1) := dk_59 (dk_at dksJ9_numberOfTrailingZeros_0 7 rfl rfl)
theorem dJ9_numberOfTrailingZeros_8 : decode cJ9_numberOfTrailingZeros 8 = .ok (.iload_n 0, 1) := dk_26 (dk_at dksJ9_numberOfTrailingZeros_0 8 rfl rfl)
theorem dJ9_numberOfTrailingZeros_9 : decode cJ9_numberOfTrailingZeros 9 = .ok (.ifCond .gt 8, 3) := dk_157 0 8 (dk_at dksJ9_numberOfTrailingZeros_0 9 rfl rfl)
theorem dJ9_numberOfTrailingZeros_12 : decode cJ9_numberOfTrailingZeros 12 = .ok (.iload_n 0, 1) := dk_26 (dk_at dksJ9_numberOfTrailingZeros_0 12 rfl rfl)
theorem dJ9_numberOfTrailingZeros_13 : decode cJ9_numberOfTrailingZeros 13 = .ok (.bipush 32, 2) := dk_16 32 (dk_at dksJ9_numberOfTrailingZeros_0 13 rfl rfl)
theorem dJ9_numberOfTrailingZeros_15 : decode cJ9_numberOfTrailingZeros 15 = .ok (.iand, 1) := dk_126 (dk_at dksJ9_numberOfTrailingZeros_0 15 rfl rfl)
theorem dJ9_numberOfTrailingZeros_16 : decode cJ9_numberOfTrailingZeros 16 = .ok (.ireturn, 1) := dk_172 (dk_at dksJ9_numberOfTrailingZeros_0 16 rfl rfl)
theorem dJ9_numberOfTrailingZeros_17 : decode cJ9_numberOfTrailingZeros 17 = .ok (.iconst 1, 1) := dk_4 (dk_at dksJ9_numberOfTrailingZeros_0 17 rfl rfl)
theorem dJ9_numberOfTrailingZeros_18 : decode cJ9_numberOfTrailingZeros 18 = .ok (.istore_n 1, 1) := dk_60 (dk_at dksJ9_numberOfTrailingZeros_0 18 rfl rfl)
theorem dJ9_numberOfTrailingZeros_19 : decode cJ9_numberOfTrailingZeros 19 = .ok (.iload_n 0, 1) := dk_26 (dk_at dksJ9_numberOfTrailingZeros_0 19 rfl rfl)
theorem dJ9_numberOfTrailingZeros_20 : decode cJ9_numberOfTrailingZeros 20 = .ok (.ldc_w 264, 3) := dk_19 1 8 (dk_at dksJ9_numberOfTrailingZeros_0 20 rfl rfl)
theorem dJ9_numberOfTrailingZeros_23 : decode cJ9_numberOfTrailingZeros 23 = .ok (.if_icmp .le 11, 3) := dk_164 0 11 (dk_at dksJ9_numberOfTrailingZeros_1 0 rfl rfl)
theorem dJ9_numberOfTrailingZeros_26 : decode cJ9_numberOfTrailingZeros 26 = .ok (.iinc 1 16, 3) := dk_132 1 16 (dk_at dksJ9_numberOfTrailingZeros_1 3 rfl rfl)
theorem dJ9_numberOfTrailingZeros_29 : decode cJ9_numberOfTrailingZeros 29 = .ok (.iload_n 0, 1) := dk_26 (dk_at dksJ9_numberOfTrailingZeros_1 6 rfl rfl)
theorem dJ9_numberOfTrailingZeros_30 : decode cJ9_numberOfTrailingZeros 30 = .ok (.bipush 16, 2) := dk_16 16 (dk_at dksJ9_numberOfTrailingZeros_1 7 rfl rfl)
theorem dJ9_numberOfTrailingZeros_32 : decode cJ9_numberOfTrailingZeros 32 = .ok (.iushr, 1) := dk_124 (dk_at dksJ9_numberOfTrailingZeros_1 9 rfl rfl)
theorem dJ9_numberOfTrailingZeros_33 : decode cJ9_numberOfTrailingZeros 33 = .ok (.istore_n 0, 1) := dk_59 (dk_at dksJ9_numberOfTrailingZeros_1 10 rfl rfl)
theorem dJ9_numberOfTrailingZeros_34 : decode cJ9_numberOfTrailingZeros 34 = .ok (.iload_n 0, 1) := dk_26 (dk_at dksJ9_numberOfTrailingZeros_1 11 rfl rfl)
theorem dJ9_numberOfTrailingZeros_35 : decode cJ9_numberOfTrailingZeros 35 = .ok (.sipush 256, 3) := dk_17 1 0 (dk_at dksJ9_numberOfTrailingZeros_1 12 rfl rfl)
theorem dJ9_numberOfTrailingZeros_38 : decode cJ9_numberOfTrailingZeros 38 = .ok (.if_icmp .le 11, 3) := dk_164 0 11 (dk_at dksJ9_numberOfTrailingZeros_1 15 rfl rfl)
theorem dJ9_numberOfTrailingZeros_41 : decode cJ9_numberOfTrailingZeros 41 = .ok (.iinc 1 8, 3) := dk_132 1 8 (dk_at dksJ9_numberOfTrailingZeros_1 18 rfl rfl)
theorem dJ9_numberOfTrailingZeros_44 : decode cJ9_numberOfTrailingZeros 44 = .ok (.iload_n 0, 1) := dk_26 (dk_at dksJ9_numberOfTrailingZeros_1 21 rfl rfl)
theorem dJ9_numberOfTrailingZeros_45 : decode cJ9_numberOfTrailingZeros 45 = .ok (.bipush 8, 2) := dk_16 8 (dk_at dksJ9_numberOfTrailingZeros_1 22 rfl rfl)
theorem dJ9_numberOfTrailingZeros_47 : decode cJ9_numberOfTrailingZeros 47 = .ok (.iushr, 1) := dk_124 (dk_at dksJ9_numberOfTrailingZeros_2 0 rfl rfl)
theorem dJ9_numberOfTrailingZeros_48 : decode cJ9_numberOfTrailingZeros 48 = .ok (.istore_n 0, 1) := dk_59 (dk_at dksJ9_numberOfTrailingZeros_2 1 rfl rfl)
theorem dJ9_numberOfTrailingZeros_49 : decode cJ9_numberOfTrailingZeros 49 = .ok (.iload_n 0, 1) := dk_26 (dk_at dksJ9_numberOfTrailingZeros_2 2 rfl rfl)
theorem dJ9_numberOfTrailingZeros_50 : decode cJ9_numberOfTrailingZeros 50 = .ok (.bipush 16, 2) := dk_16 16 (dk_at dksJ9_numberOfTrailingZeros_2 3 rfl rfl)
theorem dJ9_numberOfTrailingZeros_52 : decode cJ9_numberOfTrailingZeros 52 = .ok (.if_icmp .le 10, 3) := dk_164 0 10 (dk_at dksJ9_numberOfTrailingZeros_2 5 rfl rfl)
theorem dJ9_numberOfTrailingZeros_55 : decode cJ9_numberOfTrailingZeros 55 = .ok (.iinc 1 4, 3) := dk_132 1 4 (dk_at dksJ9_numberOfTrailingZeros_2 8 rfl rfl)
theorem dJ9_numberOfTrailingZeros_58 : decode cJ9_numberOfTrailingZeros 58 = .ok (.iload_n 0, 1) := dk_26 (dk_at dksJ9_numberOfTrailingZeros_2 11 rfl rfl)
theorem dJ9_numberOfTrailingZeros_59 : decode cJ9_numberOfTrailingZeros 59 = .ok (.iconst 4, 1) := dk_7 (dk_at dksJ9_numberOfTrailingZeros_2 12 rfl rfl)
theorem dJ9_numberOfTrailingZeros_60 : decode cJ9_numberOfTrailingZeros 60 = .ok (.iushr, 1) := dk_124 (dk_at dksJ9_numberOfTrailingZeros_2 13 rfl rfl)
theorem dJ9_numberOfTrailingZeros_61 : decode cJ9_numberOfTrailingZeros 61 = .ok (.istore_n 0, 1) := dk_59 (dk_at dksJ9_numberOfTrailingZeros_2 14 rfl rfl)
theorem dJ9_numberOfTrailingZeros_62 : decode cJ9_numberOfTrailingZeros 62 = .ok (.iload_n 0, 1) := dk_26 (dk_at dksJ9_numberOfTrailingZeros_2 15 rfl rfl)
theorem dJ9_numberOfTrailingZeros_63 : decode cJ9_numberOfTrailingZeros 63 = .ok (.iconst 4, 1) := dk_7 (dk_at dksJ9_numberOfTrailingZeros_2 16 rfl rfl)
theorem dJ9_numberOfTrailingZeros_64 : decode cJ9_numberOfTrailingZeros 64 = .ok (.if_icmp .le 10, 3) := dk_164 0 10 (dk_at dksJ9_numberOfTrailingZeros_2 17 rfl rfl)
theorem dJ9_numberOfTrailingZeros_67 : decode cJ9_numberOfTrailingZeros 67 = .ok (.iinc 1 2, 3) := dk_132 1 2 (dk_at dksJ9_numberOfTrailingZeros_2 20 rfl rfl)
theorem dJ9_numberOfTrailingZeros_70 : decode cJ9_numberOfTrailingZeros 70 = .ok (.iload_n 0, 1) := dk_26 (dk_at dksJ9_numberOfTrailingZeros_2 23 rfl rfl)
theorem dJ9_numberOfTrailingZeros_71 : decode cJ9_numberOfTrailingZeros 71 = .ok (.iconst 2, 1) := dk_5 (dk_at dksJ9_numberOfTrailingZeros_3 0 rfl rfl)
theorem dJ9_numberOfTrailingZeros_72 : decode cJ9_numberOfTrailingZeros 72 = .ok (.iushr, 1) := dk_124 (dk_at dksJ9_numberOfTrailingZeros_3 1 rfl rfl)
theorem dJ9_numberOfTrailingZeros_73 : decode cJ9_numberOfTrailingZeros 73 = .ok (.istore_n 0, 1) := dk_59 (dk_at dksJ9_numberOfTrailingZeros_3 2 rfl rfl)
theorem dJ9_numberOfTrailingZeros_74 : decode cJ9_numberOfTrailingZeros 74 = .ok (.iload_n 1, 1) := dk_27 (dk_at dksJ9_numberOfTrailingZeros_3 3 rfl rfl)
theorem dJ9_numberOfTrailingZeros_75 : decode cJ9_numberOfTrailingZeros 75 = .ok (.iload_n 0, 1) := dk_26 (dk_at dksJ9_numberOfTrailingZeros_3 4 rfl rfl)
theorem dJ9_numberOfTrailingZeros_76 : decode cJ9_numberOfTrailingZeros 76 = .ok (.iconst 1, 1) := dk_4 (dk_at dksJ9_numberOfTrailingZeros_3 5 rfl rfl)
theorem dJ9_numberOfTrailingZeros_77 : decode cJ9_numberOfTrailingZeros 77 = .ok (.iushr, 1) := dk_124 (dk_at dksJ9_numberOfTrailingZeros_3 6 rfl rfl)
theorem dJ9_numberOfTrailingZeros_78 : decode cJ9_numberOfTrailingZeros 78 = .ok (.iadd, 1) := dk_96 (dk_at dksJ9_numberOfTrailingZeros_3 7 rfl rfl)
theorem dJ9_numberOfTrailingZeros_79 : decode cJ9_numberOfTrailingZeros 79 = .ok (.ireturn, 1) := dk_172 (dk_at dksJ9_numberOfTrailingZeros_3 8 rfl rfl)
theorem q155 : (Jvm.Cond.initialized "java/lang/Integer") ∈ lw_all := lw_g (lw_at lw_m1 25 rfl) rfl
theorem q977 : (Jvm.Cond.static ({ cls := "java/lang/Integer", name := "bitCount", desc := "(I)I" } : Jvm.MethodName)) ∈ lw_all := lw_g (lw_at lw_m4 127 rfl) rfl
theorem q978 : (Jvm.Cond.code ({ cls := "java/lang/Integer", name := "bitCount", desc := "(I)I" } : Jvm.MethodName) prog_22_method_49_code (1 : Nat) (Option.some Jvm.ClassFile.FieldType.int)) ∈ lw_all := lw_g (lw_at lw_m4 128 rfl) rfl
theorem q979 : (Jvm.Cond.constant "java/lang/Integer" (265 : Nat) (1431655765 : Int32)) ∈ lw_all := lw_g (lw_at lw_m4 129 rfl) rfl
theorem q980 : (Jvm.Cond.constant "java/lang/Integer" (266 : Nat) (858993459 : Int32)) ∈ lw_all := lw_g (lw_at lw_m4 130 rfl) rfl
theorem q981 : (Jvm.Cond.constant "java/lang/Integer" (267 : Nat) (252645135 : Int32)) ∈ lw_all := lw_g (lw_at lw_m4 131 rfl) rfl
theorem q1012 : (Jvm.Cond.static ({ cls := "java/lang/Integer", name := "numberOfTrailingZeros", desc := "(I)I" } : Jvm.MethodName)) ∈ lw_all := lw_g (lw_at lw_m4 162 rfl) rfl
theorem q1013 : (Jvm.Cond.code ({ cls := "java/lang/Integer", name := "numberOfTrailingZeros", desc := "(I)I" } : Jvm.MethodName) prog_22_method_48_code (2 : Nat) (Option.some Jvm.ClassFile.FieldType.int)) ∈ lw_all := lw_g (lw_at lw_m4 163 rfl) rfl
theorem q1014 : (Jvm.Cond.constant "java/lang/Integer" (264 : Nat) (65536 : Int32)) ∈ lw_all := lw_g (lw_at lw_m4 164 rfl) rfl

/-! TandemKeepsAPlace$Faulty -/
set_option maxRecDepth 100000
def RX1 : String := "TandemKeepsAPlace$Faulty"
def TX1 : u_T := fun k => match k with
  | 0 => ("java/lang/Throwable", "cause", "Ljava/lang/Throwable;", false)
  | 1 => ("java/lang/Throwable", "stackTrace", "[Ljava/lang/StackTraceElement;", false)
  | 2 => ("java/lang/Throwable", "suppressedExceptions", "Ljava/util/List;", false)
  | 3 => ("java/lang/Throwable", "detailMessage", "Ljava/lang/String;", false)
  | 4 => ("java/lang/Throwable", "backtrace", "Ljava/lang/Object;", false)
  | _ => ("java/lang/Throwable", "depth", "I", false)
def tyX1 : Nat → FieldType := fun k => match k with
  | 0 => .object "java/lang/Throwable"
  | 1 => .array (.object "java/lang/StackTraceElement")
  | 2 => .object "java/util/List"
  | 3 => .object "java/lang/String"
  | 4 => .object "java/lang/Object"
  | _ => .int
abbrev wsX10 : List Cond := u_ws RX1 TX1 6
theorem nmX1 : ∀ a, a < 6 → ∀ b, b < 6 → a ≠ b → (TX1 a).2.1 ≠ (TX1 b).2.1 := by decide +kernel
theorem tyX1_ok : ∀ k, k < 6 → parseFieldDescriptor (TX1 k).2.2.1 = some (tyX1 k) := by decide +kernel
abbrev cX1_init : ByteArray := prog_4_method_1_code
def yX1_init : MethodName := ⟨RX1, "<init>", "()V"⟩
def dkwX1_init_0 : List UInt8 := [42, 1, 1, 3, 3, 183, 0, 1, 177]
abbrev dktX1_init_0 : List UInt8 := dkwX1_init_0 ++ []
theorem dksX1_init_0 : cX1_init.data.toList.drop 0 = dktX1_init_0 := by decide +kernel
theorem dX1_init_0 : decode cX1_init 0 = .ok (.aload_n 0, 1) := dk_42 (dk_at dksX1_init_0 0 rfl rfl)
theorem dX1_init_1 : decode cX1_init 1 = .ok (.aconst_null, 1) := dk_1 (dk_at dksX1_init_0 1 rfl rfl)
theorem dX1_init_2 : decode cX1_init 2 = .ok (.aconst_null, 1) := dk_1 (dk_at dksX1_init_0 2 rfl rfl)
theorem dX1_init_3 : decode cX1_init 3 = .ok (.iconst 0, 1) := dk_3 (dk_at dksX1_init_0 3 rfl rfl)
theorem dX1_init_4 : decode cX1_init 4 = .ok (.iconst 0, 1) := dk_3 (dk_at dksX1_init_0 4 rfl rfl)
theorem dX1_init_5 : decode cX1_init 5 = .ok (.invokespecial 1, 3) := dk_183 0 1 (dk_at dksX1_init_0 5 rfl rfl)
theorem dX1_init_8 : decode cX1_init 8 = .ok (.return_, 1) := dk_177 (dk_at dksX1_init_0 8 rfl rfl)
theorem q135 : (Jvm.Cond.initialized "TandemKeepsAPlace$Faulty") ∈ lw_all := lw_g (lw_at lw_m1 5 rfl) rfl
theorem q675 : (Jvm.Cond.instantiable "TandemKeepsAPlace$Faulty" (6 : Nat)) ∈ lw_all := lw_g (lw_at lw_m3 65 rfl) rfl
theorem q676 : (Jvm.Cond.castable "TandemKeepsAPlace$Faulty" "TandemKeepsAPlace$Faulty") ∈ lw_tbl := lw_at lw_m3 66 rfl
theorem q683 : (Jvm.Cond.selects "TandemKeepsAPlace$Faulty" ({ cls := "java/lang/Throwable", name := "fillInStackTrace", desc := "(I)Ljava/lang/Throwable;" } : Jvm.MethodName) ({ cls := "java/lang/Throwable", name := "fillInStackTrace", desc := "(I)Ljava/lang/Throwable;" } : Jvm.MethodName)) ∈ lw_all := lw_g (lw_at lw_m3 73 rfl) rfl
theorem q684 : (Jvm.Cond.selects "TandemKeepsAPlace$Faulty" ({ cls := "java/lang/Throwable", name := "fillInStackTrace", desc := "()Ljava/lang/Throwable;" } : Jvm.MethodName) ({ cls := "java/lang/Throwable", name := "fillInStackTrace", desc := "()Ljava/lang/Throwable;" } : Jvm.MethodName)) ∈ lw_all := lw_g (lw_at lw_m3 74 rfl) rfl
theorem q685 : (Jvm.Cond.lays "TandemKeepsAPlace$Faulty" "java/lang/Throwable" "cause" "Ljava/lang/Throwable;") ∈ lw_all := lw_g (lw_at lw_m3 75 rfl) rfl
theorem q687 : (Jvm.Cond.lays "TandemKeepsAPlace$Faulty" "java/lang/Throwable" "stackTrace" "[Ljava/lang/StackTraceElement;") ∈ lw_all := lw_g (lw_at lw_m3 77 rfl) rfl
theorem q689 : (Jvm.Cond.lays "TandemKeepsAPlace$Faulty" "java/lang/Throwable" "suppressedExceptions" "Ljava/util/List;") ∈ lw_all := lw_g (lw_at lw_m3 79 rfl) rfl
theorem q691 : (Jvm.Cond.lays "TandemKeepsAPlace$Faulty" "java/lang/Throwable" "detailMessage" "Ljava/lang/String;") ∈ lw_all := lw_g (lw_at lw_m3 81 rfl) rfl
theorem q693 : (Jvm.Cond.lays "TandemKeepsAPlace$Faulty" "java/lang/Throwable" "backtrace" "Ljava/lang/Object;") ∈ lw_all := lw_g (lw_at lw_m3 83 rfl) rfl
theorem q732 : (Jvm.Cond.instanceMethod ({ cls := "TandemKeepsAPlace$Faulty", name := "<init>", desc := "()V" } : Jvm.MethodName)) ∈ lw_all := lw_g (lw_at lw_m3 122 rfl) rfl
theorem q733 : (Jvm.Cond.code ({ cls := "TandemKeepsAPlace$Faulty", name := "<init>", desc := "()V" } : Jvm.MethodName) prog_4_method_1_code (1 : Nat) (Option.none : Option Jvm.ClassFile.FieldType)) ∈ lw_all := lw_g (lw_at lw_m3 123 rfl) rfl
theorem q734 : (Jvm.Cond.methodLink "TandemKeepsAPlace$Faulty" (1 : Nat) ({ cls := "java/lang/RuntimeException", name := "<init>", desc := "(Ljava/lang/String;Ljava/lang/Throwable;ZZ)V" } : Jvm.MethodName)) ∈ lw_all := lw_g (lw_at lw_m3 124 rfl) rfl
theorem q752 : (Jvm.Cond.lays "TandemKeepsAPlace$Faulty" "java/lang/Throwable" "depth" "I") ∈ lw_all := lw_g (lw_at lw_m3 142 rfl) rfl
theorem q755 : (Jvm.Cond.superclass "TandemKeepsAPlace$Faulty" "java/lang/RuntimeException") ∈ lw_all := lw_g (lw_at lw_m3 145 rfl) rfl
theorem in_X1 : ∀ w ∈ wsX10, w ∈ lw_all := lw_in wsX10 [685, 687, 689, 691, 693, 752] (by decide +kernel) (by decide +kernel)

/-! TandemKeepsAPlace$Clerk -/
set_option maxRecDepth 100000
def RX10 : String := "TandemKeepsAPlace$Clerk"
def TX10 : u_T := fun k => match k with
  | 0 => ("TandemKeepsAPlace$Rider", "number", "I", false)
  | 1 => ("TandemKeepsAPlace$Rider", "goal", "I", false)
  | _ => ("TandemKeepsAPlace$Rider", "ridden", "I", false)
def tyX10 : Nat → FieldType := fun k => match k with
  | 0 => .int
  | 1 => .int
  | _ => .int
abbrev wsX100 : List Cond := u_ws RX10 TX10 3
theorem nmX10 : ∀ a, a < 3 → ∀ b, b < 3 → a ≠ b → (TX10 a).2.1 ≠ (TX10 b).2.1 := by decide +kernel
theorem tyX10_ok : ∀ k, k < 3 → parseFieldDescriptor (TX10 k).2.2.1 = some (tyX10 k) := by decide +kernel
abbrev cX10_init : ByteArray := prog_2_method_1_code
def yX10_init : MethodName := ⟨RX10, "<init>", "(II)V"⟩
def dkwX10_init_0 : List UInt8 := [42, 27, 28, 183, 0, 1, 177]
abbrev dktX10_init_0 : List UInt8 := dkwX10_init_0 ++ []
theorem dksX10_init_0 : cX10_init.data.toList.drop 0 = dktX10_init_0 := by decide +kernel
theorem dX10_init_0 : decode cX10_init 0 = .ok (.aload_n 0, 1) := dk_42 (dk_at dksX10_init_0 0 rfl rfl)
theorem dX10_init_1 : decode cX10_init 1 = .ok (.iload_n 1, 1) := dk_27 (dk_at dksX10_init_0 1 rfl rfl)
theorem dX10_init_2 : decode cX10_init 2 = .ok (.iload_n 2, 1) := dk_28 (dk_at dksX10_init_0 2 rfl rfl)
theorem dX10_init_3 : decode cX10_init 3 = .ok (.invokespecial 1, 3) := dk_183 0 1 (dk_at dksX10_init_0 3 rfl rfl)
theorem dX10_init_6 : decode cX10_init 6 = .ok (.return_, 1) := dk_177 (dk_at dksX10_init_0 6 rfl rfl)
abbrev cX10_kind : ByteArray := prog_2_method_2_code
def yX10_kind : MethodName := ⟨RX10, "kind", "()I"⟩
def dkwX10_kind_0 : List UInt8 := [42, 183, 0, 7, 4, 96, 172]
abbrev dktX10_kind_0 : List UInt8 := dkwX10_kind_0 ++ []
theorem dksX10_kind_0 : cX10_kind.data.toList.drop 0 = dktX10_kind_0 := by decide +kernel
theorem dX10_kind_0 : decode cX10_kind 0 = .ok (.aload_n 0, 1) := dk_42 (dk_at dksX10_kind_0 0 rfl rfl)
theorem dX10_kind_1 : decode cX10_kind 1 = .ok (.invokespecial 7, 3) := dk_183 0 7 (dk_at dksX10_kind_0 1 rfl rfl)
theorem dX10_kind_4 : decode cX10_kind 4 = .ok (.iconst 1, 1) := dk_4 (dk_at dksX10_kind_0 4 rfl rfl)
theorem dX10_kind_5 : decode cX10_kind 5 = .ok (.iadd, 1) := dk_96 (dk_at dksX10_kind_0 5 rfl rfl)
theorem dX10_kind_6 : decode cX10_kind 6 = .ok (.ireturn, 1) := dk_172 (dk_at dksX10_kind_0 6 rfl rfl)
abbrev cX10_pull : ByteArray := prog_2_method_3_code
def yX10_pull : MethodName := ⟨RX10, "pull", "(IZI)I"⟩
def dkwX10_pull_0 : List UInt8 := [28, 153, 0, 13, 42, 27, 28, 29, 183, 0, 11, 167, 0, 12, 42, 27, 28, 29, 183, 0, 11, 5, 108, 172]
abbrev dktX10_pull_0 : List UInt8 := dkwX10_pull_0 ++ []
theorem dksX10_pull_0 : cX10_pull.data.toList.drop 0 = dktX10_pull_0 := by decide +kernel
theorem dX10_pull_0 : decode cX10_pull 0 = .ok (.iload_n 2, 1) := dk_28 (dk_at dksX10_pull_0 0 rfl rfl)
theorem dX10_pull_1 : decode cX10_pull 1 = .ok (.ifCond .eq 13, 3) := dk_153 0 13 (dk_at dksX10_pull_0 1 rfl rfl)
theorem dX10_pull_4 : decode cX10_pull 4 = .ok (.aload_n 0, 1) := dk_42 (dk_at dksX10_pull_0 4 rfl rfl)
theorem dX10_pull_5 : decode cX10_pull 5 = .ok (.iload_n 1, 1) := dk_27 (dk_at dksX10_pull_0 5 rfl rfl)
theorem dX10_pull_6 : decode cX10_pull 6 = .ok (.iload_n 2, 1) := dk_28 (dk_at dksX10_pull_0 6 rfl rfl)
theorem dX10_pull_7 : decode cX10_pull 7 = .ok (.iload_n 3, 1) := dk_29 (dk_at dksX10_pull_0 7 rfl rfl)
theorem dX10_pull_8 : decode cX10_pull 8 = .ok (.invokespecial 11, 3) := dk_183 0 11 (dk_at dksX10_pull_0 8 rfl rfl)
theorem dX10_pull_11 : decode cX10_pull 11 = .ok (.goto 12, 3) := dk_167 0 12 (dk_at dksX10_pull_0 11 rfl rfl)
theorem dX10_pull_14 : decode cX10_pull 14 = .ok (.aload_n 0, 1) := dk_42 (dk_at dksX10_pull_0 14 rfl rfl)
theorem dX10_pull_15 : decode cX10_pull 15 = .ok (.iload_n 1, 1) := dk_27 (dk_at dksX10_pull_0 15 rfl rfl)
theorem dX10_pull_16 : decode cX10_pull 16 = .ok (.iload_n 2, 1) := dk_28 (dk_at dksX10_pull_0 16 rfl rfl)
theorem dX10_pull_17 : decode cX10_pull 17 = .ok (.iload_n 3, 1) := dk_29 (dk_at dksX10_pull_0 17 rfl rfl)
theorem dX10_pull_18 : decode cX10_pull 18 = .ok (.invokespecial 11, 3) := dk_183 0 11 (dk_at dksX10_pull_0 18 rfl rfl)
theorem dX10_pull_21 : decode cX10_pull 21 = .ok (.iconst 2, 1) := dk_5 (dk_at dksX10_pull_0 21 rfl rfl)
theorem dX10_pull_22 : decode cX10_pull 22 = .ok (.idiv, 1) := dk_108 (dk_at dksX10_pull_0 22 rfl rfl)
theorem dX10_pull_23 : decode cX10_pull 23 = .ok (.ireturn, 1) := dk_172 (dk_at dksX10_pull_0 23 rfl rfl)
abbrev cX10_mood : ByteArray := prog_2_method_4_code
def yX10_mood : MethodName := ⟨RX10, "mood", "(I)I"⟩
def dkwX10_mood_0 : List UInt8 := [42, 27, 183, 0, 15, 6, 100, 172]
abbrev dktX10_mood_0 : List UInt8 := dkwX10_mood_0 ++ []
theorem dksX10_mood_0 : cX10_mood.data.toList.drop 0 = dktX10_mood_0 := by decide +kernel
theorem dX10_mood_0 : decode cX10_mood 0 = .ok (.aload_n 0, 1) := dk_42 (dk_at dksX10_mood_0 0 rfl rfl)
theorem dX10_mood_1 : decode cX10_mood 1 = .ok (.iload_n 1, 1) := dk_27 (dk_at dksX10_mood_0 1 rfl rfl)
theorem dX10_mood_2 : decode cX10_mood 2 = .ok (.invokespecial 15, 3) := dk_183 0 15 (dk_at dksX10_mood_0 2 rfl rfl)
theorem dX10_mood_5 : decode cX10_mood 5 = .ok (.iconst 3, 1) := dk_6 (dk_at dksX10_mood_0 5 rfl rfl)
theorem dX10_mood_6 : decode cX10_mood 6 = .ok (.isub, 1) := dk_100 (dk_at dksX10_mood_0 6 rfl rfl)
theorem dX10_mood_7 : decode cX10_mood 7 = .ok (.ireturn, 1) := dk_172 (dk_at dksX10_mood_0 7 rfl rfl)
abbrev cX10_hasEnough : ByteArray := prog_2_method_5_code
def yX10_hasEnough : MethodName := ⟨RX10, "hasEnough", "(ZI)Z"⟩
def dkwX10_hasEnough_0 : List UInt8 := [28, 16, 8, 163, 0, 12, 42, 27, 28, 183, 0, 19, 153, 0, 7, 4, 167, 0, 4, 3, 172]
abbrev dktX10_hasEnough_0 : List UInt8 := dkwX10_hasEnough_0 ++ []
theorem dksX10_hasEnough_0 : cX10_hasEnough.data.toList.drop 0 = dktX10_hasEnough_0 := by decide +kernel
theorem dX10_hasEnough_0 : decode cX10_hasEnough 0 = .ok (.iload_n 2, 1) := dk_28 (dk_at dksX10_hasEnough_0 0 rfl rfl)
theorem dX10_hasEnough_1 : decode cX10_hasEnough 1 = .ok (.bipush 8, 2) := dk_16 8 (dk_at dksX10_hasEnough_0 1 rfl rfl)
theorem dX10_hasEnough_3 : decode cX10_hasEnough 3 = .ok (.if_icmp .gt 12, 3) := dk_163 0 12 (dk_at dksX10_hasEnough_0 3 rfl rfl)
theorem dX10_hasEnough_6 : decode cX10_hasEnough 6 = .ok (.aload_n 0, 1) := dk_42 (dk_at dksX10_hasEnough_0 6 rfl rfl)
theorem dX10_hasEnough_7 : decode cX10_hasEnough 7 = .ok (.iload_n 1, 1) := dk_27 (dk_at dksX10_hasEnough_0 7 rfl rfl)
theorem dX10_hasEnough_8 : decode cX10_hasEnough 8 = .ok (.iload_n 2, 1) := dk_28 (dk_at dksX10_hasEnough_0 8 rfl rfl)
theorem dX10_hasEnough_9 : decode cX10_hasEnough 9 = .ok (.invokespecial 19, 3) := dk_183 0 19 (dk_at dksX10_hasEnough_0 9 rfl rfl)
theorem dX10_hasEnough_12 : decode cX10_hasEnough 12 = .ok (.ifCond .eq 7, 3) := dk_153 0 7 (dk_at dksX10_hasEnough_0 12 rfl rfl)
theorem dX10_hasEnough_15 : decode cX10_hasEnough 15 = .ok (.iconst 1, 1) := dk_4 (dk_at dksX10_hasEnough_0 15 rfl rfl)
theorem dX10_hasEnough_16 : decode cX10_hasEnough 16 = .ok (.goto 4, 3) := dk_167 0 4 (dk_at dksX10_hasEnough_0 16 rfl rfl)
theorem dX10_hasEnough_19 : decode cX10_hasEnough 19 = .ok (.iconst 0, 1) := dk_3 (dk_at dksX10_hasEnough_0 19 rfl rfl)
theorem dX10_hasEnough_20 : decode cX10_hasEnough 20 = .ok (.ireturn, 1) := dk_172 (dk_at dksX10_hasEnough_0 20 rfl rfl)
theorem q150 : (Jvm.Cond.initialized "TandemKeepsAPlace$Clerk") ∈ lw_all := lw_g (lw_at lw_m1 20 rfl) rfl
theorem q179 : (Jvm.Cond.instantiable "TandemKeepsAPlace$Clerk" (3 : Nat)) ∈ lw_all := lw_g (lw_at lw_m1 49 rfl) rfl
theorem q181 : (Jvm.Cond.instanceMethod ({ cls := "TandemKeepsAPlace$Clerk", name := "<init>", desc := "(II)V" } : Jvm.MethodName)) ∈ lw_all := lw_g (lw_at lw_m1 51 rfl) rfl
theorem q182 : (Jvm.Cond.code ({ cls := "TandemKeepsAPlace$Clerk", name := "<init>", desc := "(II)V" } : Jvm.MethodName) prog_2_method_1_code (3 : Nat) (Option.none : Option Jvm.ClassFile.FieldType)) ∈ lw_all := lw_g (lw_at lw_m1 52 rfl) rfl
theorem q183 : (Jvm.Cond.methodLink "TandemKeepsAPlace$Clerk" (1 : Nat) ({ cls := "TandemKeepsAPlace$Rider", name := "<init>", desc := "(II)V" } : Jvm.MethodName)) ∈ lw_all := lw_g (lw_at lw_m1 53 rfl) rfl
theorem q203 : (Jvm.Cond.lays "TandemKeepsAPlace$Clerk" "TandemKeepsAPlace$Rider" "number" "I") ∈ lw_all := lw_g (lw_at lw_m1 73 rfl) rfl
theorem q205 : (Jvm.Cond.lays "TandemKeepsAPlace$Clerk" "TandemKeepsAPlace$Rider" "goal" "I") ∈ lw_all := lw_g (lw_at lw_m1 75 rfl) rfl
theorem q207 : (Jvm.Cond.lays "TandemKeepsAPlace$Clerk" "TandemKeepsAPlace$Rider" "ridden" "I") ∈ lw_all := lw_g (lw_at lw_m1 77 rfl) rfl
theorem q209 : (Jvm.Cond.superclass "TandemKeepsAPlace$Clerk" "TandemKeepsAPlace$Rider") ∈ lw_all := lw_g (lw_at lw_m1 79 rfl) rfl
theorem q303 : (Jvm.Cond.selects "TandemKeepsAPlace$Clerk" ({ cls := "TandemKeepsAPlace$Rider", name := "kind", desc := "()I" } : Jvm.MethodName) ({ cls := "TandemKeepsAPlace$Clerk", name := "kind", desc := "()I" } : Jvm.MethodName)) ∈ lw_all := lw_g (lw_at lw_m1 173 rfl) rfl
theorem q304 : (Jvm.Cond.instanceMethod ({ cls := "TandemKeepsAPlace$Clerk", name := "kind", desc := "()I" } : Jvm.MethodName)) ∈ lw_all := lw_g (lw_at lw_m1 174 rfl) rfl
theorem q305 : (Jvm.Cond.code ({ cls := "TandemKeepsAPlace$Clerk", name := "kind", desc := "()I" } : Jvm.MethodName) prog_2_method_2_code (1 : Nat) (Option.some Jvm.ClassFile.FieldType.int)) ∈ lw_all := lw_g (lw_at lw_m1 175 rfl) rfl
theorem q306 : (Jvm.Cond.methodLink "TandemKeepsAPlace$Clerk" (7 : Nat) ({ cls := "TandemKeepsAPlace$Rider", name := "kind", desc := "()I" } : Jvm.MethodName)) ∈ lw_all := lw_g (lw_at lw_m1 176 rfl) rfl
theorem q367 : (Jvm.Cond.selects "TandemKeepsAPlace$Clerk" ({ cls := "TandemKeepsAPlace$Rider", name := "pull", desc := "(IZI)I" } : Jvm.MethodName) ({ cls := "TandemKeepsAPlace$Clerk", name := "pull", desc := "(IZI)I" } : Jvm.MethodName)) ∈ lw_all := lw_g (lw_at lw_m1 237 rfl) rfl
theorem q368 : (Jvm.Cond.instanceMethod ({ cls := "TandemKeepsAPlace$Clerk", name := "pull", desc := "(IZI)I" } : Jvm.MethodName)) ∈ lw_all := lw_g (lw_at lw_m1 238 rfl) rfl
theorem q369 : (Jvm.Cond.code ({ cls := "TandemKeepsAPlace$Clerk", name := "pull", desc := "(IZI)I" } : Jvm.MethodName) prog_2_method_3_code (4 : Nat) (Option.some Jvm.ClassFile.FieldType.int)) ∈ lw_all := lw_g (lw_at lw_m1 239 rfl) rfl
theorem q370 : (Jvm.Cond.methodLink "TandemKeepsAPlace$Clerk" (11 : Nat) ({ cls := "TandemKeepsAPlace$Rider", name := "pull", desc := "(IZI)I" } : Jvm.MethodName)) ∈ lw_all := lw_g (lw_at lw_m2 0 rfl) rfl
theorem q395 : (Jvm.Cond.selects "TandemKeepsAPlace$Clerk" ({ cls := "TandemKeepsAPlace$Rider", name := "mood", desc := "(I)I" } : Jvm.MethodName) ({ cls := "TandemKeepsAPlace$Clerk", name := "mood", desc := "(I)I" } : Jvm.MethodName)) ∈ lw_all := lw_g (lw_at lw_m2 25 rfl) rfl
theorem q396 : (Jvm.Cond.instanceMethod ({ cls := "TandemKeepsAPlace$Clerk", name := "mood", desc := "(I)I" } : Jvm.MethodName)) ∈ lw_all := lw_g (lw_at lw_m2 26 rfl) rfl
theorem q397 : (Jvm.Cond.code ({ cls := "TandemKeepsAPlace$Clerk", name := "mood", desc := "(I)I" } : Jvm.MethodName) prog_2_method_4_code (2 : Nat) (Option.some Jvm.ClassFile.FieldType.int)) ∈ lw_all := lw_g (lw_at lw_m2 27 rfl) rfl
theorem q398 : (Jvm.Cond.methodLink "TandemKeepsAPlace$Clerk" (15 : Nat) ({ cls := "TandemKeepsAPlace$Rider", name := "mood", desc := "(I)I" } : Jvm.MethodName)) ∈ lw_all := lw_g (lw_at lw_m2 28 rfl) rfl
theorem q938 : (Jvm.Cond.selects "TandemKeepsAPlace$Clerk" ({ cls := "TandemKeepsAPlace$Rider", name := "hasEnough", desc := "(ZI)Z" } : Jvm.MethodName) ({ cls := "TandemKeepsAPlace$Clerk", name := "hasEnough", desc := "(ZI)Z" } : Jvm.MethodName)) ∈ lw_all := lw_g (lw_at lw_m4 88 rfl) rfl
theorem q939 : (Jvm.Cond.instanceMethod ({ cls := "TandemKeepsAPlace$Clerk", name := "hasEnough", desc := "(ZI)Z" } : Jvm.MethodName)) ∈ lw_all := lw_g (lw_at lw_m4 89 rfl) rfl
theorem q940 : (Jvm.Cond.code ({ cls := "TandemKeepsAPlace$Clerk", name := "hasEnough", desc := "(ZI)Z" } : Jvm.MethodName) prog_2_method_5_code (3 : Nat) (Option.some Jvm.ClassFile.FieldType.boolean)) ∈ lw_all := lw_g (lw_at lw_m4 90 rfl) rfl
theorem q941 : (Jvm.Cond.methodLink "TandemKeepsAPlace$Clerk" (19 : Nat) ({ cls := "TandemKeepsAPlace$Rider", name := "hasEnough", desc := "(ZI)Z" } : Jvm.MethodName)) ∈ lw_all := lw_g (lw_at lw_m4 91 rfl) rfl
theorem q1096 : (Jvm.Cond.selects "TandemKeepsAPlace$Clerk" ({ cls := "TandemKeepsAPlace$Rider", name := "like", desc := "(LTandemKeepsAPlace$Rider;)LTandemKeepsAPlace$Rider;" } : Jvm.MethodName) ({ cls := "TandemKeepsAPlace$Rider", name := "like", desc := "(LTandemKeepsAPlace$Rider;)LTandemKeepsAPlace$Rider;" } : Jvm.MethodName)) ∈ lw_all := lw_g (lw_at lw_m5 6 rfl) rfl
theorem q1875 : (Jvm.Cond.sameMethod "TandemKeepsAPlace$Clerk" "TandemKeepsAPlace$Clerk" "kind" "()I") ∈ lw_all := lw_g (lw_at lw_m8 65 rfl) rfl
theorem q1877 : (Jvm.Cond.sameMethod "TandemKeepsAPlace$Clerk" "TandemKeepsAPlace$Clerk" "pull" "(IZI)I") ∈ lw_all := lw_g (lw_at lw_m8 67 rfl) rfl
theorem q1878 : (Jvm.Cond.sameMethod "TandemKeepsAPlace$Clerk" "TandemKeepsAPlace$Clerk" "mood" "(I)I") ∈ lw_all := lw_g (lw_at lw_m8 68 rfl) rfl
theorem q1887 : (Jvm.Cond.castable "TandemKeepsAPlace$Clerk" "TandemKeepsAPlace$Rider") ∈ lw_tbl := lw_at lw_m8 77 rfl
theorem in_X10 : ∀ w ∈ wsX100, w ∈ lw_all := lw_in wsX100 [203, 205, 207] (by decide +kernel) (by decide +kernel)

/-! TandemKeepsAPlace$Strong -/
set_option maxRecDepth 100000
def RX11 : String := "TandemKeepsAPlace$Strong"
def TX11 : u_T := fun k => match k with
  | 0 => ("TandemKeepsAPlace$Rider", "number", "I", false)
  | 1 => ("TandemKeepsAPlace$Rider", "goal", "I", false)
  | _ => ("TandemKeepsAPlace$Rider", "ridden", "I", false)
def tyX11 : Nat → FieldType := fun k => match k with
  | 0 => .int
  | 1 => .int
  | _ => .int
abbrev wsX110 : List Cond := u_ws RX11 TX11 3
theorem nmX11 : ∀ a, a < 3 → ∀ b, b < 3 → a ≠ b → (TX11 a).2.1 ≠ (TX11 b).2.1 := by decide +kernel
theorem tyX11_ok : ∀ k, k < 3 → parseFieldDescriptor (TX11 k).2.2.1 = some (tyX11 k) := by decide +kernel
abbrev cX11_init : ByteArray := prog_11_method_1_code
def yX11_init : MethodName := ⟨RX11, "<init>", "(II)V"⟩
def dkwX11_init_0 : List UInt8 := [42, 27, 28, 183, 0, 1, 177]
abbrev dktX11_init_0 : List UInt8 := dkwX11_init_0 ++ []
theorem dksX11_init_0 : cX11_init.data.toList.drop 0 = dktX11_init_0 := by decide +kernel
theorem dX11_init_0 : decode cX11_init 0 = .ok (.aload_n 0, 1) := dk_42 (dk_at dksX11_init_0 0 rfl rfl)
theorem dX11_init_1 : decode cX11_init 1 = .ok (.iload_n 1, 1) := dk_27 (dk_at dksX11_init_0 1 rfl rfl)
theorem dX11_init_2 : decode cX11_init 2 = .ok (.iload_n 2, 1) := dk_28 (dk_at dksX11_init_0 2 rfl rfl)
theorem dX11_init_3 : decode cX11_init 3 = .ok (.invokespecial 1, 3) := dk_183 0 1 (dk_at dksX11_init_0 3 rfl rfl)
theorem dX11_init_6 : decode cX11_init 6 = .ok (.return_, 1) := dk_177 (dk_at dksX11_init_0 6 rfl rfl)
abbrev cX11_kind : ByteArray := prog_11_method_2_code
def yX11_kind : MethodName := ⟨RX11, "kind", "()I"⟩
def dkwX11_kind_0 : List UInt8 := [42, 183, 0, 7, 5, 96, 172]
abbrev dktX11_kind_0 : List UInt8 := dkwX11_kind_0 ++ []
theorem dksX11_kind_0 : cX11_kind.data.toList.drop 0 = dktX11_kind_0 := by decide +kernel
theorem dX11_kind_0 : decode cX11_kind 0 = .ok (.aload_n 0, 1) := dk_42 (dk_at dksX11_kind_0 0 rfl rfl)
theorem dX11_kind_1 : decode cX11_kind 1 = .ok (.invokespecial 7, 3) := dk_183 0 7 (dk_at dksX11_kind_0 1 rfl rfl)
theorem dX11_kind_4 : decode cX11_kind 4 = .ok (.iconst 2, 1) := dk_5 (dk_at dksX11_kind_0 4 rfl rfl)
theorem dX11_kind_5 : decode cX11_kind 5 = .ok (.iadd, 1) := dk_96 (dk_at dksX11_kind_0 5 rfl rfl)
theorem dX11_kind_6 : decode cX11_kind 6 = .ok (.ireturn, 1) := dk_172 (dk_at dksX11_kind_0 6 rfl rfl)
abbrev cX11_pull : ByteArray := prog_11_method_3_code
def yX11_pull : MethodName := ⟨RX11, "pull", "(IZI)I"⟩
def dkwX11_pull_0 : List UInt8 := [42, 27, 28, 29, 183, 0, 11, 42, 180, 0, 15, 96, 172]
abbrev dktX11_pull_0 : List UInt8 := dkwX11_pull_0 ++ []
theorem dksX11_pull_0 : cX11_pull.data.toList.drop 0 = dktX11_pull_0 := by decide +kernel
theorem dX11_pull_0 : decode cX11_pull 0 = .ok (.aload_n 0, 1) := dk_42 (dk_at dksX11_pull_0 0 rfl rfl)
theorem dX11_pull_1 : decode cX11_pull 1 = .ok (.iload_n 1, 1) := dk_27 (dk_at dksX11_pull_0 1 rfl rfl)
theorem dX11_pull_2 : decode cX11_pull 2 = .ok (.iload_n 2, 1) := dk_28 (dk_at dksX11_pull_0 2 rfl rfl)
theorem dX11_pull_3 : decode cX11_pull 3 = .ok (.iload_n 3, 1) := dk_29 (dk_at dksX11_pull_0 3 rfl rfl)
theorem dX11_pull_4 : decode cX11_pull 4 = .ok (.invokespecial 11, 3) := dk_183 0 11 (dk_at dksX11_pull_0 4 rfl rfl)
theorem dX11_pull_7 : decode cX11_pull 7 = .ok (.aload_n 0, 1) := dk_42 (dk_at dksX11_pull_0 7 rfl rfl)
theorem dX11_pull_8 : decode cX11_pull 8 = .ok (.getfield 15, 3) := dk_180 0 15 (dk_at dksX11_pull_0 8 rfl rfl)
theorem dX11_pull_11 : decode cX11_pull 11 = .ok (.iadd, 1) := dk_96 (dk_at dksX11_pull_0 11 rfl rfl)
theorem dX11_pull_12 : decode cX11_pull 12 = .ok (.ireturn, 1) := dk_172 (dk_at dksX11_pull_0 12 rfl rfl)
abbrev cX11_hasEnough : ByteArray := prog_11_method_4_code
def yX11_hasEnough : MethodName := ⟨RX11, "hasEnough", "(ZI)Z"⟩
def dkwX11_hasEnough_0 : List UInt8 := [28, 42, 180, 0, 15, 164, 0, 16, 42, 27, 28, 183, 0, 21, 153, 0, 7, 4, 167, 0, 4, 3, 172]
abbrev dktX11_hasEnough_0 : List UInt8 := dkwX11_hasEnough_0 ++ []
theorem dksX11_hasEnough_0 : cX11_hasEnough.data.toList.drop 0 = dktX11_hasEnough_0 := by decide +kernel
theorem dX11_hasEnough_0 : decode cX11_hasEnough 0 = .ok (.iload_n 2, 1) := dk_28 (dk_at dksX11_hasEnough_0 0 rfl rfl)
theorem dX11_hasEnough_1 : decode cX11_hasEnough 1 = .ok (.aload_n 0, 1) := dk_42 (dk_at dksX11_hasEnough_0 1 rfl rfl)
theorem dX11_hasEnough_2 : decode cX11_hasEnough 2 = .ok (.getfield 15, 3) := dk_180 0 15 (dk_at dksX11_hasEnough_0 2 rfl rfl)
theorem dX11_hasEnough_5 : decode cX11_hasEnough 5 = .ok (.if_icmp .le 16, 3) := dk_164 0 16 (dk_at dksX11_hasEnough_0 5 rfl rfl)
theorem dX11_hasEnough_8 : decode cX11_hasEnough 8 = .ok (.aload_n 0, 1) := dk_42 (dk_at dksX11_hasEnough_0 8 rfl rfl)
theorem dX11_hasEnough_9 : decode cX11_hasEnough 9 = .ok (.iload_n 1, 1) := dk_27 (dk_at dksX11_hasEnough_0 9 rfl rfl)
theorem dX11_hasEnough_10 : decode cX11_hasEnough 10 = .ok (.iload_n 2, 1) := dk_28 (dk_at dksX11_hasEnough_0 10 rfl rfl)
theorem dX11_hasEnough_11 : decode cX11_hasEnough 11 = .ok (.invokespecial 21, 3) := dk_183 0 21 (dk_at dksX11_hasEnough_0 11 rfl rfl)
theorem dX11_hasEnough_14 : decode cX11_hasEnough 14 = .ok (.ifCond .eq 7, 3) := dk_153 0 7 (dk_at dksX11_hasEnough_0 14 rfl rfl)
theorem dX11_hasEnough_17 : decode cX11_hasEnough 17 = .ok (.iconst 1, 1) := dk_4 (dk_at dksX11_hasEnough_0 17 rfl rfl)
theorem dX11_hasEnough_18 : decode cX11_hasEnough 18 = .ok (.goto 4, 3) := dk_167 0 4 (dk_at dksX11_hasEnough_0 18 rfl rfl)
theorem dX11_hasEnough_21 : decode cX11_hasEnough 21 = .ok (.iconst 0, 1) := dk_3 (dk_at dksX11_hasEnough_0 21 rfl rfl)
theorem dX11_hasEnough_22 : decode cX11_hasEnough 22 = .ok (.ireturn, 1) := dk_172 (dk_at dksX11_hasEnough_0 22 rfl rfl)
theorem q151 : (Jvm.Cond.initialized "TandemKeepsAPlace$Strong") ∈ lw_all := lw_g (lw_at lw_m1 21 rfl) rfl
theorem q191 : (Jvm.Cond.fieldLink "TandemKeepsAPlace$Strong" (15 : Nat) "TandemKeepsAPlace$Strong" "number" "I") ∈ lw_all := lw_g (lw_at lw_m1 61 rfl) rfl
theorem q192 : (Jvm.Cond.sameField "TandemKeepsAPlace$Strong" "TandemKeepsAPlace$Rider" "number" "I") ∈ lw_all := lw_g (lw_at lw_m1 62 rfl) rfl
theorem q211 : (Jvm.Cond.instantiable "TandemKeepsAPlace$Strong" (3 : Nat)) ∈ lw_all := lw_g (lw_at lw_m1 81 rfl) rfl
theorem q213 : (Jvm.Cond.instanceMethod ({ cls := "TandemKeepsAPlace$Strong", name := "<init>", desc := "(II)V" } : Jvm.MethodName)) ∈ lw_all := lw_g (lw_at lw_m1 83 rfl) rfl
theorem q214 : (Jvm.Cond.code ({ cls := "TandemKeepsAPlace$Strong", name := "<init>", desc := "(II)V" } : Jvm.MethodName) prog_11_method_1_code (3 : Nat) (Option.none : Option Jvm.ClassFile.FieldType)) ∈ lw_all := lw_g (lw_at lw_m1 84 rfl) rfl
theorem q215 : (Jvm.Cond.methodLink "TandemKeepsAPlace$Strong" (1 : Nat) ({ cls := "TandemKeepsAPlace$Rider", name := "<init>", desc := "(II)V" } : Jvm.MethodName)) ∈ lw_all := lw_g (lw_at lw_m1 85 rfl) rfl
theorem q216 : (Jvm.Cond.lays "TandemKeepsAPlace$Strong" "TandemKeepsAPlace$Rider" "number" "I") ∈ lw_all := lw_g (lw_at lw_m1 86 rfl) rfl
theorem q217 : (Jvm.Cond.lays "TandemKeepsAPlace$Strong" "TandemKeepsAPlace$Rider" "goal" "I") ∈ lw_all := lw_g (lw_at lw_m1 87 rfl) rfl
theorem q218 : (Jvm.Cond.lays "TandemKeepsAPlace$Strong" "TandemKeepsAPlace$Rider" "ridden" "I") ∈ lw_all := lw_g (lw_at lw_m1 88 rfl) rfl
theorem q219 : (Jvm.Cond.superclass "TandemKeepsAPlace$Strong" "TandemKeepsAPlace$Rider") ∈ lw_all := lw_g (lw_at lw_m1 89 rfl) rfl
theorem q311 : (Jvm.Cond.instanceMethod ({ cls := "TandemKeepsAPlace$Strong", name := "kind", desc := "()I" } : Jvm.MethodName)) ∈ lw_all := lw_g (lw_at lw_m1 181 rfl) rfl
theorem q312 : (Jvm.Cond.code ({ cls := "TandemKeepsAPlace$Strong", name := "kind", desc := "()I" } : Jvm.MethodName) prog_11_method_2_code (1 : Nat) (Option.some Jvm.ClassFile.FieldType.int)) ∈ lw_all := lw_g (lw_at lw_m1 182 rfl) rfl
theorem q313 : (Jvm.Cond.methodLink "TandemKeepsAPlace$Strong" (7 : Nat) ({ cls := "TandemKeepsAPlace$Rider", name := "kind", desc := "()I" } : Jvm.MethodName)) ∈ lw_all := lw_g (lw_at lw_m1 183 rfl) rfl
theorem q318 : (Jvm.Cond.selects "TandemKeepsAPlace$Strong" ({ cls := "TandemKeepsAPlace$Rider", name := "kind", desc := "()I" } : Jvm.MethodName) ({ cls := "TandemKeepsAPlace$Strong", name := "kind", desc := "()I" } : Jvm.MethodName)) ∈ lw_all := lw_g (lw_at lw_m1 188 rfl) rfl
theorem q375 : (Jvm.Cond.instanceMethod ({ cls := "TandemKeepsAPlace$Strong", name := "pull", desc := "(IZI)I" } : Jvm.MethodName)) ∈ lw_all := lw_g (lw_at lw_m2 5 rfl) rfl
theorem q376 : (Jvm.Cond.code ({ cls := "TandemKeepsAPlace$Strong", name := "pull", desc := "(IZI)I" } : Jvm.MethodName) prog_11_method_3_code (4 : Nat) (Option.some Jvm.ClassFile.FieldType.int)) ∈ lw_all := lw_g (lw_at lw_m2 6 rfl) rfl
theorem q377 : (Jvm.Cond.methodLink "TandemKeepsAPlace$Strong" (11 : Nat) ({ cls := "TandemKeepsAPlace$Rider", name := "pull", desc := "(IZI)I" } : Jvm.MethodName)) ∈ lw_all := lw_g (lw_at lw_m2 7 rfl) rfl
theorem q382 : (Jvm.Cond.selects "TandemKeepsAPlace$Strong" ({ cls := "TandemKeepsAPlace$Rider", name := "pull", desc := "(IZI)I" } : Jvm.MethodName) ({ cls := "TandemKeepsAPlace$Strong", name := "pull", desc := "(IZI)I" } : Jvm.MethodName)) ∈ lw_all := lw_g (lw_at lw_m2 12 rfl) rfl
theorem q403 : (Jvm.Cond.sameMethod "TandemKeepsAPlace$Strong" "TandemKeepsAPlace$Rider" "mood" "(I)I") ∈ lw_all := lw_g (lw_at lw_m2 33 rfl) rfl
theorem q410 : (Jvm.Cond.selects "TandemKeepsAPlace$Strong" ({ cls := "TandemKeepsAPlace$Rider", name := "mood", desc := "(I)I" } : Jvm.MethodName) ({ cls := "TandemKeepsAPlace$Rider", name := "mood", desc := "(I)I" } : Jvm.MethodName)) ∈ lw_all := lw_g (lw_at lw_m2 40 rfl) rfl
theorem q946 : (Jvm.Cond.selects "TandemKeepsAPlace$Strong" ({ cls := "TandemKeepsAPlace$Rider", name := "hasEnough", desc := "(ZI)Z" } : Jvm.MethodName) ({ cls := "TandemKeepsAPlace$Strong", name := "hasEnough", desc := "(ZI)Z" } : Jvm.MethodName)) ∈ lw_all := lw_g (lw_at lw_m4 96 rfl) rfl
theorem q947 : (Jvm.Cond.instanceMethod ({ cls := "TandemKeepsAPlace$Strong", name := "hasEnough", desc := "(ZI)Z" } : Jvm.MethodName)) ∈ lw_all := lw_g (lw_at lw_m4 97 rfl) rfl
theorem q948 : (Jvm.Cond.code ({ cls := "TandemKeepsAPlace$Strong", name := "hasEnough", desc := "(ZI)Z" } : Jvm.MethodName) prog_11_method_4_code (3 : Nat) (Option.some Jvm.ClassFile.FieldType.boolean)) ∈ lw_all := lw_g (lw_at lw_m4 98 rfl) rfl
theorem q949 : (Jvm.Cond.methodLink "TandemKeepsAPlace$Strong" (21 : Nat) ({ cls := "TandemKeepsAPlace$Rider", name := "hasEnough", desc := "(ZI)Z" } : Jvm.MethodName)) ∈ lw_all := lw_g (lw_at lw_m4 99 rfl) rfl
theorem q1099 : (Jvm.Cond.selects "TandemKeepsAPlace$Strong" ({ cls := "TandemKeepsAPlace$Rider", name := "like", desc := "(LTandemKeepsAPlace$Rider;)LTandemKeepsAPlace$Rider;" } : Jvm.MethodName) ({ cls := "TandemKeepsAPlace$Rider", name := "like", desc := "(LTandemKeepsAPlace$Rider;)LTandemKeepsAPlace$Rider;" } : Jvm.MethodName)) ∈ lw_all := lw_g (lw_at lw_m5 9 rfl) rfl
theorem q1874 : (Jvm.Cond.sameMethod "TandemKeepsAPlace$Strong" "TandemKeepsAPlace$Strong" "kind" "()I") ∈ lw_all := lw_g (lw_at lw_m8 64 rfl) rfl
theorem q1876 : (Jvm.Cond.sameMethod "TandemKeepsAPlace$Strong" "TandemKeepsAPlace$Strong" "pull" "(IZI)I") ∈ lw_all := lw_g (lw_at lw_m8 66 rfl) rfl
theorem q1888 : (Jvm.Cond.castable "TandemKeepsAPlace$Strong" "TandemKeepsAPlace$Rider") ∈ lw_tbl := lw_at lw_m8 78 rfl
theorem in_X11 : ∀ w ∈ wsX110, w ∈ lw_all := lw_in wsX110 [216, 217, 218] (by decide +kernel) (by decide +kernel)

/-! TandemKeepsAPlace$Mistress -/
set_option maxRecDepth 100000
def RX12 : String := "TandemKeepsAPlace$Mistress"
def TX12 : u_T := fun k => match k with
  | 0 => ("TandemKeepsAPlace$Rider", "number", "I", false)
  | 1 => ("TandemKeepsAPlace$Rider", "goal", "I", false)
  | _ => ("TandemKeepsAPlace$Rider", "ridden", "I", false)
def tyX12 : Nat → FieldType := fun k => match k with
  | 0 => .int
  | 1 => .int
  | _ => .int
abbrev wsX120 : List Cond := u_ws RX12 TX12 3
theorem nmX12 : ∀ a, a < 3 → ∀ b, b < 3 → a ≠ b → (TX12 a).2.1 ≠ (TX12 b).2.1 := by decide +kernel
theorem tyX12_ok : ∀ k, k < 3 → parseFieldDescriptor (TX12 k).2.2.1 = some (tyX12 k) := by decide +kernel
abbrev cX12_init : ByteArray := prog_5_method_1_code
def yX12_init : MethodName := ⟨RX12, "<init>", "(II)V"⟩
def dkwX12_init_0 : List UInt8 := [42, 27, 28, 183, 0, 1, 177]
abbrev dktX12_init_0 : List UInt8 := dkwX12_init_0 ++ []
theorem dksX12_init_0 : cX12_init.data.toList.drop 0 = dktX12_init_0 := by decide +kernel
theorem dX12_init_0 : decode cX12_init 0 = .ok (.aload_n 0, 1) := dk_42 (dk_at dksX12_init_0 0 rfl rfl)
theorem dX12_init_1 : decode cX12_init 1 = .ok (.iload_n 1, 1) := dk_27 (dk_at dksX12_init_0 1 rfl rfl)
theorem dX12_init_2 : decode cX12_init 2 = .ok (.iload_n 2, 1) := dk_28 (dk_at dksX12_init_0 2 rfl rfl)
theorem dX12_init_3 : decode cX12_init 3 = .ok (.invokespecial 1, 3) := dk_183 0 1 (dk_at dksX12_init_0 3 rfl rfl)
theorem dX12_init_6 : decode cX12_init 6 = .ok (.return_, 1) := dk_177 (dk_at dksX12_init_0 6 rfl rfl)
abbrev cX12_kind : ByteArray := prog_5_method_2_code
def yX12_kind : MethodName := ⟨RX12, "kind", "()I"⟩
def dkwX12_kind_0 : List UInt8 := [42, 183, 0, 7, 5, 96, 172]
abbrev dktX12_kind_0 : List UInt8 := dkwX12_kind_0 ++ []
theorem dksX12_kind_0 : cX12_kind.data.toList.drop 0 = dktX12_kind_0 := by decide +kernel
theorem dX12_kind_0 : decode cX12_kind 0 = .ok (.aload_n 0, 1) := dk_42 (dk_at dksX12_kind_0 0 rfl rfl)
theorem dX12_kind_1 : decode cX12_kind 1 = .ok (.invokespecial 7, 3) := dk_183 0 7 (dk_at dksX12_kind_0 1 rfl rfl)
theorem dX12_kind_4 : decode cX12_kind 4 = .ok (.iconst 2, 1) := dk_5 (dk_at dksX12_kind_0 4 rfl rfl)
theorem dX12_kind_5 : decode cX12_kind 5 = .ok (.iadd, 1) := dk_96 (dk_at dksX12_kind_0 5 rfl rfl)
theorem dX12_kind_6 : decode cX12_kind 6 = .ok (.ireturn, 1) := dk_172 (dk_at dksX12_kind_0 6 rfl rfl)
abbrev cX12_pull : ByteArray := prog_5_method_3_code
def yX12_pull : MethodName := ⟨RX12, "pull", "(IZI)I"⟩
def dkwX12_pull_1 : List UInt8 := [183, 0, 11, 172]
abbrev dktX12_pull_1 : List UInt8 := dkwX12_pull_1 ++ []
def dkwX12_pull_0 : List UInt8 := [29, 16, 12, 162, 0, 15, 5, 42, 27, 28, 29, 183, 0, 11, 104, 167, 0, 10, 42, 27, 28, 29]
abbrev dktX12_pull_0 : List UInt8 := dkwX12_pull_0 ++ dktX12_pull_1
theorem dksX12_pull_0 : cX12_pull.data.toList.drop 0 = dktX12_pull_0 := by decide +kernel
theorem dksX12_pull_1 : cX12_pull.data.toList.drop 22 = dktX12_pull_1 := dk_seg dksX12_pull_0 22 rfl rfl
theorem dX12_pull_0 : decode cX12_pull 0 = .ok (.iload_n 3, 1) := dk_29 (dk_at dksX12_pull_0 0 rfl rfl)
theorem dX12_pull_1 : decode cX12_pull 1 = .ok (.bipush 12, 2) := dk_16 12 (dk_at dksX12_pull_0 1 rfl rfl)
theorem dX12_pull_3 : decode cX12_pull 3 = .ok (.if_icmp .ge 15, 3) := dk_162 0 15 (dk_at dksX12_pull_0 3 rfl rfl)
theorem dX12_pull_6 : decode cX12_pull 6 = .ok (.iconst 2, 1) := dk_5 (dk_at dksX12_pull_0 6 rfl rfl)
theorem dX12_pull_7 : decode cX12_pull 7 = .ok (.aload_n 0, 1) := dk_42 (dk_at dksX12_pull_0 7 rfl rfl)
theorem dX12_pull_8 : decode cX12_pull 8 = .ok (.iload_n 1, 1) := dk_27 (dk_at dksX12_pull_0 8 rfl rfl)
theorem dX12_pull_9 : decode cX12_pull 9 = .ok (.iload_n 2, 1) := dk_28 (dk_at dksX12_pull_0 9 rfl rfl)
theorem dX12_pull_10 : decode cX12_pull 10 = .ok (.iload_n 3, 1) := dk_29 (dk_at dksX12_pull_0 10 rfl rfl)
theorem dX12_pull_11 : decode cX12_pull 11 = .ok (.invokespecial 11, 3) := dk_183 0 11 (dk_at dksX12_pull_0 11 rfl rfl)
theorem dX12_pull_14 : decode cX12_pull 14 = .ok (.imul, 1) := dk_104 (dk_at dksX12_pull_0 14 rfl rfl)
theorem dX12_pull_15 : decode cX12_pull 15 = .ok (.goto 10, 3) := dk_167 0 10 (dk_at dksX12_pull_0 15 rfl rfl)
theorem dX12_pull_18 : decode cX12_pull 18 = .ok (.aload_n 0, 1) := dk_42 (dk_at dksX12_pull_0 18 rfl rfl)
theorem dX12_pull_19 : decode cX12_pull 19 = .ok (.iload_n 1, 1) := dk_27 (dk_at dksX12_pull_0 19 rfl rfl)
theorem dX12_pull_20 : decode cX12_pull 20 = .ok (.iload_n 2, 1) := dk_28 (dk_at dksX12_pull_0 20 rfl rfl)
theorem dX12_pull_21 : decode cX12_pull 21 = .ok (.iload_n 3, 1) := dk_29 (dk_at dksX12_pull_0 21 rfl rfl)
theorem dX12_pull_22 : decode cX12_pull 22 = .ok (.invokespecial 11, 3) := dk_183 0 11 (dk_at dksX12_pull_1 0 rfl rfl)
theorem dX12_pull_25 : decode cX12_pull 25 = .ok (.ireturn, 1) := dk_172 (dk_at dksX12_pull_1 3 rfl rfl)
abbrev cX12_mood : ByteArray := prog_5_method_4_code
def yX12_mood : MethodName := ⟨RX12, "mood", "(I)I"⟩
def dkwX12_mood_0 : List UInt8 := [3, 42, 27, 183, 0, 15, 184, 0, 19, 172]
abbrev dktX12_mood_0 : List UInt8 := dkwX12_mood_0 ++ []
theorem dksX12_mood_0 : cX12_mood.data.toList.drop 0 = dktX12_mood_0 := by decide +kernel
theorem dX12_mood_0 : decode cX12_mood 0 = .ok (.iconst 0, 1) := dk_3 (dk_at dksX12_mood_0 0 rfl rfl)
theorem dX12_mood_1 : decode cX12_mood 1 = .ok (.aload_n 0, 1) := dk_42 (dk_at dksX12_mood_0 1 rfl rfl)
theorem dX12_mood_2 : decode cX12_mood 2 = .ok (.iload_n 1, 1) := dk_27 (dk_at dksX12_mood_0 2 rfl rfl)
theorem dX12_mood_3 : decode cX12_mood 3 = .ok (.invokespecial 15, 3) := dk_183 0 15 (dk_at dksX12_mood_0 3 rfl rfl)
theorem dX12_mood_6 : decode cX12_mood 6 = .ok (.invokestatic 19, 3) := dk_184 0 19 (dk_at dksX12_mood_0 6 rfl rfl)
theorem dX12_mood_9 : decode cX12_mood 9 = .ok (.ireturn, 1) := dk_172 (dk_at dksX12_mood_0 9 rfl rfl)
theorem q152 : (Jvm.Cond.initialized "TandemKeepsAPlace$Mistress") ∈ lw_all := lw_g (lw_at lw_m1 22 rfl) rfl
theorem q221 : (Jvm.Cond.instantiable "TandemKeepsAPlace$Mistress" (3 : Nat)) ∈ lw_all := lw_g (lw_at lw_m1 91 rfl) rfl
theorem q223 : (Jvm.Cond.instanceMethod ({ cls := "TandemKeepsAPlace$Mistress", name := "<init>", desc := "(II)V" } : Jvm.MethodName)) ∈ lw_all := lw_g (lw_at lw_m1 93 rfl) rfl
theorem q224 : (Jvm.Cond.code ({ cls := "TandemKeepsAPlace$Mistress", name := "<init>", desc := "(II)V" } : Jvm.MethodName) prog_5_method_1_code (3 : Nat) (Option.none : Option Jvm.ClassFile.FieldType)) ∈ lw_all := lw_g (lw_at lw_m1 94 rfl) rfl
theorem q225 : (Jvm.Cond.methodLink "TandemKeepsAPlace$Mistress" (1 : Nat) ({ cls := "TandemKeepsAPlace$Clerk", name := "<init>", desc := "(II)V" } : Jvm.MethodName)) ∈ lw_all := lw_g (lw_at lw_m1 95 rfl) rfl
theorem q226 : (Jvm.Cond.lays "TandemKeepsAPlace$Mistress" "TandemKeepsAPlace$Rider" "number" "I") ∈ lw_all := lw_g (lw_at lw_m1 96 rfl) rfl
theorem q227 : (Jvm.Cond.lays "TandemKeepsAPlace$Mistress" "TandemKeepsAPlace$Rider" "goal" "I") ∈ lw_all := lw_g (lw_at lw_m1 97 rfl) rfl
theorem q228 : (Jvm.Cond.lays "TandemKeepsAPlace$Mistress" "TandemKeepsAPlace$Rider" "ridden" "I") ∈ lw_all := lw_g (lw_at lw_m1 98 rfl) rfl
theorem q229 : (Jvm.Cond.superclass "TandemKeepsAPlace$Mistress" "TandemKeepsAPlace$Clerk") ∈ lw_all := lw_g (lw_at lw_m1 99 rfl) rfl
theorem q314 : (Jvm.Cond.selects "TandemKeepsAPlace$Mistress" ({ cls := "TandemKeepsAPlace$Rider", name := "kind", desc := "()I" } : Jvm.MethodName) ({ cls := "TandemKeepsAPlace$Mistress", name := "kind", desc := "()I" } : Jvm.MethodName)) ∈ lw_all := lw_g (lw_at lw_m1 184 rfl) rfl
theorem q315 : (Jvm.Cond.instanceMethod ({ cls := "TandemKeepsAPlace$Mistress", name := "kind", desc := "()I" } : Jvm.MethodName)) ∈ lw_all := lw_g (lw_at lw_m1 185 rfl) rfl
theorem q316 : (Jvm.Cond.code ({ cls := "TandemKeepsAPlace$Mistress", name := "kind", desc := "()I" } : Jvm.MethodName) prog_5_method_2_code (1 : Nat) (Option.some Jvm.ClassFile.FieldType.int)) ∈ lw_all := lw_g (lw_at lw_m1 186 rfl) rfl
theorem q317 : (Jvm.Cond.methodLink "TandemKeepsAPlace$Mistress" (7 : Nat) ({ cls := "TandemKeepsAPlace$Clerk", name := "kind", desc := "()I" } : Jvm.MethodName)) ∈ lw_all := lw_g (lw_at lw_m1 187 rfl) rfl
theorem q378 : (Jvm.Cond.selects "TandemKeepsAPlace$Mistress" ({ cls := "TandemKeepsAPlace$Rider", name := "pull", desc := "(IZI)I" } : Jvm.MethodName) ({ cls := "TandemKeepsAPlace$Mistress", name := "pull", desc := "(IZI)I" } : Jvm.MethodName)) ∈ lw_all := lw_g (lw_at lw_m2 8 rfl) rfl
theorem q379 : (Jvm.Cond.instanceMethod ({ cls := "TandemKeepsAPlace$Mistress", name := "pull", desc := "(IZI)I" } : Jvm.MethodName)) ∈ lw_all := lw_g (lw_at lw_m2 9 rfl) rfl
theorem q380 : (Jvm.Cond.code ({ cls := "TandemKeepsAPlace$Mistress", name := "pull", desc := "(IZI)I" } : Jvm.MethodName) prog_5_method_3_code (4 : Nat) (Option.some Jvm.ClassFile.FieldType.int)) ∈ lw_all := lw_g (lw_at lw_m2 10 rfl) rfl
theorem q381 : (Jvm.Cond.methodLink "TandemKeepsAPlace$Mistress" (11 : Nat) ({ cls := "TandemKeepsAPlace$Clerk", name := "pull", desc := "(IZI)I" } : Jvm.MethodName)) ∈ lw_all := lw_g (lw_at lw_m2 11 rfl) rfl
theorem q405 : (Jvm.Cond.selects "TandemKeepsAPlace$Mistress" ({ cls := "TandemKeepsAPlace$Rider", name := "mood", desc := "(I)I" } : Jvm.MethodName) ({ cls := "TandemKeepsAPlace$Mistress", name := "mood", desc := "(I)I" } : Jvm.MethodName)) ∈ lw_all := lw_g (lw_at lw_m2 35 rfl) rfl
theorem q406 : (Jvm.Cond.instanceMethod ({ cls := "TandemKeepsAPlace$Mistress", name := "mood", desc := "(I)I" } : Jvm.MethodName)) ∈ lw_all := lw_g (lw_at lw_m2 36 rfl) rfl
theorem q407 : (Jvm.Cond.code ({ cls := "TandemKeepsAPlace$Mistress", name := "mood", desc := "(I)I" } : Jvm.MethodName) prog_5_method_4_code (2 : Nat) (Option.some Jvm.ClassFile.FieldType.int)) ∈ lw_all := lw_g (lw_at lw_m2 37 rfl) rfl
theorem q408 : (Jvm.Cond.methodLink "TandemKeepsAPlace$Mistress" (15 : Nat) ({ cls := "TandemKeepsAPlace$Clerk", name := "mood", desc := "(I)I" } : Jvm.MethodName)) ∈ lw_all := lw_g (lw_at lw_m2 38 rfl) rfl
theorem q409 : (Jvm.Cond.methodLink "TandemKeepsAPlace$Mistress" (19 : Nat) ({ cls := "java/lang/Math", name := "max", desc := "(II)I" } : Jvm.MethodName)) ∈ lw_all := lw_g (lw_at lw_m2 39 rfl) rfl
theorem q945 : (Jvm.Cond.selects "TandemKeepsAPlace$Mistress" ({ cls := "TandemKeepsAPlace$Rider", name := "hasEnough", desc := "(ZI)Z" } : Jvm.MethodName) ({ cls := "TandemKeepsAPlace$Clerk", name := "hasEnough", desc := "(ZI)Z" } : Jvm.MethodName)) ∈ lw_all := lw_g (lw_at lw_m4 95 rfl) rfl
theorem q1098 : (Jvm.Cond.selects "TandemKeepsAPlace$Mistress" ({ cls := "TandemKeepsAPlace$Rider", name := "like", desc := "(LTandemKeepsAPlace$Rider;)LTandemKeepsAPlace$Rider;" } : Jvm.MethodName) ({ cls := "TandemKeepsAPlace$Rider", name := "like", desc := "(LTandemKeepsAPlace$Rider;)LTandemKeepsAPlace$Rider;" } : Jvm.MethodName)) ∈ lw_all := lw_g (lw_at lw_m5 8 rfl) rfl
theorem q1881 : (Jvm.Cond.castable "TandemKeepsAPlace$Mistress" "TandemKeepsAPlace$Clerk") ∈ lw_tbl := lw_at lw_m8 71 rfl
theorem q1889 : (Jvm.Cond.castable "TandemKeepsAPlace$Mistress" "TandemKeepsAPlace$Rider") ∈ lw_tbl := lw_at lw_m8 79 rfl
theorem in_X12 : ∀ w ∈ wsX120, w ∈ lw_all := lw_in wsX120 [226, 227, 228] (by decide +kernel) (by decide +kernel)

/-! TandemKeepsAPlace$Dead -/
set_option maxRecDepth 100000
def RX13 : String := "TandemKeepsAPlace$Dead"
def TX13 : u_T := fun k => match k with
  | 0 => ("TandemKeepsAPlace$Rider", "number", "I", false)
  | 1 => ("TandemKeepsAPlace$Rider", "goal", "I", false)
  | _ => ("TandemKeepsAPlace$Rider", "ridden", "I", false)
def tyX13 : Nat → FieldType := fun k => match k with
  | 0 => .int
  | 1 => .int
  | _ => .int
abbrev wsX130 : List Cond := u_ws RX13 TX13 3
theorem nmX13 : ∀ a, a < 3 → ∀ b, b < 3 → a ≠ b → (TX13 a).2.1 ≠ (TX13 b).2.1 := by decide +kernel
theorem tyX13_ok : ∀ k, k < 3 → parseFieldDescriptor (TX13 k).2.2.1 = some (tyX13 k) := by decide +kernel
abbrev cX13_init : ByteArray := prog_3_method_1_code
def yX13_init : MethodName := ⟨RX13, "<init>", "(II)V"⟩
def dkwX13_init_0 : List UInt8 := [42, 27, 28, 183, 0, 1, 177]
abbrev dktX13_init_0 : List UInt8 := dkwX13_init_0 ++ []
theorem dksX13_init_0 : cX13_init.data.toList.drop 0 = dktX13_init_0 := by decide +kernel
theorem dX13_init_0 : decode cX13_init 0 = .ok (.aload_n 0, 1) := dk_42 (dk_at dksX13_init_0 0 rfl rfl)
theorem dX13_init_1 : decode cX13_init 1 = .ok (.iload_n 1, 1) := dk_27 (dk_at dksX13_init_0 1 rfl rfl)
theorem dX13_init_2 : decode cX13_init 2 = .ok (.iload_n 2, 1) := dk_28 (dk_at dksX13_init_0 2 rfl rfl)
theorem dX13_init_3 : decode cX13_init 3 = .ok (.invokespecial 1, 3) := dk_183 0 1 (dk_at dksX13_init_0 3 rfl rfl)
theorem dX13_init_6 : decode cX13_init 6 = .ok (.return_, 1) := dk_177 (dk_at dksX13_init_0 6 rfl rfl)
abbrev cX13_kind : ByteArray := prog_3_method_2_code
def yX13_kind : MethodName := ⟨RX13, "kind", "()I"⟩
def dkwX13_kind_0 : List UInt8 := [42, 183, 0, 7, 5, 96, 172]
abbrev dktX13_kind_0 : List UInt8 := dkwX13_kind_0 ++ []
theorem dksX13_kind_0 : cX13_kind.data.toList.drop 0 = dktX13_kind_0 := by decide +kernel
theorem dX13_kind_0 : decode cX13_kind 0 = .ok (.aload_n 0, 1) := dk_42 (dk_at dksX13_kind_0 0 rfl rfl)
theorem dX13_kind_1 : decode cX13_kind 1 = .ok (.invokespecial 7, 3) := dk_183 0 7 (dk_at dksX13_kind_0 1 rfl rfl)
theorem dX13_kind_4 : decode cX13_kind 4 = .ok (.iconst 2, 1) := dk_5 (dk_at dksX13_kind_0 4 rfl rfl)
theorem dX13_kind_5 : decode cX13_kind 5 = .ok (.iadd, 1) := dk_96 (dk_at dksX13_kind_0 5 rfl rfl)
theorem dX13_kind_6 : decode cX13_kind 6 = .ok (.ireturn, 1) := dk_172 (dk_at dksX13_kind_0 6 rfl rfl)
abbrev cX13_pull : ByteArray := prog_3_method_3_code
def yX13_pull : MethodName := ⟨RX13, "pull", "(IZI)I"⟩
def dkwX13_pull_0 : List UInt8 := [28, 153, 0, 7, 3, 167, 0, 13, 42, 27, 28, 29, 183, 0, 11, 16, 10, 96, 172]
abbrev dktX13_pull_0 : List UInt8 := dkwX13_pull_0 ++ []
theorem dksX13_pull_0 : cX13_pull.data.toList.drop 0 = dktX13_pull_0 := by decide +kernel
theorem dX13_pull_0 : decode cX13_pull 0 = .ok (.iload_n 2, 1) := dk_28 (dk_at dksX13_pull_0 0 rfl rfl)
theorem dX13_pull_1 : decode cX13_pull 1 = .ok (.ifCond .eq 7, 3) := dk_153 0 7 (dk_at dksX13_pull_0 1 rfl rfl)
theorem dX13_pull_4 : decode cX13_pull 4 = .ok (.iconst 0, 1) := dk_3 (dk_at dksX13_pull_0 4 rfl rfl)
theorem dX13_pull_5 : decode cX13_pull 5 = .ok (.goto 13, 3) := dk_167 0 13 (dk_at dksX13_pull_0 5 rfl rfl)
theorem dX13_pull_8 : decode cX13_pull 8 = .ok (.aload_n 0, 1) := dk_42 (dk_at dksX13_pull_0 8 rfl rfl)
theorem dX13_pull_9 : decode cX13_pull 9 = .ok (.iload_n 1, 1) := dk_27 (dk_at dksX13_pull_0 9 rfl rfl)
theorem dX13_pull_10 : decode cX13_pull 10 = .ok (.iload_n 2, 1) := dk_28 (dk_at dksX13_pull_0 10 rfl rfl)
theorem dX13_pull_11 : decode cX13_pull 11 = .ok (.iload_n 3, 1) := dk_29 (dk_at dksX13_pull_0 11 rfl rfl)
theorem dX13_pull_12 : decode cX13_pull 12 = .ok (.invokespecial 11, 3) := dk_183 0 11 (dk_at dksX13_pull_0 12 rfl rfl)
theorem dX13_pull_15 : decode cX13_pull 15 = .ok (.bipush 10, 2) := dk_16 10 (dk_at dksX13_pull_0 15 rfl rfl)
theorem dX13_pull_17 : decode cX13_pull 17 = .ok (.iadd, 1) := dk_96 (dk_at dksX13_pull_0 17 rfl rfl)
theorem dX13_pull_18 : decode cX13_pull 18 = .ok (.ireturn, 1) := dk_172 (dk_at dksX13_pull_0 18 rfl rfl)
abbrev cX13_mood : ByteArray := prog_3_method_4_code
def yX13_mood : MethodName := ⟨RX13, "mood", "(I)I"⟩
def dkwX13_mood_0 : List UInt8 := [42, 27, 183, 0, 15, 42, 180, 0, 19, 96, 172]
abbrev dktX13_mood_0 : List UInt8 := dkwX13_mood_0 ++ []
theorem dksX13_mood_0 : cX13_mood.data.toList.drop 0 = dktX13_mood_0 := by decide +kernel
theorem dX13_mood_0 : decode cX13_mood 0 = .ok (.aload_n 0, 1) := dk_42 (dk_at dksX13_mood_0 0 rfl rfl)
theorem dX13_mood_1 : decode cX13_mood 1 = .ok (.iload_n 1, 1) := dk_27 (dk_at dksX13_mood_0 1 rfl rfl)
theorem dX13_mood_2 : decode cX13_mood 2 = .ok (.invokespecial 15, 3) := dk_183 0 15 (dk_at dksX13_mood_0 2 rfl rfl)
theorem dX13_mood_5 : decode cX13_mood 5 = .ok (.aload_n 0, 1) := dk_42 (dk_at dksX13_mood_0 5 rfl rfl)
theorem dX13_mood_6 : decode cX13_mood 6 = .ok (.getfield 19, 3) := dk_180 0 19 (dk_at dksX13_mood_0 6 rfl rfl)
theorem dX13_mood_9 : decode cX13_mood 9 = .ok (.iadd, 1) := dk_96 (dk_at dksX13_mood_0 9 rfl rfl)
theorem dX13_mood_10 : decode cX13_mood 10 = .ok (.ireturn, 1) := dk_172 (dk_at dksX13_mood_0 10 rfl rfl)
abbrev cX13_hasEnough : ByteArray := prog_3_method_5_code
def yX13_hasEnough : MethodName := ⟨RX13, "hasEnough", "(ZI)Z"⟩
theorem dX13_hasEnough_0 : decode cX13_hasEnough 0 = .ok (.iconst 0, 1) := by decide +kernel
theorem dX13_hasEnough_1 : decode cX13_hasEnough 1 = .ok (.ireturn, 1) := by decide +kernel
theorem q153 : (Jvm.Cond.initialized "TandemKeepsAPlace$Dead") ∈ lw_all := lw_g (lw_at lw_m1 23 rfl) rfl
theorem q193 : (Jvm.Cond.fieldLink "TandemKeepsAPlace$Dead" (19 : Nat) "TandemKeepsAPlace$Dead" "number" "I") ∈ lw_all := lw_g (lw_at lw_m1 63 rfl) rfl
theorem q194 : (Jvm.Cond.sameField "TandemKeepsAPlace$Dead" "TandemKeepsAPlace$Rider" "number" "I") ∈ lw_all := lw_g (lw_at lw_m1 64 rfl) rfl
theorem q231 : (Jvm.Cond.instantiable "TandemKeepsAPlace$Dead" (3 : Nat)) ∈ lw_all := lw_g (lw_at lw_m1 101 rfl) rfl
theorem q233 : (Jvm.Cond.instanceMethod ({ cls := "TandemKeepsAPlace$Dead", name := "<init>", desc := "(II)V" } : Jvm.MethodName)) ∈ lw_all := lw_g (lw_at lw_m1 103 rfl) rfl
theorem q234 : (Jvm.Cond.code ({ cls := "TandemKeepsAPlace$Dead", name := "<init>", desc := "(II)V" } : Jvm.MethodName) prog_3_method_1_code (3 : Nat) (Option.none : Option Jvm.ClassFile.FieldType)) ∈ lw_all := lw_g (lw_at lw_m1 104 rfl) rfl
theorem q235 : (Jvm.Cond.methodLink "TandemKeepsAPlace$Dead" (1 : Nat) ({ cls := "TandemKeepsAPlace$Strong", name := "<init>", desc := "(II)V" } : Jvm.MethodName)) ∈ lw_all := lw_g (lw_at lw_m1 105 rfl) rfl
theorem q236 : (Jvm.Cond.lays "TandemKeepsAPlace$Dead" "TandemKeepsAPlace$Rider" "number" "I") ∈ lw_all := lw_g (lw_at lw_m1 106 rfl) rfl
theorem q237 : (Jvm.Cond.lays "TandemKeepsAPlace$Dead" "TandemKeepsAPlace$Rider" "goal" "I") ∈ lw_all := lw_g (lw_at lw_m1 107 rfl) rfl
theorem q238 : (Jvm.Cond.lays "TandemKeepsAPlace$Dead" "TandemKeepsAPlace$Rider" "ridden" "I") ∈ lw_all := lw_g (lw_at lw_m1 108 rfl) rfl
theorem q239 : (Jvm.Cond.superclass "TandemKeepsAPlace$Dead" "TandemKeepsAPlace$Strong") ∈ lw_all := lw_g (lw_at lw_m1 109 rfl) rfl
theorem q307 : (Jvm.Cond.selects "TandemKeepsAPlace$Dead" ({ cls := "TandemKeepsAPlace$Rider", name := "kind", desc := "()I" } : Jvm.MethodName) ({ cls := "TandemKeepsAPlace$Dead", name := "kind", desc := "()I" } : Jvm.MethodName)) ∈ lw_all := lw_g (lw_at lw_m1 177 rfl) rfl
theorem q308 : (Jvm.Cond.instanceMethod ({ cls := "TandemKeepsAPlace$Dead", name := "kind", desc := "()I" } : Jvm.MethodName)) ∈ lw_all := lw_g (lw_at lw_m1 178 rfl) rfl
theorem q309 : (Jvm.Cond.code ({ cls := "TandemKeepsAPlace$Dead", name := "kind", desc := "()I" } : Jvm.MethodName) prog_3_method_2_code (1 : Nat) (Option.some Jvm.ClassFile.FieldType.int)) ∈ lw_all := lw_g (lw_at lw_m1 179 rfl) rfl
theorem q310 : (Jvm.Cond.methodLink "TandemKeepsAPlace$Dead" (7 : Nat) ({ cls := "TandemKeepsAPlace$Strong", name := "kind", desc := "()I" } : Jvm.MethodName)) ∈ lw_all := lw_g (lw_at lw_m1 180 rfl) rfl
theorem q371 : (Jvm.Cond.selects "TandemKeepsAPlace$Dead" ({ cls := "TandemKeepsAPlace$Rider", name := "pull", desc := "(IZI)I" } : Jvm.MethodName) ({ cls := "TandemKeepsAPlace$Dead", name := "pull", desc := "(IZI)I" } : Jvm.MethodName)) ∈ lw_all := lw_g (lw_at lw_m2 1 rfl) rfl
theorem q372 : (Jvm.Cond.instanceMethod ({ cls := "TandemKeepsAPlace$Dead", name := "pull", desc := "(IZI)I" } : Jvm.MethodName)) ∈ lw_all := lw_g (lw_at lw_m2 2 rfl) rfl
theorem q373 : (Jvm.Cond.code ({ cls := "TandemKeepsAPlace$Dead", name := "pull", desc := "(IZI)I" } : Jvm.MethodName) prog_3_method_3_code (4 : Nat) (Option.some Jvm.ClassFile.FieldType.int)) ∈ lw_all := lw_g (lw_at lw_m2 3 rfl) rfl
theorem q374 : (Jvm.Cond.methodLink "TandemKeepsAPlace$Dead" (11 : Nat) ({ cls := "TandemKeepsAPlace$Strong", name := "pull", desc := "(IZI)I" } : Jvm.MethodName)) ∈ lw_all := lw_g (lw_at lw_m2 4 rfl) rfl
theorem q399 : (Jvm.Cond.selects "TandemKeepsAPlace$Dead" ({ cls := "TandemKeepsAPlace$Rider", name := "mood", desc := "(I)I" } : Jvm.MethodName) ({ cls := "TandemKeepsAPlace$Dead", name := "mood", desc := "(I)I" } : Jvm.MethodName)) ∈ lw_all := lw_g (lw_at lw_m2 29 rfl) rfl
theorem q400 : (Jvm.Cond.instanceMethod ({ cls := "TandemKeepsAPlace$Dead", name := "mood", desc := "(I)I" } : Jvm.MethodName)) ∈ lw_all := lw_g (lw_at lw_m2 30 rfl) rfl
theorem q401 : (Jvm.Cond.code ({ cls := "TandemKeepsAPlace$Dead", name := "mood", desc := "(I)I" } : Jvm.MethodName) prog_3_method_4_code (2 : Nat) (Option.some Jvm.ClassFile.FieldType.int)) ∈ lw_all := lw_g (lw_at lw_m2 31 rfl) rfl
theorem q402 : (Jvm.Cond.methodLink "TandemKeepsAPlace$Dead" (15 : Nat) ({ cls := "TandemKeepsAPlace$Strong", name := "mood", desc := "(I)I" } : Jvm.MethodName)) ∈ lw_all := lw_g (lw_at lw_m2 32 rfl) rfl
theorem q942 : (Jvm.Cond.selects "TandemKeepsAPlace$Dead" ({ cls := "TandemKeepsAPlace$Rider", name := "hasEnough", desc := "(ZI)Z" } : Jvm.MethodName) ({ cls := "TandemKeepsAPlace$Dead", name := "hasEnough", desc := "(ZI)Z" } : Jvm.MethodName)) ∈ lw_all := lw_g (lw_at lw_m4 92 rfl) rfl
theorem q943 : (Jvm.Cond.instanceMethod ({ cls := "TandemKeepsAPlace$Dead", name := "hasEnough", desc := "(ZI)Z" } : Jvm.MethodName)) ∈ lw_all := lw_g (lw_at lw_m4 93 rfl) rfl
theorem q944 : (Jvm.Cond.code ({ cls := "TandemKeepsAPlace$Dead", name := "hasEnough", desc := "(ZI)Z" } : Jvm.MethodName) prog_3_method_5_code (3 : Nat) (Option.some Jvm.ClassFile.FieldType.boolean)) ∈ lw_all := lw_g (lw_at lw_m4 94 rfl) rfl
theorem q1097 : (Jvm.Cond.selects "TandemKeepsAPlace$Dead" ({ cls := "TandemKeepsAPlace$Rider", name := "like", desc := "(LTandemKeepsAPlace$Rider;)LTandemKeepsAPlace$Rider;" } : Jvm.MethodName) ({ cls := "TandemKeepsAPlace$Rider", name := "like", desc := "(LTandemKeepsAPlace$Rider;)LTandemKeepsAPlace$Rider;" } : Jvm.MethodName)) ∈ lw_all := lw_g (lw_at lw_m5 7 rfl) rfl
theorem q1882 : (Jvm.Cond.castable "TandemKeepsAPlace$Dead" "TandemKeepsAPlace$Strong") ∈ lw_tbl := lw_at lw_m8 72 rfl
theorem q1890 : (Jvm.Cond.castable "TandemKeepsAPlace$Dead" "TandemKeepsAPlace$Rider") ∈ lw_tbl := lw_at lw_m8 80 rfl
theorem in_X13 : ∀ w ∈ wsX130, w ∈ lw_all := lw_in wsX130 [236, 237, 238] (by decide +kernel) (by decide +kernel)

/-! TandemKeepsAPlace$Timid -/
set_option maxRecDepth 100000
def RX14 : String := "TandemKeepsAPlace$Timid"
def TX14 : u_T := fun k => match k with
  | 0 => ("TandemKeepsAPlace$Rider", "number", "I", false)
  | 1 => ("TandemKeepsAPlace$Rider", "goal", "I", false)
  | _ => ("TandemKeepsAPlace$Rider", "ridden", "I", false)
def tyX14 : Nat → FieldType := fun k => match k with
  | 0 => .int
  | 1 => .int
  | _ => .int
abbrev wsX140 : List Cond := u_ws RX14 TX14 3
theorem nmX14 : ∀ a, a < 3 → ∀ b, b < 3 → a ≠ b → (TX14 a).2.1 ≠ (TX14 b).2.1 := by decide +kernel
theorem tyX14_ok : ∀ k, k < 3 → parseFieldDescriptor (TX14 k).2.2.1 = some (tyX14 k) := by decide +kernel
abbrev cX14_init : ByteArray := prog_12_method_1_code
def yX14_init : MethodName := ⟨RX14, "<init>", "(II)V"⟩
def dkwX14_init_0 : List UInt8 := [42, 27, 28, 183, 0, 1, 177]
abbrev dktX14_init_0 : List UInt8 := dkwX14_init_0 ++ []
theorem dksX14_init_0 : cX14_init.data.toList.drop 0 = dktX14_init_0 := by decide +kernel
theorem dX14_init_0 : decode cX14_init 0 = .ok (.aload_n 0, 1) := dk_42 (dk_at dksX14_init_0 0 rfl rfl)
theorem dX14_init_1 : decode cX14_init 1 = .ok (.iload_n 1, 1) := dk_27 (dk_at dksX14_init_0 1 rfl rfl)
theorem dX14_init_2 : decode cX14_init 2 = .ok (.iload_n 2, 1) := dk_28 (dk_at dksX14_init_0 2 rfl rfl)
theorem dX14_init_3 : decode cX14_init 3 = .ok (.invokespecial 1, 3) := dk_183 0 1 (dk_at dksX14_init_0 3 rfl rfl)
theorem dX14_init_6 : decode cX14_init 6 = .ok (.return_, 1) := dk_177 (dk_at dksX14_init_0 6 rfl rfl)
abbrev cX14_kind : ByteArray := prog_12_method_2_code
def yX14_kind : MethodName := ⟨RX14, "kind", "()I"⟩
def dkwX14_kind_0 : List UInt8 := [42, 183, 0, 7, 8, 96, 172]
abbrev dktX14_kind_0 : List UInt8 := dkwX14_kind_0 ++ []
theorem dksX14_kind_0 : cX14_kind.data.toList.drop 0 = dktX14_kind_0 := by decide +kernel
theorem dX14_kind_0 : decode cX14_kind 0 = .ok (.aload_n 0, 1) := dk_42 (dk_at dksX14_kind_0 0 rfl rfl)
theorem dX14_kind_1 : decode cX14_kind 1 = .ok (.invokespecial 7, 3) := dk_183 0 7 (dk_at dksX14_kind_0 1 rfl rfl)
theorem dX14_kind_4 : decode cX14_kind 4 = .ok (.iconst 5, 1) := dk_8 (dk_at dksX14_kind_0 4 rfl rfl)
theorem dX14_kind_5 : decode cX14_kind 5 = .ok (.iadd, 1) := dk_96 (dk_at dksX14_kind_0 5 rfl rfl)
theorem dX14_kind_6 : decode cX14_kind 6 = .ok (.ireturn, 1) := dk_172 (dk_at dksX14_kind_0 6 rfl rfl)
abbrev cX14_pull : ByteArray := prog_12_method_3_code
def yX14_pull : MethodName := ⟨RX14, "pull", "(IZI)I"⟩
theorem dX14_pull_0 : decode cX14_pull 0 = .ok (.iconst 1, 1) := by decide +kernel
theorem dX14_pull_1 : decode cX14_pull 1 = .ok (.ireturn, 1) := by decide +kernel
abbrev cX14_mood : ByteArray := prog_12_method_4_code
def yX14_mood : MethodName := ⟨RX14, "mood", "(I)I"⟩
def dkwX14_mood_0 : List UInt8 := [42, 27, 183, 0, 11, 5, 108, 172]
abbrev dktX14_mood_0 : List UInt8 := dkwX14_mood_0 ++ []
theorem dksX14_mood_0 : cX14_mood.data.toList.drop 0 = dktX14_mood_0 := by decide +kernel
theorem dX14_mood_0 : decode cX14_mood 0 = .ok (.aload_n 0, 1) := dk_42 (dk_at dksX14_mood_0 0 rfl rfl)
theorem dX14_mood_1 : decode cX14_mood 1 = .ok (.iload_n 1, 1) := dk_27 (dk_at dksX14_mood_0 1 rfl rfl)
theorem dX14_mood_2 : decode cX14_mood 2 = .ok (.invokespecial 11, 3) := dk_183 0 11 (dk_at dksX14_mood_0 2 rfl rfl)
theorem dX14_mood_5 : decode cX14_mood 5 = .ok (.iconst 2, 1) := dk_5 (dk_at dksX14_mood_0 5 rfl rfl)
theorem dX14_mood_6 : decode cX14_mood 6 = .ok (.idiv, 1) := dk_108 (dk_at dksX14_mood_0 6 rfl rfl)
theorem dX14_mood_7 : decode cX14_mood 7 = .ok (.ireturn, 1) := dk_172 (dk_at dksX14_mood_0 7 rfl rfl)
abbrev cX14_hasEnough : ByteArray := prog_12_method_5_code
def yX14_hasEnough : MethodName := ⟨RX14, "hasEnough", "(ZI)Z"⟩
def dkwX14_hasEnough_0 : List UInt8 := [28, 42, 180, 0, 15, 161, 0, 7, 4, 167, 0, 4, 3, 172]
abbrev dktX14_hasEnough_0 : List UInt8 := dkwX14_hasEnough_0 ++ []
theorem dksX14_hasEnough_0 : cX14_hasEnough.data.toList.drop 0 = dktX14_hasEnough_0 := by decide +kernel
theorem dX14_hasEnough_0 : decode cX14_hasEnough 0 = .ok (.iload_n 2, 1) := dk_28 (dk_at dksX14_hasEnough_0 0 rfl rfl)
theorem dX14_hasEnough_1 : decode cX14_hasEnough 1 = .ok (.aload_n 0, 1) := dk_42 (dk_at dksX14_hasEnough_0 1 rfl rfl)
theorem dX14_hasEnough_2 : decode cX14_hasEnough 2 = .ok (.getfield 15, 3) := dk_180 0 15 (dk_at dksX14_hasEnough_0 2 rfl rfl)
theorem dX14_hasEnough_5 : decode cX14_hasEnough 5 = .ok (.if_icmp .lt 7, 3) := dk_161 0 7 (dk_at dksX14_hasEnough_0 5 rfl rfl)
theorem dX14_hasEnough_8 : decode cX14_hasEnough 8 = .ok (.iconst 1, 1) := dk_4 (dk_at dksX14_hasEnough_0 8 rfl rfl)
theorem dX14_hasEnough_9 : decode cX14_hasEnough 9 = .ok (.goto 4, 3) := dk_167 0 4 (dk_at dksX14_hasEnough_0 9 rfl rfl)
theorem dX14_hasEnough_12 : decode cX14_hasEnough 12 = .ok (.iconst 0, 1) := dk_3 (dk_at dksX14_hasEnough_0 12 rfl rfl)
theorem dX14_hasEnough_13 : decode cX14_hasEnough 13 = .ok (.ireturn, 1) := dk_172 (dk_at dksX14_hasEnough_0 13 rfl rfl)
theorem q154 : (Jvm.Cond.initialized "TandemKeepsAPlace$Timid") ∈ lw_all := lw_g (lw_at lw_m1 24 rfl) rfl
theorem q195 : (Jvm.Cond.fieldLink "TandemKeepsAPlace$Timid" (15 : Nat) "TandemKeepsAPlace$Timid" "number" "I") ∈ lw_all := lw_g (lw_at lw_m1 65 rfl) rfl
theorem q196 : (Jvm.Cond.sameField "TandemKeepsAPlace$Timid" "TandemKeepsAPlace$Rider" "number" "I") ∈ lw_all := lw_g (lw_at lw_m1 66 rfl) rfl
theorem q241 : (Jvm.Cond.instantiable "TandemKeepsAPlace$Timid" (3 : Nat)) ∈ lw_all := lw_g (lw_at lw_m1 111 rfl) rfl
theorem q243 : (Jvm.Cond.instanceMethod ({ cls := "TandemKeepsAPlace$Timid", name := "<init>", desc := "(II)V" } : Jvm.MethodName)) ∈ lw_all := lw_g (lw_at lw_m1 113 rfl) rfl
theorem q244 : (Jvm.Cond.code ({ cls := "TandemKeepsAPlace$Timid", name := "<init>", desc := "(II)V" } : Jvm.MethodName) prog_12_method_1_code (3 : Nat) (Option.none : Option Jvm.ClassFile.FieldType)) ∈ lw_all := lw_g (lw_at lw_m1 114 rfl) rfl
theorem q245 : (Jvm.Cond.methodLink "TandemKeepsAPlace$Timid" (1 : Nat) ({ cls := "TandemKeepsAPlace$Rider", name := "<init>", desc := "(II)V" } : Jvm.MethodName)) ∈ lw_all := lw_g (lw_at lw_m1 115 rfl) rfl
theorem q246 : (Jvm.Cond.lays "TandemKeepsAPlace$Timid" "TandemKeepsAPlace$Rider" "number" "I") ∈ lw_all := lw_g (lw_at lw_m1 116 rfl) rfl
theorem q247 : (Jvm.Cond.lays "TandemKeepsAPlace$Timid" "TandemKeepsAPlace$Rider" "goal" "I") ∈ lw_all := lw_g (lw_at lw_m1 117 rfl) rfl
theorem q248 : (Jvm.Cond.lays "TandemKeepsAPlace$Timid" "TandemKeepsAPlace$Rider" "ridden" "I") ∈ lw_all := lw_g (lw_at lw_m1 118 rfl) rfl
theorem q249 : (Jvm.Cond.superclass "TandemKeepsAPlace$Timid" "TandemKeepsAPlace$Rider") ∈ lw_all := lw_g (lw_at lw_m1 119 rfl) rfl
theorem q319 : (Jvm.Cond.selects "TandemKeepsAPlace$Timid" ({ cls := "TandemKeepsAPlace$Rider", name := "kind", desc := "()I" } : Jvm.MethodName) ({ cls := "TandemKeepsAPlace$Timid", name := "kind", desc := "()I" } : Jvm.MethodName)) ∈ lw_all := lw_g (lw_at lw_m1 189 rfl) rfl
theorem q320 : (Jvm.Cond.instanceMethod ({ cls := "TandemKeepsAPlace$Timid", name := "kind", desc := "()I" } : Jvm.MethodName)) ∈ lw_all := lw_g (lw_at lw_m1 190 rfl) rfl
theorem q321 : (Jvm.Cond.code ({ cls := "TandemKeepsAPlace$Timid", name := "kind", desc := "()I" } : Jvm.MethodName) prog_12_method_2_code (1 : Nat) (Option.some Jvm.ClassFile.FieldType.int)) ∈ lw_all := lw_g (lw_at lw_m1 191 rfl) rfl
theorem q322 : (Jvm.Cond.methodLink "TandemKeepsAPlace$Timid" (7 : Nat) ({ cls := "TandemKeepsAPlace$Rider", name := "kind", desc := "()I" } : Jvm.MethodName)) ∈ lw_all := lw_g (lw_at lw_m1 192 rfl) rfl
theorem q383 : (Jvm.Cond.selects "TandemKeepsAPlace$Timid" ({ cls := "TandemKeepsAPlace$Rider", name := "pull", desc := "(IZI)I" } : Jvm.MethodName) ({ cls := "TandemKeepsAPlace$Timid", name := "pull", desc := "(IZI)I" } : Jvm.MethodName)) ∈ lw_all := lw_g (lw_at lw_m2 13 rfl) rfl
theorem q384 : (Jvm.Cond.instanceMethod ({ cls := "TandemKeepsAPlace$Timid", name := "pull", desc := "(IZI)I" } : Jvm.MethodName)) ∈ lw_all := lw_g (lw_at lw_m2 14 rfl) rfl
theorem q385 : (Jvm.Cond.code ({ cls := "TandemKeepsAPlace$Timid", name := "pull", desc := "(IZI)I" } : Jvm.MethodName) prog_12_method_3_code (4 : Nat) (Option.some Jvm.ClassFile.FieldType.int)) ∈ lw_all := lw_g (lw_at lw_m2 15 rfl) rfl
theorem q411 : (Jvm.Cond.selects "TandemKeepsAPlace$Timid" ({ cls := "TandemKeepsAPlace$Rider", name := "mood", desc := "(I)I" } : Jvm.MethodName) ({ cls := "TandemKeepsAPlace$Timid", name := "mood", desc := "(I)I" } : Jvm.MethodName)) ∈ lw_all := lw_g (lw_at lw_m2 41 rfl) rfl
theorem q412 : (Jvm.Cond.instanceMethod ({ cls := "TandemKeepsAPlace$Timid", name := "mood", desc := "(I)I" } : Jvm.MethodName)) ∈ lw_all := lw_g (lw_at lw_m2 42 rfl) rfl
theorem q413 : (Jvm.Cond.code ({ cls := "TandemKeepsAPlace$Timid", name := "mood", desc := "(I)I" } : Jvm.MethodName) prog_12_method_4_code (2 : Nat) (Option.some Jvm.ClassFile.FieldType.int)) ∈ lw_all := lw_g (lw_at lw_m2 43 rfl) rfl
theorem q414 : (Jvm.Cond.methodLink "TandemKeepsAPlace$Timid" (11 : Nat) ({ cls := "TandemKeepsAPlace$Rider", name := "mood", desc := "(I)I" } : Jvm.MethodName)) ∈ lw_all := lw_g (lw_at lw_m2 44 rfl) rfl
theorem q950 : (Jvm.Cond.selects "TandemKeepsAPlace$Timid" ({ cls := "TandemKeepsAPlace$Rider", name := "hasEnough", desc := "(ZI)Z" } : Jvm.MethodName) ({ cls := "TandemKeepsAPlace$Timid", name := "hasEnough", desc := "(ZI)Z" } : Jvm.MethodName)) ∈ lw_all := lw_g (lw_at lw_m4 100 rfl) rfl
theorem q951 : (Jvm.Cond.instanceMethod ({ cls := "TandemKeepsAPlace$Timid", name := "hasEnough", desc := "(ZI)Z" } : Jvm.MethodName)) ∈ lw_all := lw_g (lw_at lw_m4 101 rfl) rfl
theorem q952 : (Jvm.Cond.code ({ cls := "TandemKeepsAPlace$Timid", name := "hasEnough", desc := "(ZI)Z" } : Jvm.MethodName) prog_12_method_5_code (3 : Nat) (Option.some Jvm.ClassFile.FieldType.boolean)) ∈ lw_all := lw_g (lw_at lw_m4 102 rfl) rfl
theorem q1100 : (Jvm.Cond.selects "TandemKeepsAPlace$Timid" ({ cls := "TandemKeepsAPlace$Rider", name := "like", desc := "(LTandemKeepsAPlace$Rider;)LTandemKeepsAPlace$Rider;" } : Jvm.MethodName) ({ cls := "TandemKeepsAPlace$Rider", name := "like", desc := "(LTandemKeepsAPlace$Rider;)LTandemKeepsAPlace$Rider;" } : Jvm.MethodName)) ∈ lw_all := lw_g (lw_at lw_m5 10 rfl) rfl
theorem q1891 : (Jvm.Cond.castable "TandemKeepsAPlace$Timid" "TandemKeepsAPlace$Rider") ∈ lw_tbl := lw_at lw_m8 81 rfl
theorem in_X14 : ∀ w ∈ wsX140, w ∈ lw_all := lw_in wsX140 [246, 247, 248] (by decide +kernel) (by decide +kernel)

/-! TandemKeepsAPlace$Sheet -/
set_option maxRecDepth 100000
def RX2 : String := "TandemKeepsAPlace$Sheet"
def TX2 : u_T := fun k => match k with
  | _ => ("TandemKeepsAPlace$Sheet", "row", "Ljava/lang/Object;", false)
def tyX2 : Nat → FieldType := fun k => match k with
  | _ => .object "java/lang/Object"
abbrev wsX20 : List Cond := u_ws RX2 TX2 1
theorem nmX2 : ∀ a, a < 1 → ∀ b, b < 1 → a ≠ b → (TX2 a).2.1 ≠ (TX2 b).2.1 := by decide +kernel
theorem tyX2_ok : ∀ k, k < 1 → parseFieldDescriptor (TX2 k).2.2.1 = some (tyX2 k) := by decide +kernel
abbrev cX2_init : ByteArray := prog_10_method_1_code
def yX2_init : MethodName := ⟨RX2, "<init>", "()V"⟩
theorem dX2_init_0 : decode cX2_init 0 = .ok (.aload_n 0, 1) := by decide +kernel
theorem dX2_init_1 : decode cX2_init 1 = .ok (.invokespecial 1, 3) := by decide +kernel
theorem dX2_init_4 : decode cX2_init 4 = .ok (.return_, 1) := by decide +kernel
theorem q136 : (Jvm.Cond.initialized "TandemKeepsAPlace$Sheet") ∈ lw_all := lw_g (lw_at lw_m1 6 rfl) rfl
theorem q775 : (Jvm.Cond.instantiable "TandemKeepsAPlace$Sheet" (1 : Nat)) ∈ lw_all := lw_g (lw_at lw_m3 165 rfl) rfl
theorem q777 : (Jvm.Cond.instanceMethod ({ cls := "TandemKeepsAPlace$Sheet", name := "<init>", desc := "()V" } : Jvm.MethodName)) ∈ lw_all := lw_g (lw_at lw_m3 167 rfl) rfl
theorem q778 : (Jvm.Cond.code ({ cls := "TandemKeepsAPlace$Sheet", name := "<init>", desc := "()V" } : Jvm.MethodName) prog_10_method_1_code (1 : Nat) (Option.none : Option Jvm.ClassFile.FieldType)) ∈ lw_all := lw_g (lw_at lw_m3 168 rfl) rfl
theorem q779 : (Jvm.Cond.methodLink "TandemKeepsAPlace$Sheet" (1 : Nat) ({ cls := "java/lang/Object", name := "<init>", desc := "()V" } : Jvm.MethodName)) ∈ lw_all := lw_g (lw_at lw_m3 169 rfl) rfl
theorem q781 : (Jvm.Cond.lays "TandemKeepsAPlace$Sheet" "TandemKeepsAPlace$Sheet" "row" "Ljava/lang/Object;") ∈ lw_all := lw_g (lw_at lw_m3 171 rfl) rfl
theorem q782 : (Jvm.Cond.soleField "TandemKeepsAPlace$Sheet" "row") ∈ lw_all := lw_g (lw_at lw_m3 172 rfl) rfl
theorem q783 : (Jvm.Cond.superclass "TandemKeepsAPlace$Sheet" "java/lang/Object") ∈ lw_all := lw_g (lw_at lw_m3 173 rfl) rfl
theorem in_X2 : ∀ w ∈ wsX20, w ∈ lw_all := lw_in wsX20 [781] (by decide +kernel) (by decide +kernel)

/-! TandemKeepsAPlace$Node -/
set_option maxRecDepth 100000
def RX3 : String := "TandemKeepsAPlace$Node"
abbrev cX3_init : ByteArray := prog_7_method_1_code
def yX3_init : MethodName := ⟨RX3, "<init>", "()V"⟩
theorem dX3_init_0 : decode cX3_init 0 = .ok (.aload_n 0, 1) := by decide +kernel
theorem dX3_init_1 : decode cX3_init 1 = .ok (.invokespecial 1, 3) := by decide +kernel
theorem dX3_init_4 : decode cX3_init 4 = .ok (.return_, 1) := by decide +kernel
theorem q143 : (Jvm.Cond.initialized "TandemKeepsAPlace$Node") ∈ lw_all := lw_g (lw_at lw_m1 13 rfl) rfl
theorem q341 : (Jvm.Cond.declares ({ cls := "TandemKeepsAPlace$Node", name := "worth", desc := "()I" } : Jvm.MethodName)) ∈ lw_tbl := lw_at lw_m1 211 rfl
theorem q342 : (Jvm.Cond.sameMethod "TandemKeepsAPlace$Node" "TandemKeepsAPlace$Node" "worth" "()I") ∈ lw_all := lw_g (lw_at lw_m1 212 rfl) rfl
theorem q601 : (Jvm.Cond.instanceMethod ({ cls := "TandemKeepsAPlace$Node", name := "<init>", desc := "()V" } : Jvm.MethodName)) ∈ lw_all := lw_g (lw_at lw_m2 231 rfl) rfl
theorem q602 : (Jvm.Cond.code ({ cls := "TandemKeepsAPlace$Node", name := "<init>", desc := "()V" } : Jvm.MethodName) prog_7_method_1_code (1 : Nat) (Option.none : Option Jvm.ClassFile.FieldType)) ∈ lw_all := lw_g (lw_at lw_m2 232 rfl) rfl
theorem q603 : (Jvm.Cond.methodLink "TandemKeepsAPlace$Node" (1 : Nat) ({ cls := "java/lang/Object", name := "<init>", desc := "()V" } : Jvm.MethodName)) ∈ lw_all := lw_g (lw_at lw_m2 233 rfl) rfl

/-! TandemKeepsAPlace$Turned -/
set_option maxRecDepth 100000
def RX4 : String := "TandemKeepsAPlace$Turned"
def TX4 : u_T := fun k => match k with
  | 0 => ("TandemKeepsAPlace$Turned", "of", "LTandemKeepsAPlace$Node;", true)
  | _ => ("TandemKeepsAPlace$Turned", "isMinus", "Z", true)
def tyX4 : Nat → FieldType := fun k => match k with
  | 0 => .object "TandemKeepsAPlace$Node"
  | _ => .boolean
abbrev wsX40 : List Cond := u_ws RX4 TX4 2
theorem nmX4 : ∀ a, a < 2 → ∀ b, b < 2 → a ≠ b → (TX4 a).2.1 ≠ (TX4 b).2.1 := by decide +kernel
theorem tyX4_ok : ∀ k, k < 2 → parseFieldDescriptor (TX4 k).2.2.1 = some (tyX4 k) := by decide +kernel
abbrev cX4_worth : ByteArray := prog_13_method_2_code
def yX4_worth : MethodName := ⟨RX4, "worth", "()I"⟩
def dkwX4_worth_1 : List UInt8 := [4, 167, 0, 4, 3, 172]
abbrev dktX4_worth_1 : List UInt8 := dkwX4_worth_1 ++ []
def dkwX4_worth_0 : List UInt8 := [42, 180, 0, 7, 182, 0, 17, 60, 42, 180, 0, 13, 153, 0, 8, 27, 116, 167, 0, 12, 27, 154, 0, 7]
abbrev dktX4_worth_0 : List UInt8 := dkwX4_worth_0 ++ dktX4_worth_1
theorem dksX4_worth_0 : cX4_worth.data.toList.drop 0 = dktX4_worth_0 := by decide +kernel
theorem dksX4_worth_1 : cX4_worth.data.toList.drop 24 = dktX4_worth_1 := dk_seg dksX4_worth_0 24 rfl rfl
theorem dX4_worth_0 : decode cX4_worth 0 = .ok (.aload_n 0, 1) := dk_42 (dk_at dksX4_worth_0 0 rfl rfl)
theorem dX4_worth_1 : decode cX4_worth 1 = .ok (.getfield 7, 3) := dk_180 0 7 (dk_at dksX4_worth_0 1 rfl rfl)
theorem dX4_worth_4 : decode cX4_worth 4 = .ok (.invokevirtual 17, 3) := dk_182 0 17 (dk_at dksX4_worth_0 4 rfl rfl)
theorem dX4_worth_7 : decode cX4_worth 7 = .ok (.istore_n 1, 1) := dk_60 (dk_at dksX4_worth_0 7 rfl rfl)
theorem dX4_worth_8 : decode cX4_worth 8 = .ok (.aload_n 0, 1) := dk_42 (dk_at dksX4_worth_0 8 rfl rfl)
theorem dX4_worth_9 : decode cX4_worth 9 = .ok (.getfield 13, 3) := dk_180 0 13 (dk_at dksX4_worth_0 9 rfl rfl)
theorem dX4_worth_12 : decode cX4_worth 12 = .ok (.ifCond .eq 8, 3) := dk_153 0 8 (dk_at dksX4_worth_0 12 rfl rfl)
theorem dX4_worth_15 : decode cX4_worth 15 = .ok (.iload_n 1, 1) := dk_27 (dk_at dksX4_worth_0 15 rfl rfl)
theorem dX4_worth_16 : decode cX4_worth 16 = .ok (.ineg, 1) := dk_116 (dk_at dksX4_worth_0 16 rfl rfl)
theorem dX4_worth_17 : decode cX4_worth 17 = .ok (.goto 12, 3) := dk_167 0 12 (dk_at dksX4_worth_0 17 rfl rfl)
theorem dX4_worth_20 : decode cX4_worth 20 = .ok (.iload_n 1, 1) := dk_27 (dk_at dksX4_worth_0 20 rfl rfl)
theorem dX4_worth_21 : decode cX4_worth 21 = .ok (.ifCond .ne 7, 3) := dk_154 0 7 (dk_at dksX4_worth_0 21 rfl rfl)
theorem dX4_worth_24 : decode cX4_worth 24 = .ok (.iconst 1, 1) := dk_4 (dk_at dksX4_worth_1 0 rfl rfl)
theorem dX4_worth_25 : decode cX4_worth 25 = .ok (.goto 4, 3) := dk_167 0 4 (dk_at dksX4_worth_1 1 rfl rfl)
theorem dX4_worth_28 : decode cX4_worth 28 = .ok (.iconst 0, 1) := dk_3 (dk_at dksX4_worth_1 4 rfl rfl)
theorem dX4_worth_29 : decode cX4_worth 29 = .ok (.ireturn, 1) := dk_172 (dk_at dksX4_worth_1 5 rfl rfl)
abbrev cX4_init : ByteArray := prog_13_method_1_code
def yX4_init : MethodName := ⟨RX4, "<init>", "(LTandemKeepsAPlace$Node;Z)V"⟩
def dkwX4_init_0 : List UInt8 := [42, 183, 0, 1, 42, 43, 181, 0, 7, 42, 28, 181, 0, 13, 177]
abbrev dktX4_init_0 : List UInt8 := dkwX4_init_0 ++ []
theorem dksX4_init_0 : cX4_init.data.toList.drop 0 = dktX4_init_0 := by decide +kernel
theorem dX4_init_0 : decode cX4_init 0 = .ok (.aload_n 0, 1) := dk_42 (dk_at dksX4_init_0 0 rfl rfl)
theorem dX4_init_1 : decode cX4_init 1 = .ok (.invokespecial 1, 3) := dk_183 0 1 (dk_at dksX4_init_0 1 rfl rfl)
theorem dX4_init_4 : decode cX4_init 4 = .ok (.aload_n 0, 1) := dk_42 (dk_at dksX4_init_0 4 rfl rfl)
theorem dX4_init_5 : decode cX4_init 5 = .ok (.aload_n 1, 1) := dk_43 (dk_at dksX4_init_0 5 rfl rfl)
theorem dX4_init_6 : decode cX4_init 6 = .ok (.putfield 7, 3) := dk_181 0 7 (dk_at dksX4_init_0 6 rfl rfl)
theorem dX4_init_9 : decode cX4_init 9 = .ok (.aload_n 0, 1) := dk_42 (dk_at dksX4_init_0 9 rfl rfl)
theorem dX4_init_10 : decode cX4_init 10 = .ok (.iload_n 2, 1) := dk_28 (dk_at dksX4_init_0 10 rfl rfl)
theorem dX4_init_11 : decode cX4_init 11 = .ok (.putfield 13, 3) := dk_181 0 13 (dk_at dksX4_init_0 11 rfl rfl)
theorem dX4_init_14 : decode cX4_init 14 = .ok (.return_, 1) := dk_177 (dk_at dksX4_init_0 14 rfl rfl)
theorem q144 : (Jvm.Cond.initialized "TandemKeepsAPlace$Turned") ∈ lw_all := lw_g (lw_at lw_m1 14 rfl) rfl
theorem q349 : (Jvm.Cond.selects "TandemKeepsAPlace$Turned" ({ cls := "TandemKeepsAPlace$Node", name := "worth", desc := "()I" } : Jvm.MethodName) ({ cls := "TandemKeepsAPlace$Turned", name := "worth", desc := "()I" } : Jvm.MethodName)) ∈ lw_all := lw_g (lw_at lw_m1 219 rfl) rfl
theorem q350 : (Jvm.Cond.instanceMethod ({ cls := "TandemKeepsAPlace$Turned", name := "worth", desc := "()I" } : Jvm.MethodName)) ∈ lw_all := lw_g (lw_at lw_m1 220 rfl) rfl
theorem q351 : (Jvm.Cond.code ({ cls := "TandemKeepsAPlace$Turned", name := "worth", desc := "()I" } : Jvm.MethodName) prog_13_method_2_code (2 : Nat) (Option.some Jvm.ClassFile.FieldType.int)) ∈ lw_all := lw_g (lw_at lw_m1 221 rfl) rfl
theorem q352 : (Jvm.Cond.methodLink "TandemKeepsAPlace$Turned" (17 : Nat) ({ cls := "TandemKeepsAPlace$Node", name := "worth", desc := "()I" } : Jvm.MethodName)) ∈ lw_all := lw_g (lw_at lw_m1 222 rfl) rfl
theorem q596 : (Jvm.Cond.instantiable "TandemKeepsAPlace$Turned" (2 : Nat)) ∈ lw_all := lw_g (lw_at lw_m2 226 rfl) rfl
theorem q598 : (Jvm.Cond.instanceMethod ({ cls := "TandemKeepsAPlace$Turned", name := "<init>", desc := "(LTandemKeepsAPlace$Node;Z)V" } : Jvm.MethodName)) ∈ lw_all := lw_g (lw_at lw_m2 228 rfl) rfl
theorem q599 : (Jvm.Cond.code ({ cls := "TandemKeepsAPlace$Turned", name := "<init>", desc := "(LTandemKeepsAPlace$Node;Z)V" } : Jvm.MethodName) prog_13_method_1_code (3 : Nat) (Option.none : Option Jvm.ClassFile.FieldType)) ∈ lw_all := lw_g (lw_at lw_m2 229 rfl) rfl
theorem q600 : (Jvm.Cond.methodLinkNest "TandemKeepsAPlace$Turned" (1 : Nat) ({ cls := "TandemKeepsAPlace$Node", name := "<init>", desc := "()V" } : Jvm.MethodName) "TandemKeepsAPlace") ∈ lw_tbl := lw_at lw_m2 230 rfl
theorem q604 : (Jvm.Cond.fieldLink "TandemKeepsAPlace$Turned" (7 : Nat) "TandemKeepsAPlace$Turned" "of" "LTandemKeepsAPlace$Node;") ∈ lw_all := lw_g (lw_at lw_m2 234 rfl) rfl
theorem q605 : (Jvm.Cond.fieldLink "TandemKeepsAPlace$Turned" (13 : Nat) "TandemKeepsAPlace$Turned" "isMinus" "Z") ∈ lw_all := lw_g (lw_at lw_m2 235 rfl) rfl
theorem q606 : (Jvm.Cond.laysFinal "TandemKeepsAPlace$Turned" "TandemKeepsAPlace$Turned" "of" "LTandemKeepsAPlace$Node;") ∈ lw_all := lw_g (lw_at lw_m2 236 rfl) rfl
theorem q607 : (Jvm.Cond.soleField "TandemKeepsAPlace$Turned" "of") ∈ lw_all := lw_g (lw_at lw_m2 237 rfl) rfl
theorem q608 : (Jvm.Cond.laysFinal "TandemKeepsAPlace$Turned" "TandemKeepsAPlace$Turned" "isMinus" "Z") ∈ lw_all := lw_g (lw_at lw_m2 238 rfl) rfl
theorem q609 : (Jvm.Cond.soleField "TandemKeepsAPlace$Turned" "isMinus") ∈ lw_all := lw_g (lw_at lw_m2 239 rfl) rfl
theorem q610 : (Jvm.Cond.superclass "TandemKeepsAPlace$Turned" "TandemKeepsAPlace$Node") ∈ lw_all := lw_g (lw_at lw_m3 0 rfl) rfl
theorem q1883 : (Jvm.Cond.castable "TandemKeepsAPlace$Turned" "TandemKeepsAPlace$Node") ∈ lw_tbl := lw_at lw_m8 73 rfl
theorem in_X4 : ∀ w ∈ wsX40, w ∈ lw_all := lw_in wsX40 [606, 608] (by decide +kernel) (by decide +kernel)

/-! TandemKeepsAPlace$Number -/
set_option maxRecDepth 100000
def RX5 : String := "TandemKeepsAPlace$Number"
def TX5 : u_T := fun k => match k with
  | _ => ("TandemKeepsAPlace$Number", "v", "I", true)
def tyX5 : Nat → FieldType := fun k => match k with
  | _ => .int
abbrev wsX50 : List Cond := u_ws RX5 TX5 1
theorem nmX5 : ∀ a, a < 1 → ∀ b, b < 1 → a ≠ b → (TX5 a).2.1 ≠ (TX5 b).2.1 := by decide +kernel
theorem tyX5_ok : ∀ k, k < 1 → parseFieldDescriptor (TX5 k).2.2.1 = some (tyX5 k) := by decide +kernel
abbrev cX5_worth : ByteArray := prog_8_method_2_code
def yX5_worth : MethodName := ⟨RX5, "worth", "()I"⟩
theorem dX5_worth_0 : decode cX5_worth 0 = .ok (.aload_n 0, 1) := by decide +kernel
theorem dX5_worth_1 : decode cX5_worth 1 = .ok (.getfield 7, 3) := by decide +kernel
theorem dX5_worth_4 : decode cX5_worth 4 = .ok (.ireturn, 1) := by decide +kernel
abbrev cX5_init : ByteArray := prog_8_method_1_code
def yX5_init : MethodName := ⟨RX5, "<init>", "(I)V"⟩
def dkwX5_init_0 : List UInt8 := [42, 183, 0, 1, 42, 27, 181, 0, 7, 177]
abbrev dktX5_init_0 : List UInt8 := dkwX5_init_0 ++ []
theorem dksX5_init_0 : cX5_init.data.toList.drop 0 = dktX5_init_0 := by decide +kernel
theorem dX5_init_0 : decode cX5_init 0 = .ok (.aload_n 0, 1) := dk_42 (dk_at dksX5_init_0 0 rfl rfl)
theorem dX5_init_1 : decode cX5_init 1 = .ok (.invokespecial 1, 3) := dk_183 0 1 (dk_at dksX5_init_0 1 rfl rfl)
theorem dX5_init_4 : decode cX5_init 4 = .ok (.aload_n 0, 1) := dk_42 (dk_at dksX5_init_0 4 rfl rfl)
theorem dX5_init_5 : decode cX5_init 5 = .ok (.iload_n 1, 1) := dk_27 (dk_at dksX5_init_0 5 rfl rfl)
theorem dX5_init_6 : decode cX5_init 6 = .ok (.putfield 7, 3) := dk_181 0 7 (dk_at dksX5_init_0 6 rfl rfl)
theorem dX5_init_9 : decode cX5_init 9 = .ok (.return_, 1) := dk_177 (dk_at dksX5_init_0 9 rfl rfl)
theorem q145 : (Jvm.Cond.initialized "TandemKeepsAPlace$Number") ∈ lw_all := lw_g (lw_at lw_m1 15 rfl) rfl
theorem q346 : (Jvm.Cond.selects "TandemKeepsAPlace$Number" ({ cls := "TandemKeepsAPlace$Node", name := "worth", desc := "()I" } : Jvm.MethodName) ({ cls := "TandemKeepsAPlace$Number", name := "worth", desc := "()I" } : Jvm.MethodName)) ∈ lw_all := lw_g (lw_at lw_m1 216 rfl) rfl
theorem q347 : (Jvm.Cond.instanceMethod ({ cls := "TandemKeepsAPlace$Number", name := "worth", desc := "()I" } : Jvm.MethodName)) ∈ lw_all := lw_g (lw_at lw_m1 217 rfl) rfl
theorem q348 : (Jvm.Cond.code ({ cls := "TandemKeepsAPlace$Number", name := "worth", desc := "()I" } : Jvm.MethodName) prog_8_method_2_code (1 : Nat) (Option.some Jvm.ClassFile.FieldType.int)) ∈ lw_all := lw_g (lw_at lw_m1 218 rfl) rfl
theorem q625 : (Jvm.Cond.instantiable "TandemKeepsAPlace$Number" (1 : Nat)) ∈ lw_all := lw_g (lw_at lw_m3 15 rfl) rfl
theorem q627 : (Jvm.Cond.instanceMethod ({ cls := "TandemKeepsAPlace$Number", name := "<init>", desc := "(I)V" } : Jvm.MethodName)) ∈ lw_all := lw_g (lw_at lw_m3 17 rfl) rfl
theorem q628 : (Jvm.Cond.code ({ cls := "TandemKeepsAPlace$Number", name := "<init>", desc := "(I)V" } : Jvm.MethodName) prog_8_method_1_code (2 : Nat) (Option.none : Option Jvm.ClassFile.FieldType)) ∈ lw_all := lw_g (lw_at lw_m3 18 rfl) rfl
theorem q629 : (Jvm.Cond.methodLinkNest "TandemKeepsAPlace$Number" (1 : Nat) ({ cls := "TandemKeepsAPlace$Node", name := "<init>", desc := "()V" } : Jvm.MethodName) "TandemKeepsAPlace") ∈ lw_tbl := lw_at lw_m3 19 rfl
theorem q630 : (Jvm.Cond.fieldLink "TandemKeepsAPlace$Number" (7 : Nat) "TandemKeepsAPlace$Number" "v" "I") ∈ lw_all := lw_g (lw_at lw_m3 20 rfl) rfl
theorem q631 : (Jvm.Cond.laysFinal "TandemKeepsAPlace$Number" "TandemKeepsAPlace$Number" "v" "I") ∈ lw_all := lw_g (lw_at lw_m3 21 rfl) rfl
theorem q632 : (Jvm.Cond.soleField "TandemKeepsAPlace$Number" "v") ∈ lw_all := lw_g (lw_at lw_m3 22 rfl) rfl
theorem q633 : (Jvm.Cond.superclass "TandemKeepsAPlace$Number" "TandemKeepsAPlace$Node") ∈ lw_all := lw_g (lw_at lw_m3 23 rfl) rfl
theorem q1884 : (Jvm.Cond.castable "TandemKeepsAPlace$Number" "TandemKeepsAPlace$Node") ∈ lw_tbl := lw_at lw_m8 74 rfl
theorem in_X5 : ∀ w ∈ wsX50, w ∈ lw_all := lw_in wsX50 [631] (by decide +kernel) (by decide +kernel)

/-! TandemKeepsAPlace$Name -/
set_option maxRecDepth 100000
def RX6 : String := "TandemKeepsAPlace$Name"
def TX6 : u_T := fun k => match k with
  | 0 => ("TandemKeepsAPlace$Name", "which", "I", true)
  | _ => ("TandemKeepsAPlace$Name", "this$0", "LTandemKeepsAPlace;", true)
def tyX6 : Nat → FieldType := fun k => match k with
  | 0 => .int
  | _ => .object "TandemKeepsAPlace"
abbrev wsX60 : List Cond := u_ws RX6 TX6 2
theorem nmX6 : ∀ a, a < 2 → ∀ b, b < 2 → a ≠ b → (TX6 a).2.1 ≠ (TX6 b).2.1 := by decide +kernel
theorem tyX6_ok : ∀ k, k < 2 → parseFieldDescriptor (TX6 k).2.2.1 = some (tyX6 k) := by decide +kernel
abbrev cX6_worth : ByteArray := prog_6_method_2_code
def yX6_worth : MethodName := ⟨RX6, "worth", "()I"⟩
def dkwX6_worth_6 : List UInt8 := [180, 0, 38, 172]
abbrev dktX6_worth_6 : List UInt8 := dkwX6_worth_6 ++ []
def dkwX6_worth_5 : List UInt8 := [42, 180, 0, 1, 180, 0, 47, 172, 42, 180, 0, 1, 180, 0, 26, 42, 180, 0, 1, 180, 0, 50, 50]
abbrev dktX6_worth_5 : List UInt8 := dkwX6_worth_5 ++ dktX6_worth_6
def dkwX6_worth_4 : List UInt8 := [180, 0, 30, 50, 180, 0, 38, 172, 42, 180, 0, 1, 180, 0, 41, 172, 42, 180, 0, 1, 180, 0, 44, 172]
abbrev dktX6_worth_4 : List UInt8 := dkwX6_worth_4 ++ dktX6_worth_5
def dkwX6_worth_3 : List UInt8 := [180, 0, 1, 180, 0, 30, 50, 180, 0, 33, 46, 172, 42, 180, 0, 1, 180, 0, 26, 42, 180, 0, 1]
abbrev dktX6_worth_3 : List UInt8 := dkwX6_worth_3 ++ dktX6_worth_4
def dkwX6_worth_2 : List UInt8 := [42, 180, 0, 1, 180, 0, 17, 42, 180, 0, 1, 180, 0, 23, 50, 42, 180, 0, 1, 180, 0, 26, 42]
abbrev dktX6_worth_2 : List UInt8 := dkwX6_worth_2 ++ dktX6_worth_3
def dkwX6_worth_1 : List UInt8 := [170, 0, 0, 0, 0, 0, 0, 114, 0, 0, 0, 0, 0, 0, 0, 4, 0, 0, 0, 36, 0, 0, 0, 71, 0, 0, 0, 90, 0, 0, 0, 98, 0, 0, 0, 106]
abbrev dktX6_worth_1 : List UInt8 := dkwX6_worth_1 ++ dktX6_worth_2
def dkwX6_worth_0 : List UInt8 := [42, 180, 0, 13]
abbrev dktX6_worth_0 : List UInt8 := dkwX6_worth_0 ++ dktX6_worth_1
theorem dksX6_worth_0 : cX6_worth.data.toList.drop 0 = dktX6_worth_0 := by decide +kernel
theorem dksX6_worth_1 : cX6_worth.data.toList.drop 4 = dktX6_worth_1 := dk_seg dksX6_worth_0 4 rfl rfl
theorem dksX6_worth_2 : cX6_worth.data.toList.drop 40 = dktX6_worth_2 := dk_seg dksX6_worth_1 36 rfl rfl
theorem dksX6_worth_3 : cX6_worth.data.toList.drop 63 = dktX6_worth_3 := dk_seg dksX6_worth_2 23 rfl rfl
theorem dksX6_worth_4 : cX6_worth.data.toList.drop 86 = dktX6_worth_4 := dk_seg dksX6_worth_3 23 rfl rfl
theorem dksX6_worth_5 : cX6_worth.data.toList.drop 110 = dktX6_worth_5 := dk_seg dksX6_worth_4 24 rfl rfl
theorem dksX6_worth_6 : cX6_worth.data.toList.drop 133 = dktX6_worth_6 := dk_seg dksX6_worth_5 23 rfl rfl
theorem dX6_worth_0 : decode cX6_worth 0 = .ok (.aload_n 0, 1) := dk_42 (dk_at dksX6_worth_0 0 rfl rfl)
theorem dX6_worth_1 : decode cX6_worth 1 = .ok (.getfield 13, 3) := dk_180 0 13 (dk_at dksX6_worth_0 1 rfl rfl)
theorem dX6_worth_4 : decode cX6_worth 4 = .ok (.tableswitch 114 0 4 #[36, 71, 90, 98, 106], 36) := by decide +kernel
theorem dX6_worth_40 : decode cX6_worth 40 = .ok (.aload_n 0, 1) := dk_42 (dk_at dksX6_worth_2 0 rfl rfl)
theorem dX6_worth_41 : decode cX6_worth 41 = .ok (.getfield 1, 3) := dk_180 0 1 (dk_at dksX6_worth_2 1 rfl rfl)
theorem dX6_worth_44 : decode cX6_worth 44 = .ok (.getfield 17, 3) := dk_180 0 17 (dk_at dksX6_worth_2 4 rfl rfl)
theorem dX6_worth_47 : decode cX6_worth 47 = .ok (.aload_n 0, 1) := dk_42 (dk_at dksX6_worth_2 7 rfl rfl)
theorem dX6_worth_48 : decode cX6_worth 48 = .ok (.getfield 1, 3) := dk_180 0 1 (dk_at dksX6_worth_2 8 rfl rfl)
theorem dX6_worth_51 : decode cX6_worth 51 = .ok (.getfield 23, 3) := dk_180 0 23 (dk_at dksX6_worth_2 11 rfl rfl)
theorem dX6_worth_54 : decode cX6_worth 54 = .ok (.aaload, 1) := dk_50 (dk_at dksX6_worth_2 14 rfl rfl)
theorem dX6_worth_55 : decode cX6_worth 55 = .ok (.aload_n 0, 1) := dk_42 (dk_at dksX6_worth_2 15 rfl rfl)
theorem dX6_worth_56 : decode cX6_worth 56 = .ok (.getfield 1, 3) := dk_180 0 1 (dk_at dksX6_worth_2 16 rfl rfl)
theorem dX6_worth_59 : decode cX6_worth 59 = .ok (.getfield 26, 3) := dk_180 0 26 (dk_at dksX6_worth_2 19 rfl rfl)
theorem dX6_worth_62 : decode cX6_worth 62 = .ok (.aload_n 0, 1) := dk_42 (dk_at dksX6_worth_2 22 rfl rfl)
theorem dX6_worth_63 : decode cX6_worth 63 = .ok (.getfield 1, 3) := dk_180 0 1 (dk_at dksX6_worth_3 0 rfl rfl)
theorem dX6_worth_66 : decode cX6_worth 66 = .ok (.getfield 30, 3) := dk_180 0 30 (dk_at dksX6_worth_3 3 rfl rfl)
theorem dX6_worth_69 : decode cX6_worth 69 = .ok (.aaload, 1) := dk_50 (dk_at dksX6_worth_3 6 rfl rfl)
theorem dX6_worth_70 : decode cX6_worth 70 = .ok (.getfield 33, 3) := dk_180 0 33 (dk_at dksX6_worth_3 7 rfl rfl)
theorem dX6_worth_73 : decode cX6_worth 73 = .ok (.iaload, 1) := dk_46 (dk_at dksX6_worth_3 10 rfl rfl)
theorem dX6_worth_74 : decode cX6_worth 74 = .ok (.ireturn, 1) := dk_172 (dk_at dksX6_worth_3 11 rfl rfl)
theorem dX6_worth_75 : decode cX6_worth 75 = .ok (.aload_n 0, 1) := dk_42 (dk_at dksX6_worth_3 12 rfl rfl)
theorem dX6_worth_76 : decode cX6_worth 76 = .ok (.getfield 1, 3) := dk_180 0 1 (dk_at dksX6_worth_3 13 rfl rfl)
theorem dX6_worth_79 : decode cX6_worth 79 = .ok (.getfield 26, 3) := dk_180 0 26 (dk_at dksX6_worth_3 16 rfl rfl)
theorem dX6_worth_82 : decode cX6_worth 82 = .ok (.aload_n 0, 1) := dk_42 (dk_at dksX6_worth_3 19 rfl rfl)
theorem dX6_worth_83 : decode cX6_worth 83 = .ok (.getfield 1, 3) := dk_180 0 1 (dk_at dksX6_worth_3 20 rfl rfl)
theorem dX6_worth_86 : decode cX6_worth 86 = .ok (.getfield 30, 3) := dk_180 0 30 (dk_at dksX6_worth_4 0 rfl rfl)
theorem dX6_worth_89 : decode cX6_worth 89 = .ok (.aaload, 1) := dk_50 (dk_at dksX6_worth_4 3 rfl rfl)
theorem dX6_worth_90 : decode cX6_worth 90 = .ok (.getfield 38, 3) := dk_180 0 38 (dk_at dksX6_worth_4 4 rfl rfl)
theorem dX6_worth_93 : decode cX6_worth 93 = .ok (.ireturn, 1) := dk_172 (dk_at dksX6_worth_4 7 rfl rfl)
theorem dX6_worth_94 : decode cX6_worth 94 = .ok (.aload_n 0, 1) := dk_42 (dk_at dksX6_worth_4 8 rfl rfl)
theorem dX6_worth_95 : decode cX6_worth 95 = .ok (.getfield 1, 3) := dk_180 0 1 (dk_at dksX6_worth_4 9 rfl rfl)
theorem dX6_worth_98 : decode cX6_worth 98 = .ok (.getfield 41, 3) := dk_180 0 41 (dk_at dksX6_worth_4 12 rfl rfl)
theorem dX6_worth_101 : decode cX6_worth 101 = .ok (.ireturn, 1) := dk_172 (dk_at dksX6_worth_4 15 rfl rfl)
theorem dX6_worth_102 : decode cX6_worth 102 = .ok (.aload_n 0, 1) := dk_42 (dk_at dksX6_worth_4 16 rfl rfl)
theorem dX6_worth_103 : decode cX6_worth 103 = .ok (.getfield 1, 3) := dk_180 0 1 (dk_at dksX6_worth_4 17 rfl rfl)
theorem dX6_worth_106 : decode cX6_worth 106 = .ok (.getfield 44, 3) := dk_180 0 44 (dk_at dksX6_worth_4 20 rfl rfl)
theorem dX6_worth_109 : decode cX6_worth 109 = .ok (.ireturn, 1) := dk_172 (dk_at dksX6_worth_4 23 rfl rfl)
theorem dX6_worth_110 : decode cX6_worth 110 = .ok (.aload_n 0, 1) := dk_42 (dk_at dksX6_worth_5 0 rfl rfl)
theorem dX6_worth_111 : decode cX6_worth 111 = .ok (.getfield 1, 3) := dk_180 0 1 (dk_at dksX6_worth_5 1 rfl rfl)
theorem dX6_worth_114 : decode cX6_worth 114 = .ok (.getfield 47, 3) := dk_180 0 47 (dk_at dksX6_worth_5 4 rfl rfl)
theorem dX6_worth_117 : decode cX6_worth 117 = .ok (.ireturn, 1) := dk_172 (dk_at dksX6_worth_5 7 rfl rfl)
theorem dX6_worth_118 : decode cX6_worth 118 = .ok (.aload_n 0, 1) := dk_42 (dk_at dksX6_worth_5 8 rfl rfl)
theorem dX6_worth_119 : decode cX6_worth 119 = .ok (.getfield 1, 3) := dk_180 0 1 (dk_at dksX6_worth_5 9 rfl rfl)
theorem dX6_worth_122 : decode cX6_worth 122 = .ok (.getfield 26, 3) := dk_180 0 26 (dk_at dksX6_worth_5 12 rfl rfl)
theorem dX6_worth_125 : decode cX6_worth 125 = .ok (.aload_n 0, 1) := dk_42 (dk_at dksX6_worth_5 15 rfl rfl)
theorem dX6_worth_126 : decode cX6_worth 126 = .ok (.getfield 1, 3) := dk_180 0 1 (dk_at dksX6_worth_5 16 rfl rfl)
theorem dX6_worth_129 : decode cX6_worth 129 = .ok (.getfield 50, 3) := dk_180 0 50 (dk_at dksX6_worth_5 19 rfl rfl)
theorem dX6_worth_132 : decode cX6_worth 132 = .ok (.aaload, 1) := dk_50 (dk_at dksX6_worth_5 22 rfl rfl)
theorem dX6_worth_133 : decode cX6_worth 133 = .ok (.getfield 38, 3) := dk_180 0 38 (dk_at dksX6_worth_6 0 rfl rfl)
theorem dX6_worth_136 : decode cX6_worth 136 = .ok (.ireturn, 1) := dk_172 (dk_at dksX6_worth_6 3 rfl rfl)
abbrev cX6_init : ByteArray := prog_6_method_1_code
def yX6_init : MethodName := ⟨RX6, "<init>", "(LTandemKeepsAPlace;I)V"⟩
def dkwX6_init_0 : List UInt8 := [42, 43, 181, 0, 1, 42, 183, 0, 7, 42, 28, 181, 0, 13, 177]
abbrev dktX6_init_0 : List UInt8 := dkwX6_init_0 ++ []
theorem dksX6_init_0 : cX6_init.data.toList.drop 0 = dktX6_init_0 := by decide +kernel
theorem dX6_init_0 : decode cX6_init 0 = .ok (.aload_n 0, 1) := dk_42 (dk_at dksX6_init_0 0 rfl rfl)
theorem dX6_init_1 : decode cX6_init 1 = .ok (.aload_n 1, 1) := dk_43 (dk_at dksX6_init_0 1 rfl rfl)
theorem dX6_init_2 : decode cX6_init 2 = .ok (.putfield 1, 3) := dk_181 0 1 (dk_at dksX6_init_0 2 rfl rfl)
theorem dX6_init_5 : decode cX6_init 5 = .ok (.aload_n 0, 1) := dk_42 (dk_at dksX6_init_0 5 rfl rfl)
theorem dX6_init_6 : decode cX6_init 6 = .ok (.invokespecial 7, 3) := dk_183 0 7 (dk_at dksX6_init_0 6 rfl rfl)
theorem dX6_init_9 : decode cX6_init 9 = .ok (.aload_n 0, 1) := dk_42 (dk_at dksX6_init_0 9 rfl rfl)
theorem dX6_init_10 : decode cX6_init 10 = .ok (.iload_n 2, 1) := dk_28 (dk_at dksX6_init_0 10 rfl rfl)
theorem dX6_init_11 : decode cX6_init 11 = .ok (.putfield 13, 3) := dk_181 0 13 (dk_at dksX6_init_0 11 rfl rfl)
theorem dX6_init_14 : decode cX6_init 14 = .ok (.return_, 1) := dk_177 (dk_at dksX6_init_0 14 rfl rfl)
theorem q146 : (Jvm.Cond.initialized "TandemKeepsAPlace$Name") ∈ lw_all := lw_g (lw_at lw_m1 16 rfl) rfl
theorem q190 : (Jvm.Cond.fieldLink "TandemKeepsAPlace$Name" (38 : Nat) "TandemKeepsAPlace$Rider" "number" "I") ∈ lw_all := lw_g (lw_at lw_m1 60 rfl) rfl
theorem q199 : (Jvm.Cond.fieldLink "TandemKeepsAPlace$Name" (33 : Nat) "TandemKeepsAPlace$Rider" "goal" "I") ∈ lw_all := lw_g (lw_at lw_m1 69 rfl) rfl
theorem q343 : (Jvm.Cond.selects "TandemKeepsAPlace$Name" ({ cls := "TandemKeepsAPlace$Node", name := "worth", desc := "()I" } : Jvm.MethodName) ({ cls := "TandemKeepsAPlace$Name", name := "worth", desc := "()I" } : Jvm.MethodName)) ∈ lw_all := lw_g (lw_at lw_m1 213 rfl) rfl
theorem q344 : (Jvm.Cond.instanceMethod ({ cls := "TandemKeepsAPlace$Name", name := "worth", desc := "()I" } : Jvm.MethodName)) ∈ lw_all := lw_g (lw_at lw_m1 214 rfl) rfl
theorem q345 : (Jvm.Cond.code ({ cls := "TandemKeepsAPlace$Name", name := "worth", desc := "()I" } : Jvm.MethodName) prog_6_method_2_code (1 : Nat) (Option.some Jvm.ClassFile.FieldType.int)) ∈ lw_all := lw_g (lw_at lw_m1 215 rfl) rfl
theorem q635 : (Jvm.Cond.instantiable "TandemKeepsAPlace$Name" (2 : Nat)) ∈ lw_all := lw_g (lw_at lw_m3 25 rfl) rfl
theorem q637 : (Jvm.Cond.instanceMethod ({ cls := "TandemKeepsAPlace$Name", name := "<init>", desc := "(LTandemKeepsAPlace;I)V" } : Jvm.MethodName)) ∈ lw_all := lw_g (lw_at lw_m3 27 rfl) rfl
theorem q638 : (Jvm.Cond.code ({ cls := "TandemKeepsAPlace$Name", name := "<init>", desc := "(LTandemKeepsAPlace;I)V" } : Jvm.MethodName) prog_6_method_1_code (3 : Nat) (Option.none : Option Jvm.ClassFile.FieldType)) ∈ lw_all := lw_g (lw_at lw_m3 28 rfl) rfl
theorem q639 : (Jvm.Cond.methodLinkNest "TandemKeepsAPlace$Name" (7 : Nat) ({ cls := "TandemKeepsAPlace$Node", name := "<init>", desc := "()V" } : Jvm.MethodName) "TandemKeepsAPlace") ∈ lw_tbl := lw_at lw_m3 29 rfl
theorem q640 : (Jvm.Cond.fieldLink "TandemKeepsAPlace$Name" (13 : Nat) "TandemKeepsAPlace$Name" "which" "I") ∈ lw_all := lw_g (lw_at lw_m3 30 rfl) rfl
theorem q641 : (Jvm.Cond.fieldLink "TandemKeepsAPlace$Name" (1 : Nat) "TandemKeepsAPlace$Name" "this$0" "LTandemKeepsAPlace;") ∈ lw_all := lw_g (lw_at lw_m3 31 rfl) rfl
theorem q642 : (Jvm.Cond.laysFinal "TandemKeepsAPlace$Name" "TandemKeepsAPlace$Name" "which" "I") ∈ lw_all := lw_g (lw_at lw_m3 32 rfl) rfl
theorem q643 : (Jvm.Cond.soleField "TandemKeepsAPlace$Name" "which") ∈ lw_all := lw_g (lw_at lw_m3 33 rfl) rfl
theorem q644 : (Jvm.Cond.laysFinal "TandemKeepsAPlace$Name" "TandemKeepsAPlace$Name" "this$0" "LTandemKeepsAPlace;") ∈ lw_all := lw_g (lw_at lw_m3 34 rfl) rfl
theorem q645 : (Jvm.Cond.soleField "TandemKeepsAPlace$Name" "this$0") ∈ lw_all := lw_g (lw_at lw_m3 35 rfl) rfl
theorem q646 : (Jvm.Cond.superclass "TandemKeepsAPlace$Name" "TandemKeepsAPlace$Node") ∈ lw_all := lw_g (lw_at lw_m3 36 rfl) rfl
theorem q789 : (Jvm.Cond.fieldLinkNest "TandemKeepsAPlace$Name" (26 : Nat) "TandemKeepsAPlace" "folk" "[LTandemKeepsAPlace$Rider;" "TandemKeepsAPlace") ∈ lw_tbl := lw_at lw_m3 179 rfl
theorem q792 : (Jvm.Cond.fieldLinkNest "TandemKeepsAPlace$Name" (44 : Nat) "TandemKeepsAPlace" "hour" "I" "TandemKeepsAPlace") ∈ lw_tbl := lw_at lw_m3 182 rfl
theorem q795 : (Jvm.Cond.fieldLinkNest "TandemKeepsAPlace$Name" (17 : Nat) "TandemKeepsAPlace" "far" "[[I" "TandemKeepsAPlace") ∈ lw_tbl := lw_at lw_m3 185 rfl
theorem q798 : (Jvm.Cond.fieldLinkNest "TandemKeepsAPlace$Name" (30 : Nat) "TandemKeepsAPlace" "forOne" "I" "TandemKeepsAPlace") ∈ lw_tbl := lw_at lw_m3 188 rfl
theorem q800 : (Jvm.Cond.fieldLinkNest "TandemKeepsAPlace$Name" (50 : Nat) "TandemKeepsAPlace" "forOther" "I" "TandemKeepsAPlace") ∈ lw_tbl := lw_at lw_m3 190 rfl
theorem q802 : (Jvm.Cond.fieldLinkNest "TandemKeepsAPlace$Name" (23 : Nat) "TandemKeepsAPlace" "forPlace" "I" "TandemKeepsAPlace") ∈ lw_tbl := lw_at lw_m3 192 rfl
theorem q804 : (Jvm.Cond.fieldLinkNest "TandemKeepsAPlace$Name" (41 : Nat) "TandemKeepsAPlace" "forSteps" "I" "TandemKeepsAPlace") ∈ lw_tbl := lw_at lw_m3 194 rfl
theorem q806 : (Jvm.Cond.fieldLinkNest "TandemKeepsAPlace$Name" (47 : Nat) "TandemKeepsAPlace" "forBehind" "I" "TandemKeepsAPlace") ∈ lw_tbl := lw_at lw_m3 196 rfl
theorem q1885 : (Jvm.Cond.castable "TandemKeepsAPlace$Name" "TandemKeepsAPlace$Node") ∈ lw_tbl := lw_at lw_m8 75 rfl
theorem in_X6 : ∀ w ∈ wsX60, w ∈ lw_all := lw_in wsX60 [642, 644] (by decide +kernel) (by decide +kernel)

/-! TandemKeepsAPlace$Two -/
set_option maxRecDepth 100000
def RX7 : String := "TandemKeepsAPlace$Two"
def TX7 : u_T := fun k => match k with
  | 0 => ("TandemKeepsAPlace$Two", "sign", "I", true)
  | 1 => ("TandemKeepsAPlace$Two", "a", "LTandemKeepsAPlace$Node;", true)
  | _ => ("TandemKeepsAPlace$Two", "b", "LTandemKeepsAPlace$Node;", true)
def tyX7 : Nat → FieldType := fun k => match k with
  | 0 => .int
  | 1 => .object "TandemKeepsAPlace$Node"
  | _ => .object "TandemKeepsAPlace$Node"
abbrev wsX70 : List Cond := u_ws RX7 TX7 3
theorem nmX7 : ∀ a, a < 3 → ∀ b, b < 3 → a ≠ b → (TX7 a).2.1 ≠ (TX7 b).2.1 := by decide +kernel
theorem tyX7_ok : ∀ k, k < 3 → parseFieldDescriptor (TX7 k).2.2.1 = some (tyX7 k) := by decide +kernel
abbrev cX7_worth : ByteArray := prog_14_method_2_code
def yX7_worth : MethodName := ⟨RX7, "worth", "()I"⟩
def dkwX7_worth_4 : List UInt8 := [27, 154, 0, 7, 28, 153, 0, 7, 4, 167, 0, 4, 3, 172]
abbrev dktX7_worth_4 : List UInt8 := dkwX7_worth_4 ++ []
def dkwX7_worth_3 : List UInt8 := [28, 160, 0, 7, 4, 167, 0, 4, 3, 172, 27, 153, 0, 11, 28, 153, 0, 7, 4, 167, 0, 4, 3, 172]
abbrev dktX7_worth_3 : List UInt8 := dkwX7_worth_3 ++ dktX7_worth_4
def dkwX7_worth_2 : List UInt8 := [27, 28, 96, 172, 27, 28, 100, 172, 27, 28, 104, 172, 27, 28, 162, 0, 7, 4, 167, 0, 4, 3, 172, 27]
abbrev dktX7_worth_2 : List UInt8 := dkwX7_worth_2 ++ dktX7_worth_3
def dkwX7_worth_1 : List UInt8 := [171, 0, 0, 0, 0, 0, 0, 108, 0, 0, 0, 6, 0, 0, 0, 38, 0, 0, 0, 94, 0, 0, 0, 42, 0, 0, 0, 68, 0, 0, 0, 43, 0, 0, 0, 60, 0, 0, 0, 45, 0, 0, 0, 64, 0, 0, 0, 60, 0, 0, 0, 72, 0, 0, 0, 61, 0, 0, 0, 83]
abbrev dktX7_worth_1 : List UInt8 := dkwX7_worth_1 ++ dktX7_worth_2
def dkwX7_worth_0 : List UInt8 := [42, 180, 0, 13, 182, 0, 20, 60, 42, 180, 0, 17, 182, 0, 20, 61, 42, 180, 0, 7]
abbrev dktX7_worth_0 : List UInt8 := dkwX7_worth_0 ++ dktX7_worth_1
theorem dksX7_worth_0 : cX7_worth.data.toList.drop 0 = dktX7_worth_0 := by decide +kernel
theorem dksX7_worth_1 : cX7_worth.data.toList.drop 20 = dktX7_worth_1 := dk_seg dksX7_worth_0 20 rfl rfl
theorem dksX7_worth_2 : cX7_worth.data.toList.drop 80 = dktX7_worth_2 := dk_seg dksX7_worth_1 60 rfl rfl
theorem dksX7_worth_3 : cX7_worth.data.toList.drop 104 = dktX7_worth_3 := dk_seg dksX7_worth_2 24 rfl rfl
theorem dksX7_worth_4 : cX7_worth.data.toList.drop 128 = dktX7_worth_4 := dk_seg dksX7_worth_3 24 rfl rfl
theorem dX7_worth_0 : decode cX7_worth 0 = .ok (.aload_n 0, 1) := dk_42 (dk_at dksX7_worth_0 0 rfl rfl)
theorem dX7_worth_1 : decode cX7_worth 1 = .ok (.getfield 13, 3) := dk_180 0 13 (dk_at dksX7_worth_0 1 rfl rfl)
theorem dX7_worth_4 : decode cX7_worth 4 = .ok (.invokevirtual 20, 3) := dk_182 0 20 (dk_at dksX7_worth_0 4 rfl rfl)
theorem dX7_worth_7 : decode cX7_worth 7 = .ok (.istore_n 1, 1) := dk_60 (dk_at dksX7_worth_0 7 rfl rfl)
theorem dX7_worth_8 : decode cX7_worth 8 = .ok (.aload_n 0, 1) := dk_42 (dk_at dksX7_worth_0 8 rfl rfl)
theorem dX7_worth_9 : decode cX7_worth 9 = .ok (.getfield 17, 3) := dk_180 0 17 (dk_at dksX7_worth_0 9 rfl rfl)
theorem dX7_worth_12 : decode cX7_worth 12 = .ok (.invokevirtual 20, 3) := dk_182 0 20 (dk_at dksX7_worth_0 12 rfl rfl)
theorem dX7_worth_15 : decode cX7_worth 15 = .ok (.istore_n 2, 1) := dk_61 (dk_at dksX7_worth_0 15 rfl rfl)
theorem dX7_worth_16 : decode cX7_worth 16 = .ok (.aload_n 0, 1) := dk_42 (dk_at dksX7_worth_0 16 rfl rfl)
theorem dX7_worth_17 : decode cX7_worth 17 = .ok (.getfield 7, 3) := dk_180 0 7 (dk_at dksX7_worth_0 17 rfl rfl)
theorem dX7_worth_20 : decode cX7_worth 20 = .ok (.lookupswitch 108 #[(38, 94), (42, 68), (43, 60), (45, 64), (60, 72), (61, 83)], 60) := by decide +kernel
theorem dX7_worth_80 : decode cX7_worth 80 = .ok (.iload_n 1, 1) := dk_27 (dk_at dksX7_worth_2 0 rfl rfl)
theorem dX7_worth_81 : decode cX7_worth 81 = .ok (.iload_n 2, 1) := dk_28 (dk_at dksX7_worth_2 1 rfl rfl)
theorem dX7_worth_82 : decode cX7_worth 82 = .ok (.iadd, 1) := dk_96 (dk_at dksX7_worth_2 2 rfl rfl)
theorem dX7_worth_83 : decode cX7_worth 83 = .ok (.ireturn, 1) := dk_172 (dk_at dksX7_worth_2 3 rfl rfl)
theorem dX7_worth_84 : decode cX7_worth 84 = .ok (.iload_n 1, 1) := dk_27 (dk_at dksX7_worth_2 4 rfl rfl)
theorem dX7_worth_85 : decode cX7_worth 85 = .ok (.iload_n 2, 1) := dk_28 (dk_at dksX7_worth_2 5 rfl rfl)
theorem dX7_worth_86 : decode cX7_worth 86 = .ok (.isub, 1) := dk_100 (dk_at dksX7_worth_2 6 rfl rfl)
theorem dX7_worth_87 : decode cX7_worth 87 = .ok (.ireturn, 1) := dk_172 (dk_at dksX7_worth_2 7 rfl rfl)
theorem dX7_worth_88 : decode cX7_worth 88 = .ok (.iload_n 1, 1) := dk_27 (dk_at dksX7_worth_2 8 rfl rfl)
theorem dX7_worth_89 : decode cX7_worth 89 = .ok (.iload_n 2, 1) := dk_28 (dk_at dksX7_worth_2 9 rfl rfl)
theorem dX7_worth_90 : decode cX7_worth 90 = .ok (.imul, 1) := dk_104 (dk_at dksX7_worth_2 10 rfl rfl)
theorem dX7_worth_91 : decode cX7_worth 91 = .ok (.ireturn, 1) := dk_172 (dk_at dksX7_worth_2 11 rfl rfl)
theorem dX7_worth_92 : decode cX7_worth 92 = .ok (.iload_n 1, 1) := dk_27 (dk_at dksX7_worth_2 12 rfl rfl)
theorem dX7_worth_93 : decode cX7_worth 93 = .ok (.iload_n 2, 1) := dk_28 (dk_at dksX7_worth_2 13 rfl rfl)
theorem dX7_worth_94 : decode cX7_worth 94 = .ok (.if_icmp .ge 7, 3) := dk_162 0 7 (dk_at dksX7_worth_2 14 rfl rfl)
theorem dX7_worth_97 : decode cX7_worth 97 = .ok (.iconst 1, 1) := dk_4 (dk_at dksX7_worth_2 17 rfl rfl)
theorem dX7_worth_98 : decode cX7_worth 98 = .ok (.goto 4, 3) := dk_167 0 4 (dk_at dksX7_worth_2 18 rfl rfl)
theorem dX7_worth_101 : decode cX7_worth 101 = .ok (.iconst 0, 1) := dk_3 (dk_at dksX7_worth_2 21 rfl rfl)
theorem dX7_worth_102 : decode cX7_worth 102 = .ok (.ireturn, 1) := dk_172 (dk_at dksX7_worth_2 22 rfl rfl)
theorem dX7_worth_103 : decode cX7_worth 103 = .ok (.iload_n 1, 1) := dk_27 (dk_at dksX7_worth_2 23 rfl rfl)
theorem dX7_worth_104 : decode cX7_worth 104 = .ok (.iload_n 2, 1) := dk_28 (dk_at dksX7_worth_3 0 rfl rfl)
theorem dX7_worth_105 : decode cX7_worth 105 = .ok (.if_icmp .ne 7, 3) := dk_160 0 7 (dk_at dksX7_worth_3 1 rfl rfl)
theorem dX7_worth_108 : decode cX7_worth 108 = .ok (.iconst 1, 1) := dk_4 (dk_at dksX7_worth_3 4 rfl rfl)
theorem dX7_worth_109 : decode cX7_worth 109 = .ok (.goto 4, 3) := dk_167 0 4 (dk_at dksX7_worth_3 5 rfl rfl)
theorem dX7_worth_112 : decode cX7_worth 112 = .ok (.iconst 0, 1) := dk_3 (dk_at dksX7_worth_3 8 rfl rfl)
theorem dX7_worth_113 : decode cX7_worth 113 = .ok (.ireturn, 1) := dk_172 (dk_at dksX7_worth_3 9 rfl rfl)
theorem dX7_worth_114 : decode cX7_worth 114 = .ok (.iload_n 1, 1) := dk_27 (dk_at dksX7_worth_3 10 rfl rfl)
theorem dX7_worth_115 : decode cX7_worth 115 = .ok (.ifCond .eq 11, 3) := dk_153 0 11 (dk_at dksX7_worth_3 11 rfl rfl)
theorem dX7_worth_118 : decode cX7_worth 118 = .ok (.iload_n 2, 1) := dk_28 (dk_at dksX7_worth_3 14 rfl rfl)
theorem dX7_worth_119 : decode cX7_worth 119 = .ok (.ifCond .eq 7, 3) := dk_153 0 7 (dk_at dksX7_worth_3 15 rfl rfl)
theorem dX7_worth_122 : decode cX7_worth 122 = .ok (.iconst 1, 1) := dk_4 (dk_at dksX7_worth_3 18 rfl rfl)
theorem dX7_worth_123 : decode cX7_worth 123 = .ok (.goto 4, 3) := dk_167 0 4 (dk_at dksX7_worth_3 19 rfl rfl)
theorem dX7_worth_126 : decode cX7_worth 126 = .ok (.iconst 0, 1) := dk_3 (dk_at dksX7_worth_3 22 rfl rfl)
theorem dX7_worth_127 : decode cX7_worth 127 = .ok (.ireturn, 1) := dk_172 (dk_at dksX7_worth_3 23 rfl rfl)
theorem dX7_worth_128 : decode cX7_worth 128 = .ok (.iload_n 1, 1) := dk_27 (dk_at dksX7_worth_4 0 rfl rfl)
theorem dX7_worth_129 : decode cX7_worth 129 = .ok (.ifCond .ne 7, 3) := dk_154 0 7 (dk_at dksX7_worth_4 1 rfl rfl)
theorem dX7_worth_132 : decode cX7_worth 132 = .ok (.iload_n 2, 1) := dk_28 (dk_at dksX7_worth_4 4 rfl rfl)
theorem dX7_worth_133 : decode cX7_worth 133 = .ok (.ifCond .eq 7, 3) := dk_153 0 7 (dk_at dksX7_worth_4 5 rfl rfl)
theorem dX7_worth_136 : decode cX7_worth 136 = .ok (.iconst 1, 1) := dk_4 (dk_at dksX7_worth_4 8 rfl rfl)
theorem dX7_worth_137 : decode cX7_worth 137 = .ok (.goto 4, 3) := dk_167 0 4 (dk_at dksX7_worth_4 9 rfl rfl)
theorem dX7_worth_140 : decode cX7_worth 140 = .ok (.iconst 0, 1) := dk_3 (dk_at dksX7_worth_4 12 rfl rfl)
theorem dX7_worth_141 : decode cX7_worth 141 = .ok (.ireturn, 1) := dk_172 (dk_at dksX7_worth_4 13 rfl rfl)
abbrev cX7_init : ByteArray := prog_14_method_1_code
def yX7_init : MethodName := ⟨RX7, "<init>", "(ILTandemKeepsAPlace$Node;LTandemKeepsAPlace$Node;)V"⟩
def dkwX7_init_0 : List UInt8 := [42, 183, 0, 1, 42, 27, 181, 0, 7, 42, 44, 181, 0, 13, 42, 45, 181, 0, 17, 177]
abbrev dktX7_init_0 : List UInt8 := dkwX7_init_0 ++ []
theorem dksX7_init_0 : cX7_init.data.toList.drop 0 = dktX7_init_0 := by decide +kernel
theorem dX7_init_0 : decode cX7_init 0 = .ok (.aload_n 0, 1) := dk_42 (dk_at dksX7_init_0 0 rfl rfl)
theorem dX7_init_1 : decode cX7_init 1 = .ok (.invokespecial 1, 3) := dk_183 0 1 (dk_at dksX7_init_0 1 rfl rfl)
theorem dX7_init_4 : decode cX7_init 4 = .ok (.aload_n 0, 1) := dk_42 (dk_at dksX7_init_0 4 rfl rfl)
theorem dX7_init_5 : decode cX7_init 5 = .ok (.iload_n 1, 1) := dk_27 (dk_at dksX7_init_0 5 rfl rfl)
theorem dX7_init_6 : decode cX7_init 6 = .ok (.putfield 7, 3) := dk_181 0 7 (dk_at dksX7_init_0 6 rfl rfl)
theorem dX7_init_9 : decode cX7_init 9 = .ok (.aload_n 0, 1) := dk_42 (dk_at dksX7_init_0 9 rfl rfl)
theorem dX7_init_10 : decode cX7_init 10 = .ok (.aload_n 2, 1) := dk_44 (dk_at dksX7_init_0 10 rfl rfl)
theorem dX7_init_11 : decode cX7_init 11 = .ok (.putfield 13, 3) := dk_181 0 13 (dk_at dksX7_init_0 11 rfl rfl)
theorem dX7_init_14 : decode cX7_init 14 = .ok (.aload_n 0, 1) := dk_42 (dk_at dksX7_init_0 14 rfl rfl)
theorem dX7_init_15 : decode cX7_init 15 = .ok (.aload_n 3, 1) := dk_45 (dk_at dksX7_init_0 15 rfl rfl)
theorem dX7_init_16 : decode cX7_init 16 = .ok (.putfield 17, 3) := dk_181 0 17 (dk_at dksX7_init_0 16 rfl rfl)
theorem dX7_init_19 : decode cX7_init 19 = .ok (.return_, 1) := dk_177 (dk_at dksX7_init_0 19 rfl rfl)
theorem q147 : (Jvm.Cond.initialized "TandemKeepsAPlace$Two") ∈ lw_all := lw_g (lw_at lw_m1 17 rfl) rfl
theorem q353 : (Jvm.Cond.instanceMethod ({ cls := "TandemKeepsAPlace$Two", name := "worth", desc := "()I" } : Jvm.MethodName)) ∈ lw_all := lw_g (lw_at lw_m1 223 rfl) rfl
theorem q354 : (Jvm.Cond.code ({ cls := "TandemKeepsAPlace$Two", name := "worth", desc := "()I" } : Jvm.MethodName) prog_14_method_2_code (3 : Nat) (Option.some Jvm.ClassFile.FieldType.int)) ∈ lw_all := lw_g (lw_at lw_m1 224 rfl) rfl
theorem q355 : (Jvm.Cond.methodLink "TandemKeepsAPlace$Two" (20 : Nat) ({ cls := "TandemKeepsAPlace$Node", name := "worth", desc := "()I" } : Jvm.MethodName)) ∈ lw_all := lw_g (lw_at lw_m1 225 rfl) rfl
theorem q356 : (Jvm.Cond.selects "TandemKeepsAPlace$Two" ({ cls := "TandemKeepsAPlace$Node", name := "worth", desc := "()I" } : Jvm.MethodName) ({ cls := "TandemKeepsAPlace$Two", name := "worth", desc := "()I" } : Jvm.MethodName)) ∈ lw_all := lw_g (lw_at lw_m1 226 rfl) rfl
theorem q652 : (Jvm.Cond.instantiable "TandemKeepsAPlace$Two" (3 : Nat)) ∈ lw_all := lw_g (lw_at lw_m3 42 rfl) rfl
theorem q654 : (Jvm.Cond.instanceMethod ({ cls := "TandemKeepsAPlace$Two", name := "<init>", desc := "(ILTandemKeepsAPlace$Node;LTandemKeepsAPlace$Node;)V" } : Jvm.MethodName)) ∈ lw_all := lw_g (lw_at lw_m3 44 rfl) rfl
theorem q655 : (Jvm.Cond.code ({ cls := "TandemKeepsAPlace$Two", name := "<init>", desc := "(ILTandemKeepsAPlace$Node;LTandemKeepsAPlace$Node;)V" } : Jvm.MethodName) prog_14_method_1_code (4 : Nat) (Option.none : Option Jvm.ClassFile.FieldType)) ∈ lw_all := lw_g (lw_at lw_m3 45 rfl) rfl
theorem q656 : (Jvm.Cond.methodLinkNest "TandemKeepsAPlace$Two" (1 : Nat) ({ cls := "TandemKeepsAPlace$Node", name := "<init>", desc := "()V" } : Jvm.MethodName) "TandemKeepsAPlace") ∈ lw_tbl := lw_at lw_m3 46 rfl
theorem q657 : (Jvm.Cond.fieldLink "TandemKeepsAPlace$Two" (7 : Nat) "TandemKeepsAPlace$Two" "sign" "I") ∈ lw_all := lw_g (lw_at lw_m3 47 rfl) rfl
theorem q658 : (Jvm.Cond.fieldLink "TandemKeepsAPlace$Two" (13 : Nat) "TandemKeepsAPlace$Two" "a" "LTandemKeepsAPlace$Node;") ∈ lw_all := lw_g (lw_at lw_m3 48 rfl) rfl
theorem q659 : (Jvm.Cond.fieldLink "TandemKeepsAPlace$Two" (17 : Nat) "TandemKeepsAPlace$Two" "b" "LTandemKeepsAPlace$Node;") ∈ lw_all := lw_g (lw_at lw_m3 49 rfl) rfl
theorem q660 : (Jvm.Cond.laysFinal "TandemKeepsAPlace$Two" "TandemKeepsAPlace$Two" "sign" "I") ∈ lw_all := lw_g (lw_at lw_m3 50 rfl) rfl
theorem q661 : (Jvm.Cond.soleField "TandemKeepsAPlace$Two" "sign") ∈ lw_all := lw_g (lw_at lw_m3 51 rfl) rfl
theorem q662 : (Jvm.Cond.laysFinal "TandemKeepsAPlace$Two" "TandemKeepsAPlace$Two" "a" "LTandemKeepsAPlace$Node;") ∈ lw_all := lw_g (lw_at lw_m3 52 rfl) rfl
theorem q663 : (Jvm.Cond.soleField "TandemKeepsAPlace$Two" "a") ∈ lw_all := lw_g (lw_at lw_m3 53 rfl) rfl
theorem q664 : (Jvm.Cond.laysFinal "TandemKeepsAPlace$Two" "TandemKeepsAPlace$Two" "b" "LTandemKeepsAPlace$Node;") ∈ lw_all := lw_g (lw_at lw_m3 54 rfl) rfl
theorem q665 : (Jvm.Cond.soleField "TandemKeepsAPlace$Two" "b") ∈ lw_all := lw_g (lw_at lw_m3 55 rfl) rfl
theorem q666 : (Jvm.Cond.superclass "TandemKeepsAPlace$Two" "TandemKeepsAPlace$Node") ∈ lw_all := lw_g (lw_at lw_m3 56 rfl) rfl
theorem q1886 : (Jvm.Cond.castable "TandemKeepsAPlace$Two" "TandemKeepsAPlace$Node") ∈ lw_tbl := lw_at lw_m8 76 rfl
theorem in_X7 : ∀ w ∈ wsX70, w ∈ lw_all := lw_in wsX70 [660, 662, 664] (by decide +kernel) (by decide +kernel)

/-! TandemKeepsAPlace$Rider -/
set_option maxRecDepth 100000
def RX9 : String := "TandemKeepsAPlace$Rider"
def TX9 : u_T := fun k => match k with
  | 0 => ("TandemKeepsAPlace$Rider", "number", "I", false)
  | 1 => ("TandemKeepsAPlace$Rider", "goal", "I", false)
  | _ => ("TandemKeepsAPlace$Rider", "ridden", "I", false)
def tyX9 : Nat → FieldType := fun k => match k with
  | 0 => .int
  | 1 => .int
  | _ => .int
abbrev wsX90 : List Cond := u_ws RX9 TX9 3
theorem nmX9 : ∀ a, a < 3 → ∀ b, b < 3 → a ≠ b → (TX9 a).2.1 ≠ (TX9 b).2.1 := by decide +kernel
theorem tyX9_ok : ∀ k, k < 3 → parseFieldDescriptor (TX9 k).2.2.1 = some (tyX9 k) := by decide +kernel
abbrev cX9_init : ByteArray := prog_9_method_1_code
def yX9_init : MethodName := ⟨RX9, "<init>", "(II)V"⟩
def dkwX9_init_0 : List UInt8 := [42, 183, 0, 1, 42, 27, 181, 0, 7, 42, 28, 181, 0, 13, 177]
abbrev dktX9_init_0 : List UInt8 := dkwX9_init_0 ++ []
theorem dksX9_init_0 : cX9_init.data.toList.drop 0 = dktX9_init_0 := by decide +kernel
theorem dX9_init_0 : decode cX9_init 0 = .ok (.aload_n 0, 1) := dk_42 (dk_at dksX9_init_0 0 rfl rfl)
theorem dX9_init_1 : decode cX9_init 1 = .ok (.invokespecial 1, 3) := dk_183 0 1 (dk_at dksX9_init_0 1 rfl rfl)
theorem dX9_init_4 : decode cX9_init 4 = .ok (.aload_n 0, 1) := dk_42 (dk_at dksX9_init_0 4 rfl rfl)
theorem dX9_init_5 : decode cX9_init 5 = .ok (.iload_n 1, 1) := dk_27 (dk_at dksX9_init_0 5 rfl rfl)
theorem dX9_init_6 : decode cX9_init 6 = .ok (.putfield 7, 3) := dk_181 0 7 (dk_at dksX9_init_0 6 rfl rfl)
theorem dX9_init_9 : decode cX9_init 9 = .ok (.aload_n 0, 1) := dk_42 (dk_at dksX9_init_0 9 rfl rfl)
theorem dX9_init_10 : decode cX9_init 10 = .ok (.iload_n 2, 1) := dk_28 (dk_at dksX9_init_0 10 rfl rfl)
theorem dX9_init_11 : decode cX9_init 11 = .ok (.putfield 13, 3) := dk_181 0 13 (dk_at dksX9_init_0 11 rfl rfl)
theorem dX9_init_14 : decode cX9_init 14 = .ok (.return_, 1) := dk_177 (dk_at dksX9_init_0 14 rfl rfl)
abbrev cX9_kind : ByteArray := prog_9_method_2_code
def yX9_kind : MethodName := ⟨RX9, "kind", "()I"⟩
theorem dX9_kind_0 : decode cX9_kind 0 = .ok (.iconst 0, 1) := by decide +kernel
theorem dX9_kind_1 : decode cX9_kind 1 = .ok (.ireturn, 1) := by decide +kernel
abbrev cX9_pull : ByteArray := prog_9_method_3_code
def yX9_pull : MethodName := ⟨RX9, "pull", "(IZI)I"⟩
theorem dX9_pull_0 : decode cX9_pull 0 = .ok (.iload_n 1, 1) := by decide +kernel
theorem dX9_pull_1 : decode cX9_pull 1 = .ok (.ireturn, 1) := by decide +kernel
abbrev cX9_mood : ByteArray := prog_9_method_4_code
def yX9_mood : MethodName := ⟨RX9, "mood", "(I)I"⟩
theorem dX9_mood_0 : decode cX9_mood 0 = .ok (.iload_n 1, 1) := by decide +kernel
theorem dX9_mood_1 : decode cX9_mood 1 = .ok (.ireturn, 1) := by decide +kernel
abbrev cX9_hasEnough : ByteArray := prog_9_method_5_code
def yX9_hasEnough : MethodName := ⟨RX9, "hasEnough", "(ZI)Z"⟩
theorem dX9_hasEnough_0 : decode cX9_hasEnough 0 = .ok (.iload_n 1, 1) := by decide +kernel
theorem dX9_hasEnough_1 : decode cX9_hasEnough 1 = .ok (.ireturn, 1) := by decide +kernel
abbrev cX9_like : ByteArray := prog_9_method_6_code
def yX9_like : MethodName := ⟨RX9, "like", "(LTandemKeepsAPlace$Rider;)LTandemKeepsAPlace$Rider;"⟩
def dkwX9_like_0 : List UInt8 := [42, 43, 180, 0, 16, 181, 0, 16, 42, 176]
abbrev dktX9_like_0 : List UInt8 := dkwX9_like_0 ++ []
theorem dksX9_like_0 : cX9_like.data.toList.drop 0 = dktX9_like_0 := by decide +kernel
theorem dX9_like_0 : decode cX9_like 0 = .ok (.aload_n 0, 1) := dk_42 (dk_at dksX9_like_0 0 rfl rfl)
theorem dX9_like_1 : decode cX9_like 1 = .ok (.aload_n 1, 1) := dk_43 (dk_at dksX9_like_0 1 rfl rfl)
theorem dX9_like_2 : decode cX9_like 2 = .ok (.getfield 16, 3) := dk_180 0 16 (dk_at dksX9_like_0 2 rfl rfl)
theorem dX9_like_5 : decode cX9_like 5 = .ok (.putfield 16, 3) := dk_181 0 16 (dk_at dksX9_like_0 5 rfl rfl)
theorem dX9_like_8 : decode cX9_like 8 = .ok (.aload_n 0, 1) := dk_42 (dk_at dksX9_like_0 8 rfl rfl)
theorem dX9_like_9 : decode cX9_like 9 = .ok (.areturn, 1) := dk_176 (dk_at dksX9_like_0 9 rfl rfl)
theorem q149 : (Jvm.Cond.initialized "TandemKeepsAPlace$Rider") ∈ lw_all := lw_g (lw_at lw_m1 19 rfl) rfl
theorem q184 : (Jvm.Cond.instanceMethod ({ cls := "TandemKeepsAPlace$Rider", name := "<init>", desc := "(II)V" } : Jvm.MethodName)) ∈ lw_all := lw_g (lw_at lw_m1 54 rfl) rfl
theorem q185 : (Jvm.Cond.code ({ cls := "TandemKeepsAPlace$Rider", name := "<init>", desc := "(II)V" } : Jvm.MethodName) prog_9_method_1_code (3 : Nat) (Option.none : Option Jvm.ClassFile.FieldType)) ∈ lw_all := lw_g (lw_at lw_m1 55 rfl) rfl
theorem q186 : (Jvm.Cond.methodLink "TandemKeepsAPlace$Rider" (1 : Nat) ({ cls := "java/lang/Object", name := "<init>", desc := "()V" } : Jvm.MethodName)) ∈ lw_all := lw_g (lw_at lw_m1 56 rfl) rfl
theorem q189 : (Jvm.Cond.fieldLink "TandemKeepsAPlace$Rider" (7 : Nat) "TandemKeepsAPlace$Rider" "number" "I") ∈ lw_all := lw_g (lw_at lw_m1 59 rfl) rfl
theorem q198 : (Jvm.Cond.fieldLink "TandemKeepsAPlace$Rider" (13 : Nat) "TandemKeepsAPlace$Rider" "goal" "I") ∈ lw_all := lw_g (lw_at lw_m1 68 rfl) rfl
theorem q201 : (Jvm.Cond.fieldLink "TandemKeepsAPlace$Rider" (16 : Nat) "TandemKeepsAPlace$Rider" "ridden" "I") ∈ lw_all := lw_g (lw_at lw_m1 71 rfl) rfl
theorem q204 : (Jvm.Cond.soleField "TandemKeepsAPlace$Rider" "number") ∈ lw_all := lw_g (lw_at lw_m1 74 rfl) rfl
theorem q206 : (Jvm.Cond.soleField "TandemKeepsAPlace$Rider" "goal") ∈ lw_all := lw_g (lw_at lw_m1 76 rfl) rfl
theorem q208 : (Jvm.Cond.soleField "TandemKeepsAPlace$Rider" "ridden") ∈ lw_all := lw_g (lw_at lw_m1 78 rfl) rfl
theorem q251 : (Jvm.Cond.instantiable "TandemKeepsAPlace$Rider" (3 : Nat)) ∈ lw_all := lw_g (lw_at lw_m1 121 rfl) rfl
theorem q253 : (Jvm.Cond.lays "TandemKeepsAPlace$Rider" "TandemKeepsAPlace$Rider" "number" "I") ∈ lw_all := lw_g (lw_at lw_m1 123 rfl) rfl
theorem q254 : (Jvm.Cond.lays "TandemKeepsAPlace$Rider" "TandemKeepsAPlace$Rider" "goal" "I") ∈ lw_all := lw_g (lw_at lw_m1 124 rfl) rfl
theorem q255 : (Jvm.Cond.lays "TandemKeepsAPlace$Rider" "TandemKeepsAPlace$Rider" "ridden" "I") ∈ lw_all := lw_g (lw_at lw_m1 125 rfl) rfl
theorem q256 : (Jvm.Cond.superclass "TandemKeepsAPlace$Rider" "java/lang/Object") ∈ lw_all := lw_g (lw_at lw_m1 126 rfl) rfl
theorem q300 : (Jvm.Cond.instanceMethod ({ cls := "TandemKeepsAPlace$Rider", name := "kind", desc := "()I" } : Jvm.MethodName)) ∈ lw_all := lw_g (lw_at lw_m1 170 rfl) rfl
theorem q301 : (Jvm.Cond.selects "TandemKeepsAPlace$Rider" ({ cls := "TandemKeepsAPlace$Rider", name := "kind", desc := "()I" } : Jvm.MethodName) ({ cls := "TandemKeepsAPlace$Rider", name := "kind", desc := "()I" } : Jvm.MethodName)) ∈ lw_all := lw_g (lw_at lw_m1 171 rfl) rfl
theorem q302 : (Jvm.Cond.sameMethod "TandemKeepsAPlace$Rider" "TandemKeepsAPlace$Rider" "kind" "()I") ∈ lw_all := lw_g (lw_at lw_m1 172 rfl) rfl
theorem q323 : (Jvm.Cond.code ({ cls := "TandemKeepsAPlace$Rider", name := "kind", desc := "()I" } : Jvm.MethodName) prog_9_method_2_code (1 : Nat) (Option.some Jvm.ClassFile.FieldType.int)) ∈ lw_all := lw_g (lw_at lw_m1 193 rfl) rfl
theorem q364 : (Jvm.Cond.instanceMethod ({ cls := "TandemKeepsAPlace$Rider", name := "pull", desc := "(IZI)I" } : Jvm.MethodName)) ∈ lw_all := lw_g (lw_at lw_m1 234 rfl) rfl
theorem q365 : (Jvm.Cond.selects "TandemKeepsAPlace$Rider" ({ cls := "TandemKeepsAPlace$Rider", name := "pull", desc := "(IZI)I" } : Jvm.MethodName) ({ cls := "TandemKeepsAPlace$Rider", name := "pull", desc := "(IZI)I" } : Jvm.MethodName)) ∈ lw_all := lw_g (lw_at lw_m1 235 rfl) rfl
theorem q366 : (Jvm.Cond.sameMethod "TandemKeepsAPlace$Rider" "TandemKeepsAPlace$Rider" "pull" "(IZI)I") ∈ lw_all := lw_g (lw_at lw_m1 236 rfl) rfl
theorem q386 : (Jvm.Cond.code ({ cls := "TandemKeepsAPlace$Rider", name := "pull", desc := "(IZI)I" } : Jvm.MethodName) prog_9_method_3_code (4 : Nat) (Option.some Jvm.ClassFile.FieldType.int)) ∈ lw_all := lw_g (lw_at lw_m2 16 rfl) rfl
theorem q392 : (Jvm.Cond.instanceMethod ({ cls := "TandemKeepsAPlace$Rider", name := "mood", desc := "(I)I" } : Jvm.MethodName)) ∈ lw_all := lw_g (lw_at lw_m2 22 rfl) rfl
theorem q393 : (Jvm.Cond.selects "TandemKeepsAPlace$Rider" ({ cls := "TandemKeepsAPlace$Rider", name := "mood", desc := "(I)I" } : Jvm.MethodName) ({ cls := "TandemKeepsAPlace$Rider", name := "mood", desc := "(I)I" } : Jvm.MethodName)) ∈ lw_all := lw_g (lw_at lw_m2 23 rfl) rfl
theorem q394 : (Jvm.Cond.sameMethod "TandemKeepsAPlace$Rider" "TandemKeepsAPlace$Rider" "mood" "(I)I") ∈ lw_all := lw_g (lw_at lw_m2 24 rfl) rfl
theorem q404 : (Jvm.Cond.declares ({ cls := "TandemKeepsAPlace$Rider", name := "mood", desc := "(I)I" } : Jvm.MethodName)) ∈ lw_tbl := lw_at lw_m2 34 rfl
theorem q415 : (Jvm.Cond.code ({ cls := "TandemKeepsAPlace$Rider", name := "mood", desc := "(I)I" } : Jvm.MethodName) prog_9_method_4_code (2 : Nat) (Option.some Jvm.ClassFile.FieldType.int)) ∈ lw_all := lw_g (lw_at lw_m2 45 rfl) rfl
theorem q935 : (Jvm.Cond.instanceMethod ({ cls := "TandemKeepsAPlace$Rider", name := "hasEnough", desc := "(ZI)Z" } : Jvm.MethodName)) ∈ lw_all := lw_g (lw_at lw_m4 85 rfl) rfl
theorem q936 : (Jvm.Cond.selects "TandemKeepsAPlace$Rider" ({ cls := "TandemKeepsAPlace$Rider", name := "hasEnough", desc := "(ZI)Z" } : Jvm.MethodName) ({ cls := "TandemKeepsAPlace$Rider", name := "hasEnough", desc := "(ZI)Z" } : Jvm.MethodName)) ∈ lw_all := lw_g (lw_at lw_m4 86 rfl) rfl
theorem q937 : (Jvm.Cond.sameMethod "TandemKeepsAPlace$Rider" "TandemKeepsAPlace$Rider" "hasEnough" "(ZI)Z") ∈ lw_all := lw_g (lw_at lw_m4 87 rfl) rfl
theorem q953 : (Jvm.Cond.code ({ cls := "TandemKeepsAPlace$Rider", name := "hasEnough", desc := "(ZI)Z" } : Jvm.MethodName) prog_9_method_5_code (3 : Nat) (Option.some Jvm.ClassFile.FieldType.boolean)) ∈ lw_all := lw_g (lw_at lw_m4 103 rfl) rfl
theorem q1093 : (Jvm.Cond.instanceMethod ({ cls := "TandemKeepsAPlace$Rider", name := "like", desc := "(LTandemKeepsAPlace$Rider;)LTandemKeepsAPlace$Rider;" } : Jvm.MethodName)) ∈ lw_all := lw_g (lw_at lw_m5 3 rfl) rfl
theorem q1094 : (Jvm.Cond.selects "TandemKeepsAPlace$Rider" ({ cls := "TandemKeepsAPlace$Rider", name := "like", desc := "(LTandemKeepsAPlace$Rider;)LTandemKeepsAPlace$Rider;" } : Jvm.MethodName) ({ cls := "TandemKeepsAPlace$Rider", name := "like", desc := "(LTandemKeepsAPlace$Rider;)LTandemKeepsAPlace$Rider;" } : Jvm.MethodName)) ∈ lw_all := lw_g (lw_at lw_m5 4 rfl) rfl
theorem q1095 : (Jvm.Cond.sameMethod "TandemKeepsAPlace$Rider" "TandemKeepsAPlace$Rider" "like" "(LTandemKeepsAPlace$Rider;)LTandemKeepsAPlace$Rider;") ∈ lw_all := lw_g (lw_at lw_m5 5 rfl) rfl
theorem q1101 : (Jvm.Cond.code ({ cls := "TandemKeepsAPlace$Rider", name := "like", desc := "(LTandemKeepsAPlace$Rider;)LTandemKeepsAPlace$Rider;" } : Jvm.MethodName) prog_9_method_6_code (2 : Nat) (Option.some (Jvm.ClassFile.FieldType.object "TandemKeepsAPlace$Rider"))) ∈ lw_all := lw_g (lw_at lw_m5 11 rfl) rfl
theorem in_X9 : ∀ w ∈ wsX90, w ∈ lw_all := lw_in wsX90 [253, 254, 255] (by decide +kernel) (by decide +kernel)

theorem q130 : (Jvm.Cond.initialized "TandemKeepsAPlaceLaw") ∈ lw_all := lw_g (lw_at lw_m1 0 rfl) rfl
set_option maxRecDepth 100000
theorem q162 : (Jvm.Cond.methodLink "TandemKeepsAPlaceLaw" (22 : Nat) ({ cls := "TandemKeepsAPlace", name := "person", desc := "(III)I" } : Jvm.MethodName)) ∈ lw_all := lw_g (lw_at lw_m1 32 rfl) rfl
theorem q257 : (Jvm.Cond.methodLink "TandemKeepsAPlaceLaw" (18 : Nat) ({ cls := "TandemKeepsAPlace", name := "road", desc := "(III)I" } : Jvm.MethodName)) ∈ lw_all := lw_g (lw_at lw_m1 127 rfl) rfl
theorem q274 : (Jvm.Cond.methodLink "TandemKeepsAPlaceLaw" (59 : Nat) ({ cls := "TandemKeepsAPlace", name := "far", desc := "(II)I" } : Jvm.MethodName)) ∈ lw_all := lw_g (lw_at lw_m1 144 rfl) rfl
theorem q278 : (Jvm.Cond.methodLink "TandemKeepsAPlaceLaw" (13 : Nat) ({ cls := "TandemKeepsAPlace", name := "set", desc := "(III)I" } : Jvm.MethodName)) ∈ lw_all := lw_g (lw_at lw_m1 148 rfl) rfl
theorem q420 : (Jvm.Cond.methodLink "TandemKeepsAPlaceLaw" (26 : Nat) ({ cls := "TandemKeepsAPlace", name := "told", desc := "(II)I" } : Jvm.MethodName)) ∈ lw_all := lw_g (lw_at lw_m2 50 rfl) rfl
theorem q421 : (Jvm.Cond.methodLink "TandemKeepsAPlaceLaw" (36 : Nat) ({ cls := "TandemKeepsAPlace", name := "feed", desc := "(I)I" } : Jvm.MethodName)) ∈ lw_all := lw_g (lw_at lw_m2 51 rfl) rfl
theorem q426 : (Jvm.Cond.methodLink "TandemKeepsAPlaceLaw" (41 : Nat) ({ cls := "TandemKeepsAPlace", name := "text", desc := "()I" } : Jvm.MethodName)) ∈ lw_all := lw_g (lw_at lw_m2 56 rfl) rfl
theorem q667 : (Jvm.Cond.classLink "TandemKeepsAPlaceLaw" (7 : Nat) "TandemKeepsAPlace") ∈ lw_all := lw_g (lw_at lw_m3 57 rfl) rfl
theorem q668 : (Jvm.Cond.methodLink "TandemKeepsAPlaceLaw" (9 : Nat) ({ cls := "TandemKeepsAPlace", name := "<init>", desc := "()V" } : Jvm.MethodName)) ∈ lw_all := lw_g (lw_at lw_m3 58 rfl) rfl
theorem q909 : (Jvm.Cond.methodLink "TandemKeepsAPlaceLaw" (46 : Nat) ({ cls := "TandemKeepsAPlace", name := "force", desc := "(I)I" } : Jvm.MethodName)) ∈ lw_all := lw_g (lw_at lw_m4 59 rfl) rfl
theorem q917 : (Jvm.Cond.methodLink "TandemKeepsAPlaceLaw" (31 : Nat) ({ cls := "TandemKeepsAPlace", name := "asks", desc := "(IIIII)I" } : Jvm.MethodName)) ∈ lw_all := lw_g (lw_at lw_m4 67 rfl) rfl
theorem q954 : (Jvm.Cond.methodLink "TandemKeepsAPlaceLaw" (50 : Nat) ({ cls := "TandemKeepsAPlace", name := "ride", desc := "(IIII)I" } : Jvm.MethodName)) ∈ lw_all := lw_g (lw_at lw_m4 104 rfl) rfl
theorem q982 : (Jvm.Cond.methodLink "TandemKeepsAPlaceLaw" (55 : Nat) ({ cls := "TandemKeepsAPlace", name := "goes", desc := "(III)I" } : Jvm.MethodName)) ∈ lw_all := lw_g (lw_at lw_m4 132 rfl) rfl
theorem q987 : (Jvm.Cond.methodLink "TandemKeepsAPlaceLaw" (63 : Nat) ({ cls := "TandemKeepsAPlace", name := "best", desc := "(III)I" } : Jvm.MethodName)) ∈ lw_all := lw_g (lw_at lw_m4 137 rfl) rfl
theorem q995 : (Jvm.Cond.methodLink "TandemKeepsAPlaceLaw" (67 : Nat) ({ cls := "TandemKeepsAPlace", name := "from", desc := "(II)I" } : Jvm.MethodName)) ∈ lw_all := lw_g (lw_at lw_m4 145 rfl) rfl
theorem q999 : (Jvm.Cond.methodLink "TandemKeepsAPlaceLaw" (71 : Nat) ({ cls := "TandemKeepsAPlace", name := "together", desc := "(II)I" } : Jvm.MethodName)) ∈ lw_all := lw_g (lw_at lw_m4 149 rfl) rfl
theorem q1018 : (Jvm.Cond.methodLink "TandemKeepsAPlaceLaw" (75 : Nat) ({ cls := "TandemKeepsAPlace", name := "shut", desc := "(IIII)I" } : Jvm.MethodName)) ∈ lw_all := lw_g (lw_at lw_m4 168 rfl) rfl
theorem q1026 : (Jvm.Cond.methodLink "TandemKeepsAPlaceLaw" (79 : Nat) ({ cls := "TandemKeepsAPlace", name := "tells", desc := "(IIII)I" } : Jvm.MethodName)) ∈ lw_all := lw_g (lw_at lw_m4 176 rfl) rfl
theorem q1114 : (Jvm.Cond.methodLink "TandemKeepsAPlaceLaw" (83 : Nat) ({ cls := "TandemKeepsAPlace", name := "film", desc := "(IIII)I" } : Jvm.MethodName)) ∈ lw_all := lw_g (lw_at lw_m5 24 rfl) rfl
theorem q1200 : (Jvm.Cond.methodLink "TandemKeepsAPlaceLaw" (87 : Nat) ({ cls := "TandemKeepsAPlace", name := "drawn", desc := "(III)I" } : Jvm.MethodName)) ∈ lw_all := lw_g (lw_at lw_m5 110 rfl) rfl
theorem q1213 : (Jvm.Cond.methodLink "TandemKeepsAPlaceLaw" (91 : Nat) ({ cls := "TandemKeepsAPlace", name := "chance", desc := "(IIII)J" } : Jvm.MethodName)) ∈ lw_all := lw_g (lw_at lw_m5 123 rfl) rfl
theorem q1222 : (Jvm.Cond.methodLink "TandemKeepsAPlaceLaw" (96 : Nat) ({ cls := "TandemKeepsAPlace", name := "image", desc := "()I" } : Jvm.MethodName)) ∈ lw_all := lw_g (lw_at lw_m5 132 rfl) rfl
theorem q1229 : (Jvm.Cond.methodLink "TandemKeepsAPlaceLaw" (100 : Nat) ({ cls := "TandemKeepsAPlace", name := "back", desc := "()I" } : Jvm.MethodName)) ∈ lw_all := lw_g (lw_at lw_m5 139 rfl) rfl
theorem q1233 : (Jvm.Cond.methodLink "TandemKeepsAPlaceLaw" (104 : Nat) ({ cls := "TandemKeepsAPlace", name := "count", desc := "(I)I" } : Jvm.MethodName)) ∈ lw_all := lw_g (lw_at lw_m5 143 rfl) rfl
theorem q1245 : (Jvm.Cond.methodLink "TandemKeepsAPlaceLaw" (108 : Nat) ({ cls := "TandemKeepsAPlace", name := "sheet", desc := "(III)I" } : Jvm.MethodName)) ∈ lw_all := lw_g (lw_at lw_m5 155 rfl) rfl
theorem q1246 : (Jvm.Cond.methodLink "TandemKeepsAPlaceLaw" (112 : Nat) ({ cls := "TandemKeepsAPlace", name := "cell", desc := "(III)I" } : Jvm.MethodName)) ∈ lw_all := lw_g (lw_at lw_m5 156 rfl) rfl
theorem q1247 : (Jvm.Cond.methodLink "TandemKeepsAPlaceLaw" (116 : Nat) ({ cls := "TandemKeepsAPlace", name := "copy", desc := "(IIIII)I" } : Jvm.MethodName)) ∈ lw_all := lw_g (lw_at lw_m5 157 rfl) rfl
theorem q1251 : (Jvm.Cond.methodLink "TandemKeepsAPlaceLaw" (120 : Nat) ({ cls := "TandemKeepsAPlace", name := "people", desc := "(IIII)I" } : Jvm.MethodName)) ∈ lw_all := lw_g (lw_at lw_m5 161 rfl) rfl
theorem q1274 : (Jvm.Cond.methodLink "TandemKeepsAPlaceLaw" (124 : Nat) ({ cls := "TandemKeepsAPlace", name := "taken", desc := "(II)I" } : Jvm.MethodName)) ∈ lw_all := lw_g (lw_at lw_m5 184 rfl) rfl
theorem q1281 : (Jvm.Cond.classLink "TandemKeepsAPlaceLaw" (10 : Nat) "TandemKeepsAPlaceModel") ∈ lw_all := lw_g (lw_at lw_m5 191 rfl) rfl
theorem q1283 : (Jvm.Cond.methodLink "TandemKeepsAPlaceLaw" (12 : Nat) ({ cls := "TandemKeepsAPlaceModel", name := "<init>", desc := "()V" } : Jvm.MethodName)) ∈ lw_all := lw_g (lw_at lw_m5 193 rfl) rfl
theorem q1431 : (Jvm.Cond.methodLink "TandemKeepsAPlaceLaw" (17 : Nat) ({ cls := "TandemKeepsAPlaceModel", name := "set", desc := "(III)I" } : Jvm.MethodName)) ∈ lw_all := lw_g (lw_at lw_m6 101 rfl) rfl
theorem q1673 : (Jvm.Cond.methodLink "TandemKeepsAPlaceLaw" (21 : Nat) ({ cls := "TandemKeepsAPlaceModel", name := "road", desc := "(III)I" } : Jvm.MethodName)) ∈ lw_all := lw_g (lw_at lw_m7 103 rfl) rfl
theorem q1686 : (Jvm.Cond.methodLink "TandemKeepsAPlaceLaw" (25 : Nat) ({ cls := "TandemKeepsAPlaceModel", name := "person", desc := "(III)I" } : Jvm.MethodName)) ∈ lw_all := lw_g (lw_at lw_m7 116 rfl) rfl
theorem q1691 : (Jvm.Cond.methodLink "TandemKeepsAPlaceLaw" (30 : Nat) ({ cls := "TandemKeepsAPlaceModel", name := "told", desc := "(II)I" } : Jvm.MethodName)) ∈ lw_all := lw_g (lw_at lw_m7 121 rfl) rfl
theorem q1692 : (Jvm.Cond.methodLink "TandemKeepsAPlaceLaw" (40 : Nat) ({ cls := "TandemKeepsAPlaceModel", name := "feed", desc := "(I)I" } : Jvm.MethodName)) ∈ lw_all := lw_g (lw_at lw_m7 122 rfl) rfl
theorem q1697 : (Jvm.Cond.methodLink "TandemKeepsAPlaceLaw" (45 : Nat) ({ cls := "TandemKeepsAPlaceModel", name := "text", desc := "()I" } : Jvm.MethodName)) ∈ lw_all := lw_g (lw_at lw_m7 127 rfl) rfl
theorem q1701 : (Jvm.Cond.methodLink "TandemKeepsAPlaceLaw" (49 : Nat) ({ cls := "TandemKeepsAPlaceModel", name := "force", desc := "(I)I" } : Jvm.MethodName)) ∈ lw_all := lw_g (lw_at lw_m7 131 rfl) rfl
theorem q1705 : (Jvm.Cond.methodLink "TandemKeepsAPlaceLaw" (35 : Nat) ({ cls := "TandemKeepsAPlaceModel", name := "asks", desc := "(IIIII)I" } : Jvm.MethodName)) ∈ lw_all := lw_g (lw_at lw_m7 135 rfl) rfl
theorem q1722 : (Jvm.Cond.methodLink "TandemKeepsAPlaceLaw" (54 : Nat) ({ cls := "TandemKeepsAPlaceModel", name := "ride", desc := "(IIII)I" } : Jvm.MethodName)) ∈ lw_all := lw_g (lw_at lw_m7 152 rfl) rfl
theorem q1746 : (Jvm.Cond.methodLink "TandemKeepsAPlaceLaw" (58 : Nat) ({ cls := "TandemKeepsAPlaceModel", name := "goes", desc := "(III)I" } : Jvm.MethodName)) ∈ lw_all := lw_g (lw_at lw_m7 176 rfl) rfl
theorem q1755 : (Jvm.Cond.methodLink "TandemKeepsAPlaceLaw" (62 : Nat) ({ cls := "TandemKeepsAPlaceModel", name := "far", desc := "(II)I" } : Jvm.MethodName)) ∈ lw_all := lw_g (lw_at lw_m7 185 rfl) rfl
theorem q1759 : (Jvm.Cond.methodLink "TandemKeepsAPlaceLaw" (66 : Nat) ({ cls := "TandemKeepsAPlaceModel", name := "best", desc := "(III)I" } : Jvm.MethodName)) ∈ lw_all := lw_g (lw_at lw_m7 189 rfl) rfl
theorem q1767 : (Jvm.Cond.methodLink "TandemKeepsAPlaceLaw" (70 : Nat) ({ cls := "TandemKeepsAPlaceModel", name := "from", desc := "(II)I" } : Jvm.MethodName)) ∈ lw_all := lw_g (lw_at lw_m7 197 rfl) rfl
theorem q1771 : (Jvm.Cond.methodLink "TandemKeepsAPlaceLaw" (74 : Nat) ({ cls := "TandemKeepsAPlaceModel", name := "together", desc := "(II)I" } : Jvm.MethodName)) ∈ lw_all := lw_g (lw_at lw_m7 201 rfl) rfl
theorem q1787 : (Jvm.Cond.methodLink "TandemKeepsAPlaceLaw" (78 : Nat) ({ cls := "TandemKeepsAPlaceModel", name := "shut", desc := "(IIII)I" } : Jvm.MethodName)) ∈ lw_all := lw_g (lw_at lw_m7 217 rfl) rfl
theorem q1791 : (Jvm.Cond.methodLink "TandemKeepsAPlaceLaw" (82 : Nat) ({ cls := "TandemKeepsAPlaceModel", name := "tells", desc := "(IIII)I" } : Jvm.MethodName)) ∈ lw_all := lw_g (lw_at lw_m7 221 rfl) rfl
theorem q1813 : (Jvm.Cond.methodLink "TandemKeepsAPlaceLaw" (86 : Nat) ({ cls := "TandemKeepsAPlaceModel", name := "film", desc := "(IIII)I" } : Jvm.MethodName)) ∈ lw_all := lw_g (lw_at lw_m8 3 rfl) rfl
theorem q1823 : (Jvm.Cond.methodLink "TandemKeepsAPlaceLaw" (90 : Nat) ({ cls := "TandemKeepsAPlaceModel", name := "drawn", desc := "(III)I" } : Jvm.MethodName)) ∈ lw_all := lw_g (lw_at lw_m8 13 rfl) rfl
theorem q1836 : (Jvm.Cond.methodLink "TandemKeepsAPlaceLaw" (95 : Nat) ({ cls := "TandemKeepsAPlaceModel", name := "chance", desc := "(IIII)J" } : Jvm.MethodName)) ∈ lw_all := lw_g (lw_at lw_m8 26 rfl) rfl
theorem q1841 : (Jvm.Cond.methodLink "TandemKeepsAPlaceLaw" (99 : Nat) ({ cls := "TandemKeepsAPlaceModel", name := "image", desc := "()I" } : Jvm.MethodName)) ∈ lw_all := lw_g (lw_at lw_m8 31 rfl) rfl
theorem q1845 : (Jvm.Cond.methodLink "TandemKeepsAPlaceLaw" (103 : Nat) ({ cls := "TandemKeepsAPlaceModel", name := "back", desc := "()I" } : Jvm.MethodName)) ∈ lw_all := lw_g (lw_at lw_m8 35 rfl) rfl
theorem q1849 : (Jvm.Cond.methodLink "TandemKeepsAPlaceLaw" (107 : Nat) ({ cls := "TandemKeepsAPlaceModel", name := "count", desc := "(I)I" } : Jvm.MethodName)) ∈ lw_all := lw_g (lw_at lw_m8 39 rfl) rfl
theorem q1853 : (Jvm.Cond.methodLink "TandemKeepsAPlaceLaw" (111 : Nat) ({ cls := "TandemKeepsAPlaceModel", name := "sheet", desc := "(III)I" } : Jvm.MethodName)) ∈ lw_all := lw_g (lw_at lw_m8 43 rfl) rfl
theorem q1854 : (Jvm.Cond.methodLink "TandemKeepsAPlaceLaw" (115 : Nat) ({ cls := "TandemKeepsAPlaceModel", name := "cell", desc := "(III)I" } : Jvm.MethodName)) ∈ lw_all := lw_g (lw_at lw_m8 44 rfl) rfl
theorem q1858 : (Jvm.Cond.methodLink "TandemKeepsAPlaceLaw" (119 : Nat) ({ cls := "TandemKeepsAPlaceModel", name := "copy", desc := "(IIIII)I" } : Jvm.MethodName)) ∈ lw_all := lw_g (lw_at lw_m8 48 rfl) rfl
theorem q1862 : (Jvm.Cond.methodLink "TandemKeepsAPlaceLaw" (123 : Nat) ({ cls := "TandemKeepsAPlaceModel", name := "people", desc := "(IIII)I" } : Jvm.MethodName)) ∈ lw_all := lw_g (lw_at lw_m8 52 rfl) rfl
theorem q1867 : (Jvm.Cond.methodLink "TandemKeepsAPlaceLaw" (127 : Nat) ({ cls := "TandemKeepsAPlaceModel", name := "taken", desc := "(II)I" } : Jvm.MethodName)) ∈ lw_all := lw_g (lw_at lw_m8 57 rfl) rfl

theorem q160 : (Jvm.Cond.initialized "java/lang/System") ∈ lw_all := lw_g (lw_at lw_m1 30 rfl) rfl
set_option maxRecDepth 100000
theorem q1227 : (Jvm.Cond.static ({ cls := "java/lang/System", name := "arraycopy", desc := "(Ljava/lang/Object;ILjava/lang/Object;II)V" } : Jvm.MethodName)) ∈ lw_all := lw_g (lw_at lw_m5 137 rfl) rfl
theorem q1228 : (Jvm.Cond.native ({ cls := "java/lang/System", name := "arraycopy", desc := "(Ljava/lang/Object;ILjava/lang/Object;II)V" } : Jvm.MethodName)) ∈ lw_all := lw_g (lw_at lw_m5 138 rfl) rfl

theorem q436 : (Jvm.Cond.arrayOver (Jvm.ClassFile.FieldType.object "TandemKeepsAPlace$Node")) ∈ lw_tbl := lw_at lw_m2 66 rfl
set_option maxRecDepth 100000
theorem q611 : (Jvm.Cond.arrayClass Jvm.ClassFile.FieldType.byte) ∈ lw_all := lw_g (lw_at lw_m3 1 rfl) rfl
theorem q672 : (Jvm.Cond.arrayOver (Jvm.ClassFile.FieldType.object "TandemKeepsAPlace$Rider")) ∈ lw_tbl := lw_at lw_m3 62 rfl
theorem q674 : (Jvm.Cond.arrayOver (Jvm.ClassFile.FieldType.array Jvm.ClassFile.FieldType.int)) ∈ lw_tbl := lw_at lw_m3 64 rfl
theorem q756 : (Jvm.Cond.arrayClass Jvm.ClassFile.FieldType.int) ∈ lw_all := lw_g (lw_at lw_m3 146 rfl) rfl
theorem q758 : (Jvm.Cond.arrayOver (Jvm.ClassFile.FieldType.array (Jvm.ClassFile.FieldType.object "TandemKeepsAPlace$Node"))) ∈ lw_tbl := lw_at lw_m3 148 rfl
theorem q760 : (Jvm.Cond.arrayOver (Jvm.ClassFile.FieldType.object "java/lang/String")) ∈ lw_tbl := lw_at lw_m3 150 rfl
theorem q774 : (Jvm.Cond.arrayOver (Jvm.ClassFile.FieldType.object "TandemKeepsAPlace$Sheet")) ∈ lw_tbl := lw_at lw_m3 164 rfl
theorem q1199 : (Jvm.Cond.arrayClass Jvm.ClassFile.FieldType.short) ∈ lw_all := lw_g (lw_at lw_m5 109 rfl) rfl
theorem q1430 : (Jvm.Cond.arrayClass Jvm.ClassFile.FieldType.boolean) ∈ lw_all := lw_g (lw_at lw_m6 100 rfl) rfl
