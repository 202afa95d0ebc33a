/-! THE CLASSES BY NUMBER, and the words that do not ride in lw_all -/
set_option maxRecDepth 100000
def clL : List vw_C := [(RX0, TX0, 37), (RX8, TX8, 45), (RX9, TX9, 3), (RX10, TX10, 3), (RX11, TX11, 3), (RX12, TX12, 3), (RX13, TX13, 3), (RX14, TX14, 3), (RX5, TX5, 1), (RX6, TX6, 2), (RX4, TX4, 2), (RX7, TX7, 3), (RX2, TX2, 1), (RX1, TX1, 6), (RJ3, TJ3, 2), (RJ10, TJ10, 6), (RJ11, TJ11, 0), (RJ12, TJ12, 0), (RJ14, TJ14, 0)]
/-- a class's fields' types -/
def fty (ci : Nat) : Nat → FieldType := match ci with
  | 0 => tyX0
  | 1 => tyX8
  | 2 => tyX9
  | 3 => tyX10
  | 4 => tyX11
  | 5 => tyX12
  | 6 => tyX13
  | 7 => tyX14
  | 8 => tyX5
  | 9 => tyX6
  | 10 => tyX4
  | 11 => tyX7
  | 12 => tyX2
  | 13 => tyX1
  | 14 => tyJ3
  | 15 => tyJ10
  | 16 => tyJ11
  | 17 => tyJ12
  | _ => tyJ14
def fkT (t : FieldType) : Nat := match t with
  | .int => 0
  | .boolean => 0
  | .byte => 0
  | .long => 1
  | _ => 2
def fkd (ci k : Nat) : Nat := fkT (fty ci k)
def cl_F (ci : Nat) (q : vw_C) : Prop := (∀ w ∈ u_ws q.1 q.2.1 q.2.2, w ∈ lw_all) ∧ (∀ k, k < q.2.2 → parseFieldDescriptor (q.2.1 k).2.2.1 = some (fty ci k)) ∧ (∀ a, a < q.2.2 → ∀ b, b < q.2.2 → a ≠ b → (q.2.1 a).2.1 ≠ (q.2.1 b).2.1)
theorem cl_z (C : String) (T : u_T) : ∀ w ∈ u_ws C T 0, w ∈ lw_all := fun w h => by simp [u_ws] at h
theorem cl_ok {ci : Nat} {q : vw_C} (h : clL[ci]? = some q) : cl_F ci q := by
  match ci, h with
  | 0, h => cases h; exact ⟨in_X0, tyX0_ok, nmX0⟩
  | 1, h => cases h; exact ⟨in_X8, tyX8_ok, nmX8⟩
  | 2, h => cases h; exact ⟨in_X9, tyX9_ok, nmX9⟩
  | 3, h => cases h; exact ⟨in_X10, tyX10_ok, nmX10⟩
  | 4, h => cases h; exact ⟨in_X11, tyX11_ok, nmX11⟩
  | 5, h => cases h; exact ⟨in_X12, tyX12_ok, nmX12⟩
  | 6, h => cases h; exact ⟨in_X13, tyX13_ok, nmX13⟩
  | 7, h => cases h; exact ⟨in_X14, tyX14_ok, nmX14⟩
  | 8, h => cases h; exact ⟨in_X5, tyX5_ok, nmX5⟩
  | 9, h => cases h; exact ⟨in_X6, tyX6_ok, nmX6⟩
  | 10, h => cases h; exact ⟨in_X4, tyX4_ok, nmX4⟩
  | 11, h => cases h; exact ⟨in_X7, tyX7_ok, nmX7⟩
  | 12, h => cases h; exact ⟨in_X2, tyX2_ok, nmX2⟩
  | 13, h => cases h; exact ⟨in_X1, tyX1_ok, nmX1⟩
  | 14, h => cases h; exact ⟨in_J3, tyJ3_ok, nmJ3⟩
  | 15, h => cases h; exact ⟨in_J10, tyJ10_ok, nmJ10⟩
  | 16, h => cases h; exact ⟨cl_z _ _, fun k hk => absurd hk (Nat.not_lt_zero k), fun k hk => absurd hk (Nat.not_lt_zero k)⟩
  | 17, h => cases h; exact ⟨cl_z _ _, fun k hk => absurd hk (Nat.not_lt_zero k), fun k hk => absurd hk (Nat.not_lt_zero k)⟩
  | 18, h => cases h; exact ⟨cl_z _ _, fun k hk => absurd hk (Nat.not_lt_zero k), fun k hk => absurd hk (Nat.not_lt_zero k)⟩
  | ci + 19, h => simp [clL] at h
/-- words of the tables that hold all through a run, each by a law of its own kind -/
def nwF : List (String × Nat × String × String × String) := [("TandemKeepsAPlace", 479, "TandemKeepsAPlace$Sheet", "row", "Ljava/lang/Object;"), ("TandemKeepsAPlace$Name", 26, "TandemKeepsAPlace", "folk", "[LTandemKeepsAPlace$Rider;"), ("TandemKeepsAPlace$Name", 44, "TandemKeepsAPlace", "hour", "I"), ("TandemKeepsAPlace$Name", 17, "TandemKeepsAPlace", "far", "[[I"), ("TandemKeepsAPlace$Name", 30, "TandemKeepsAPlace", "forOne", "I"), ("TandemKeepsAPlace$Name", 50, "TandemKeepsAPlace", "forOther", "I"), ("TandemKeepsAPlace$Name", 23, "TandemKeepsAPlace", "forPlace", "I"), ("TandemKeepsAPlace$Name", 41, "TandemKeepsAPlace", "forSteps", "I"), ("TandemKeepsAPlace$Name", 47, "TandemKeepsAPlace", "forBehind", "I")]
def nwM : List (String × Nat × MethodName) := [("TandemKeepsAPlace$Turned", 1, ⟨"TandemKeepsAPlace$Node", "<init>", "()V"⟩), ("TandemKeepsAPlace$Number", 1, ⟨"TandemKeepsAPlace$Node", "<init>", "()V"⟩), ("TandemKeepsAPlace$Name", 7, ⟨"TandemKeepsAPlace$Node", "<init>", "()V"⟩), ("TandemKeepsAPlace$Two", 1, ⟨"TandemKeepsAPlace$Node", "<init>", "()V"⟩), ("TandemKeepsAPlace", 314, ⟨"TandemKeepsAPlace$Sheet", "<init>", "()V"⟩)]
def nwC : List (String × String) := [("java/lang/IndexOutOfBoundsException", "java/lang/IndexOutOfBoundsException"), ("java/lang/NegativeArraySizeException", "java/lang/NegativeArraySizeException"), ("java/lang/NullPointerException", "java/lang/NullPointerException"), ("java/lang/ClassCastException", "java/lang/ClassCastException"), ("TandemKeepsAPlace$Faulty", "TandemKeepsAPlace$Faulty"), ("TandemKeepsAPlace$Mistress", "TandemKeepsAPlace$Clerk"), ("TandemKeepsAPlace$Dead", "TandemKeepsAPlace$Strong"), ("TandemKeepsAPlace$Turned", "TandemKeepsAPlace$Node"), ("TandemKeepsAPlace$Number", "TandemKeepsAPlace$Node"), ("TandemKeepsAPlace$Name", "TandemKeepsAPlace$Node"), ("TandemKeepsAPlace$Two", "TandemKeepsAPlace$Node"), ("TandemKeepsAPlace$Clerk", "TandemKeepsAPlace$Rider"), ("TandemKeepsAPlace$Strong", "TandemKeepsAPlace$Rider"), ("TandemKeepsAPlace$Mistress", "TandemKeepsAPlace$Rider"), ("TandemKeepsAPlace$Dead", "TandemKeepsAPlace$Rider"), ("TandemKeepsAPlace$Timid", "TandemKeepsAPlace$Rider")]
def nwD : List MethodName := [⟨"TandemKeepsAPlace$Node", "worth", "()I"⟩, ⟨"TandemKeepsAPlace$Rider", "mood", "(I)I"⟩, ⟨"java/lang/Throwable", "fillInStackTrace", "()Ljava/lang/Throwable;"⟩]
/-- pairs of classes, the first not of the second -/
def nwN : List (String × String) := [("[B", "[S"), ("[B", "[I"), ("[S", "[B"), ("[S", "[I"), ("[I", "[B"), ("[I", "[S"),
  ("TandemKeepsAPlace$Rider", "TandemKeepsAPlace$Clerk"), ("TandemKeepsAPlace$Rider", "TandemKeepsAPlace$Strong"), ("TandemKeepsAPlace$Rider", "TandemKeepsAPlace$Mistress"), ("TandemKeepsAPlace$Rider", "TandemKeepsAPlace$Dead"), ("TandemKeepsAPlace$Rider", "TandemKeepsAPlace$Timid"),
  ("TandemKeepsAPlace$Clerk", "TandemKeepsAPlace$Strong"), ("TandemKeepsAPlace$Clerk", "TandemKeepsAPlace$Mistress"), ("TandemKeepsAPlace$Clerk", "TandemKeepsAPlace$Dead"), ("TandemKeepsAPlace$Clerk", "TandemKeepsAPlace$Timid"),
  ("TandemKeepsAPlace$Strong", "TandemKeepsAPlace$Clerk"), ("TandemKeepsAPlace$Strong", "TandemKeepsAPlace$Mistress"), ("TandemKeepsAPlace$Strong", "TandemKeepsAPlace$Dead"), ("TandemKeepsAPlace$Strong", "TandemKeepsAPlace$Timid"),
  ("TandemKeepsAPlace$Mistress", "TandemKeepsAPlace$Strong"), ("TandemKeepsAPlace$Mistress", "TandemKeepsAPlace$Dead"), ("TandemKeepsAPlace$Mistress", "TandemKeepsAPlace$Timid"),
  ("TandemKeepsAPlace$Dead", "TandemKeepsAPlace$Clerk"), ("TandemKeepsAPlace$Dead", "TandemKeepsAPlace$Mistress"), ("TandemKeepsAPlace$Dead", "TandemKeepsAPlace$Timid"),
  ("TandemKeepsAPlace$Timid", "TandemKeepsAPlace$Clerk"), ("TandemKeepsAPlace$Timid", "TandemKeepsAPlace$Strong"), ("TandemKeepsAPlace$Timid", "TandemKeepsAPlace$Mistress"), ("TandemKeepsAPlace$Timid", "TandemKeepsAPlace$Dead"),
  ("java/lang/IndexOutOfBoundsException", "java/lang/NullPointerException"), ("java/lang/IndexOutOfBoundsException", "java/lang/ClassCastException"), ("java/lang/NullPointerException", "java/lang/ClassCastException"), ("java/lang/ClassCastException", "java/lang/NullPointerException")]
/-- the String constants: entry, text, number -/
def nwS : List (Nat × String × Nat) := [(275, "pulls", 0), (277, "moods", 1), (279, "enough", 2), (281, "or", 3), (283, "and", 4), (285, "not", 5), (286, "miles", 6), (288, "number", 7), (289, "steps", 8), (291, "hour", 9), (292, "behind", 10), (294, "theirs", 11), (162, "();+-*<=", 12), (319, "pulls 10 + number - steps ; moods number ; enough 12 < steps ;", 13)]
/-- statics of which it is said that they hold a reference or null -/
def nwZ : List (String × String × String × Nat) := [("jdk/internal/util/Preconditions", "SIOOBE_FORMATTER", "Ljava/util/function/BiFunction;", 0), ("java/lang/Throwable", "UNASSIGNED_STACK", "[Ljava/lang/StackTraceElement;", 1), ("java/lang/Throwable", "SUPPRESSED_SENTINEL", "Ljava/util/List;", 2)]
