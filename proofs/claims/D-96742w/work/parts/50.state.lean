/-! THE PURE PICTURE of both objects, and helpers -/
set_option maxRecDepth 100000
abbrev inR (v : Int32) (a b : Int) : Prop := a ≤ v.toInt ∧ v.toInt ≤ b
theorem in_R {v : Int32} {a b : Int64} {A B : Int} (ha : a.toInt = A) (hb : b.toInt = B) : (a ≤ v.toInt64 ∧ v.toInt64 ≤ b) ↔ inR v A B := by
  rw [Int64.le_iff_toInt_le, Int64.le_iff_toInt_le, Int32.toInt_toInt64, ha, hb]
theorem bi_c {p q : Prop} [Decidable p] [Decidable q] (h : p ↔ q) : bi p = bi q := by
  unfold bi
  by_cases hp : p
  · rw [if_pos hp, if_pos (h.mp hp)]
  · rw [if_neg hp, if_neg (fun z => hp (h.mpr z))]
theorem inR_nI {v : Int32} {n : Nat} (h : inR v 0 n) : ∃ j : Nat, j ≤ n ∧ v = nI j := by
  obtain ⟨h1, h2⟩ := h
  have h3 := v.toInt_lt
  refine ⟨v.toInt.toNat, by omega, ?_⟩
  apply Int32.toInt_inj.mp
  rw [nI_toInt (by omega)]
  omega
theorem inR_lt {v : Int32} {n : Nat} (h : inR v 0 ((n : Int) - 1)) : ∃ j : Nat, j < n ∧ v = nI j := by
  obtain ⟨h1, h2⟩ := h
  have h3 := v.toInt_lt
  refine ⟨v.toInt.toNat, by omega, ?_⟩
  apply Int32.toInt_inj.mp
  rw [nI_toInt (by omega)]
  omega
theorem nI_inR {j : Nat} {b : Int} (hj : j < 2 ^ 31) (h : (j : Int) ≤ b) : inR (nI j) 0 b := by
  unfold inR
  rw [nI_toInt hj]
  omega
theorem nI_pred_toInt {m : Nat} (h : m < 2 ^ 31) : (nI m - 1).toInt = (m : Int) - 1 := by
  have := pk_sub_toInt (a := m) (b := 1)
  rcases m with _ | m
  · rfl
  · have e : nI (m + 1) - 1 = nI m := nI_pred m
    rw [e, nI_toInt (by omega)]
    omega
theorem pk_div8 {k : Nat} (h : k < 2 ^ 31) : nI k / 8 = nI (k / 8) := pk_div (d := 8) h (by decide) (by decide)
theorem pk_rem8 {k : Nat} (h : k < 2 ^ 31) : nI k - nI k / 8 * 8 = nI (k % 8) := pk_rem (d := 8) h (by decide) (by decide)
theorem nI_lit8 : (8 : Int32) = nI 8 := rfl
theorem nI_lt_t {a b : Nat} (h : nI a < nI b) (ha : a < 2 ^ 31 := by omega) (hb : b < 2 ^ 31 := by omega) : a < b := (nI_ltI ha hb).mp h
theorem nI_le_t {a b : Nat} (h : nI a ≤ nI b) (ha : a < 2 ^ 31 := by omega) (hb : b < 2 ^ 31 := by omega) : a ≤ b := (nI_leI ha hb).mp h
theorem nI_lt_f {a b : Nat} (h : ¬ nI a < nI b) (ha : a < 2 ^ 31 := by omega) (hb : b < 2 ^ 31 := by omega) : b ≤ a := Nat.le_of_not_lt fun z => h ((nI_ltI ha hb).mpr z)
theorem nI_le_f {a b : Nat} (h : ¬ nI a ≤ nI b) (ha : a < 2 ^ 31 := by omega) (hb : b < 2 ^ 31 := by omega) : b < a := Nat.lt_of_not_le fun z => h ((nI_leI ha hb).mpr z)
theorem nI_eq_t {a b : Nat} (h : nI a = nI b) (ha : a < 2 ^ 31 := by omega) (hb : b < 2 ^ 31 := by omega) : a = b := (nI_eq ha hb).mp h
theorem nI_eq_f {a b : Nat} (h : ¬ nI a = nI b) : a ≠ b := fun z => h (by rw [z])
/-- counts; tables; what a text's part says; sheets; their items -/
abbrev XT : Type := (Nat → Nat) × (Nat → Nat → Nat) × (Nat → Nat → (Nat → Int32) → Int32) × (Nat → Option (Nat × Nat)) × (Nat → Nat → Int32)
abbrev xMany (X : XT) : Nat := X.1 0
abbrev xHour (X : XT) : Nat := X.1 1
abbrev xRule (X : XT) : Nat := X.1 2
abbrev xTexts (X : XT) : Nat := X.1 3
abbrev xTaped (X : XT) : Nat := X.1 4
abbrev xHas (X : XT) : Nat := X.1 5
abbrev xRoad (X : XT) (a b : Nat) : Nat := X.2.1 0 (8 * a + b)
abbrev xKind (X : XT) (p : Nat) : Nat := X.2.1 1 p
abbrev xNum (X : XT) (p : Nat) : Nat := X.2.1 2 p
abbrev xGoal (X : XT) (p : Nat) : Nat := X.2.1 3 p
abbrev xRid (X : XT) (p : Nat) : Nat := X.2.1 4 p
abbrev xTape (X : XT) (k : Nat) : Nat := X.2.1 5 k
abbrev xFar (X : XT) (a b : Nat) : Nat := fw (xRoad X) a b
abbrev xVal (X : XT) (t j : Nat) (e : Nat → Int32) : Int32 := X.2.2.1 t j e
abbrev xSheet (X : XT) (s : Nat) : Option (Nat × Nat) := X.2.2.2.1 s
abbrev xItem (X : XT) (s i : Nat) : Int32 := X.2.2.2.2 s i
/-- a count set; a table's place set -/
def xc (X : XT) (k v : Nat) : XT := (fun j => if j = k then v else X.1 j, X.2)
def xt (X : XT) (t i v : Nat) : XT := (X.1, fun a b => if a = t ∧ b = i then v else X.2.1 a b, X.2.2)
theorem xc_self (X : XT) (k v : Nat) : (xc X k v).1 k = v := if_pos rfl
theorem xc_ne {X : XT} {k v j : Nat} (h : j ≠ k) : (xc X k v).1 j = X.1 j := if_neg h
theorem xt_self (X : XT) (t i v : Nat) : (xt X t i v).2.1 t i = v := if_pos ⟨rfl, rfl⟩
theorem xt_t {X : XT} {t i v a b : Nat} (h : a ≠ t) : (xt X t i v).2.1 a b = X.2.1 a b := if_neg fun z => h z.1
theorem xt_i {X : XT} {t i v a b : Nat} (h : b ≠ i) : (xt X t i v).2.1 a b = X.2.1 a b := if_neg fun z => h z.2
/-- what holds of the picture at all times -/
def XOk (X : XT) : Prop := xMany X ≤ 6 ∧ xHour X < 24 ∧ 1 ≤ xTexts X ∧ xTexts X ≤ 6 ∧ xRule X < xTexts X ∧ xTaped X ≤ 160 ∧ (∀ k, X.2.1 0 k ≤ 99) ∧ (∀ a b, a < 8 → b < 8 → xRoad X a b = xRoad X b a) ∧
  (∀ p, p < xMany X → xKind X p ≤ 5 ∧ xNum X p ≤ 9 ∧ xGoal X p ≤ 7 ∧ xRid X p ≤ 99999) ∧ (∀ k, xTape X k < 256) ∧
  (xHas X ≤ 1 ∧ (xHas X = 1 → X.1 6 ≤ xMany X ∧ X.1 7 < 24 ∧ X.1 8 < xTexts X ∧ (∀ k, X.2.1 6 k ≤ 99) ∧ (∀ a b, a < 8 → b < 8 → X.2.1 6 (8 * a + b) = X.2.1 6 (8 * b + a)) ∧ ∀ p, p < X.1 6 → X.2.1 7 p ≤ 9 ∧ X.2.1 8 p ≤ 7 ∧ X.2.1 9 p ≤ 99999)) ∧
  ∀ s so n, s < 4 → xSheet X s = some (so, n) → so ≤ 2 ∧ n ≤ 40 ∧ ∀ i, i < n → (so = 0 → (xItem X s i).toInt8.toInt32 = xItem X s i) ∧ (so = 1 → (xItem X s i).toInt16.toInt32 = xItem X s i)
/-! the twin holds the picture -/
def TwS (X : XT) (I : Nm → Nat → Int32) : Prop := I (50, 0) 11 = nI (xMany X) ∧ I (50, 0) 7 = nI (xHour X) ∧ I (50, 0) 4 = nI (xRule X) ∧ I (50, 0) 3 = nI (xTexts X) ∧ I (50, 0) 6 = nI (xTaped X)
def TwR (X : XT) (I : Nm → Nat → Int32) : Prop := (∀ k, k < 64 → I (54, 0) k = nI (X.2.1 0 k)) ∧ ∀ a b, a < 8 → b < 8 → I (57, 0) (8 * a + b) = nI (xFar X a b)
def TwP (X : XT) (I : Nm → Nat → Int32) : Prop := ∀ p, p < xMany X → I (55, 0) p = nI (xKind X p) ∧ I (56, 0) (3 * p) = nI (xNum X p) ∧ I (56, 0) (3 * p + 1) = nI (xGoal X p) ∧ I (56, 0) (3 * p + 2) = nI (xRid X p)
def TwA (X : XT) (I : Nm → Nat → Int32) : Prop := ∀ k, k < xTaped X → I (53, 0) k = nI (xTape X k)
def TwG (X : XT) (I : Nm → Nat → Int32) : Prop := (xHas X = 0 → I (50, 0) 38 = -1) ∧ (xHas X = 1 → I (50, 0) 38 = nI (X.1 6) ∧ I (50, 0) 39 = nI (X.1 7) ∧ I (50, 0) 40 = nI (X.1 8) ∧ (∀ k, k < 64 → I (61, 0) k = nI (X.2.1 6 k)) ∧ ∀ p, p < X.1 6 → I (62, 0) (3 * p) = nI (X.2.1 7 p) ∧ I (62, 0) (3 * p + 1) = nI (X.2.1 8 p) ∧ I (62, 0) (3 * p + 2) = nI (X.2.1 9 p))
def TwH (X : XT) (I : Nm → Nat → Int32) : Prop := ∀ s, s < 4 → (xSheet X s = none → I (63, 0) s = 0) ∧ ∀ so n, xSheet X s = some (so, n) → I (63, 0) s = 1 ∧ I (64, 0) s = nI so ∧ I (65, 0) s = nI n ∧ ∀ i, i < n → I (66, 0) (40 * s + i) = xItem X s i
/-- outside the twin nothing is other; outside the class nothing is other -/
def oT (I I' : Nm → Nat → Int32) : Prop := ∀ n k, n.1 < 50 ∨ 67 ≤ n.1 → I' n k = I n k
def oC (I I' : Nm → Nat → Int32) : Prop := ∀ n k, 50 ≤ n.1 → I' n k = I n k
theorem oT.rf {I : Nm → Nat → Int32} : oT I I := fun _ _ _ => rfl
theorem oT.tr {I I' I'' : Nm → Nat → Int32} (h : oT I I') (h' : oT I' I'') : oT I I'' := fun n k q => (h' n k q).trans (h n k q)
theorem oT.up {I I' : Nm → Nat → Int32} (h : oT I I') {n : Nm} (hn : 50 ≤ n.1 ∧ n.1 < 67) (k : Nat) (x : Int32) : oT I (upI I' n k x) := fun a b q => by
  rw [upI_nm (by intro z; rw [z] at q; omega)]
  exact h a b q
theorem oC.rf {I : Nm → Nat → Int32} : oC I I := fun _ _ _ => rfl
theorem oC.tr {I I' I'' : Nm → Nat → Int32} (h : oC I I') (h' : oC I' I'') : oC I I'' := fun n k q => (h' n k q).trans (h n k q)
theorem oC.up {I I' : Nm → Nat → Int32} (h : oC I I') {n : Nm} (hn : n.1 < 50) (k : Nat) (x : Int32) : oC I (upI I' n k x) := fun a b q => by
  rw [upI_nm (by intro z; rw [z] at q; omega)]
  exact h a b q
/-- an int that is a natural -/
def iN (v : Int32) : Nat := v.toInt.toNat
theorem iN_nI {j : Nat} (h : j < 2 ^ 31) : iN (nI j) = j := by unfold iN; rw [nI_toInt h]; omega
theorem inR_iN {v : Int32} {b : Int} (h : inR v 0 b) : v = nI (iN v) ∧ (iN v : Int) ≤ b := by
  obtain ⟨h1, h2⟩ := h
  have h3 := v.toInt_lt
  refine ⟨?_, by unfold iN; omega⟩
  apply Int32.toInt_inj.mp
  unfold iN
  rw [nI_toInt (by omega)]
  omega
/-! what the calls answer and do -/
def q_far (X : XT) (a b : Int32) : Int32 := if inR a 0 7 ∧ inR b 0 7 then (if xFar X (iN a) (iN b) = 999 then -1 else nI (xFar X (iN a) (iN b))) else -2
/-- a road laid -/
def xroad (X : XT) (a b v : Nat) : XT := xt (xt X 0 (8 * a + b) v) 0 (8 * b + a) v
abbrev ok_road (a b m : Int32) : Prop := inR a 0 7 ∧ inR b 0 7 ∧ a ≠ b ∧ inR m 0 99
def q_road (X : XT) (a b m : Int32) : XT × Int32 := if ok_road a b m then (xroad X (iN a) (iN b) (iN m), nI (xRoad X (iN a) (iN b))) else (X, -2)
