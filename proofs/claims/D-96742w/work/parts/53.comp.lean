/-! the class holds the picture -/
set_option maxRecDepth 100000
def CoS (X : XT) (I : Nm → Nat → Int32) : Prop := I (0, 0) 1 = nI (xMany X) ∧ I (0, 0) 2 = nI (xHour X) ∧ I (0, 0) 23 = nI (xRule X) ∧ I (0, 0) 12 = nI (xTexts X) ∧ I (0, 0) 16 = nI (xTaped X) ∧ I (0, 0) 32 = nI (xHas X)
def CoR (X : XT) (I : Nm → Nat → Int32) : Prop := (∀ a b, a < 8 → b < 8 → I (15, a) b = nI (xRoad X a b)) ∧ ∀ a b, a < 8 → b < 8 → I (16, a) b = nI (xFar X a b)
/-- the riders: r says which one stands at which place -/
def CoP (X : XT) (S : Nm → Option Shp) (D : Nm → Nat → Option Nm) (I : Nm → Nat → Int32) (r : Nat → Nat) : Prop :=
  (∀ p, p < xMany X → D (1, 0) p = some (20, r p) ∧ S (20, r p) = some (.inl (2 + xKind X p)) ∧ I (20, r p) 0 = nI (xNum X p) ∧ I (20, r p) 1 = nI (xGoal X p) ∧ I (20, r p) 2 = nI (xRid X p)) ∧ ∀ p q, p < xMany X → q < xMany X → r p = r q → p = q
def CoA (X : XT) (I : Nm → Nat → Int32) : Prop := ∀ k, k < xTaped X → I (8, 0) k = (nI (xTape X k)).toInt8.toInt32
def CoG (X : XT) (I : Nm → Nat → Int32) : Prop := xHas X = 1 → I (13, 0) 0 = nI (X.1 6) ∧ I (13, 0) 1 = nI (X.1 7) ∧ I (13, 0) 2 = nI (X.1 8) ∧ (∀ a b, a < 8 → b < 8 → I (17, a) b = nI (X.2.1 6 (8 * a + b))) ∧ ∀ p, p < X.1 6 → I (18, 0) p = nI (X.2.1 7 p) ∧ I (18, 1) p = nI (X.2.1 8 p) ∧ I (18, 2) p = nI (X.2.1 9 p)
/-- a sheet's sort as the machine's kind of array -/
def sτ (so : Nat) : Nat := match so with
  | 0 => 1
  | 1 => 2
  | _ => 0
def CoH (X : XT) (S : Nm → Option Shp) (D : Nm → Nat → Option Nm) (I : Nm → Nat → Int32) (r : Nat → Nat) : Prop :=
  (∀ s, s < 4 → (xSheet X s = none → D (19, s) 0 = none) ∧ ∀ so n, xSheet X s = some (so, n) → D (19, s) 0 = some (23, r s) ∧ S (23, r s) = some (.inr (sτ so, n)) ∧ ∀ i, i < n → I (23, r s) i = xItem X s i) ∧
  ∀ s t, s < 4 → t < 4 → xSheet X s ≠ none → xSheet X t ≠ none → r s = r t → s = t
/-- a node's cells say a value -/
def Rep (S : Nm → Option Shp) (D : Nm → Nat → Option Nm) (I : Nm → Nat → Int32) (n : Nat) (i : Nat) (f : (Nat → Int32) → Int32) : Prop := match n with
  | 0 => False
  | n + 1 => (S (22, i) = some (.inl 8) ∧ f = fun _ => I (22, i) 0) ∨
    (S (22, i) = some (.inl 9) ∧ D (22, i) 1 = some (0, 0) ∧ ∃ w, w ≤ 5 ∧ I (22, i) 0 = nI w ∧ f = fun e => e w) ∨
    (S (22, i) = some (.inl 10) ∧ ∃ j g, D (22, i) 0 = some (22, j) ∧ Rep S D I n j g ∧ ((I (22, i) 1 = 0 ∧ f = fun e => if g e = 0 then 1 else 0) ∨ (I (22, i) 1 = 1 ∧ f = fun e => - g e))) ∨
    (S (22, i) = some (.inl 11) ∧ ∃ j k g q, D (22, i) 1 = some (22, j) ∧ D (22, i) 2 = some (22, k) ∧ Rep S D I n j g ∧ Rep S D I n k q ∧
      ((I (22, i) 0 = 43 ∧ f = fun e => g e + q e) ∨ (I (22, i) 0 = 45 ∧ f = fun e => g e - q e) ∨ (I (22, i) 0 = 42 ∧ f = fun e => g e * q e) ∨ (I (22, i) 0 = 60 ∧ f = fun e => bi (g e < q e)) ∨ (I (22, i) 0 = 61 ∧ f = fun e => bi (g e = q e)) ∨ (I (22, i) 0 = 38 ∧ f = fun e => bi (¬ g e = 0 ∧ ¬ q e = 0)) ∨ (I (22, i) 0 = 124 ∧ f = fun e => bi (¬ g e = 0 ∨ ¬ q e = 0))))
/-- how deep a text's tree may be -/
def depT : Nat := 400
def CoT (X : XT) (S : Nm → Option Shp) (D : Nm → Nat → Option Nm) (I : Nm → Nat → Int32) : Prop :=
  ∀ t, t < xTexts X → ∃ w, D (5, 0) t = some (21, w) ∧ S (21, w) = some (.inr (6, 3)) ∧ ∀ j, j < 3 → ∃ i, D (21, w) j = some (22, i) ∧ Rep S D I depT i (xVal X t j)
/-- names not yet taken -/
def CoF (S : Nm → Option Shp) : Prop := ∃ c, ∀ t k, 20 ≤ t → t < 50 → c ≤ k → S (t, k) = none
def CoI (X : XT) (S : Nm → Option Shp) (D : Nm → Nat → Option Nm) (I : Nm → Nat → Int32) : Prop :=
  CoS X I ∧ CoR X I ∧ (∃ r, CoP X S D I r) ∧ CoA X I ∧ CoG X I ∧ (∃ r, CoH X S D I r) ∧ CoT X S D I ∧ CoF S
/-- places of passing use -/
def scr (n : Nm) (k : Nat) : Prop := (n = (0, 0) ∧ ((6 ≤ k ∧ k ≤ 10) ∨ (17 ≤ k ∧ k ≤ 22) ∨ (25 ≤ k ∧ k ≤ 30))) ∨ n = (9, 0) ∨ n = (10, 0)
/-- the same but for places of passing use, in the class; outside it all the same -/
def oS (I I' : Nm → Nat → Int32) : Prop := ∀ n k, ¬ scr n k → I' n k = I n k
theorem oS.rf {I : Nm → Nat → Int32} : oS I I := fun _ _ _ => rfl
theorem oS.tr {I I' I'' : Nm → Nat → Int32} (h : oS I I') (h' : oS I' I'') : oS I I'' := fun n k q => (h' n k q).trans (h n k q)
theorem oS.up {I I' : Nm → Nat → Int32} (h : oS I I') {n : Nm} {k : Nat} (hn : scr n k) (x : Int32) : oS I (upI I' n k x) := fun a b q => by
  rw [upI_at, if_neg (by rintro ⟨rfl, rfl⟩; exact q hn)]
  exact h a b q
theorem oS.nm {I I' : Nm → Nat → Int32} (h : oS I I') {n : Nm} (h0 : n ≠ (0, 0)) (h9 : n ≠ (9, 0)) (h10 : n ≠ (10, 0)) (k : Nat) : I' n k = I n k := h n k (by
  rintro (⟨z, -⟩ | z | z)
  · exact h0 z
  · exact h9 z
  · exact h10 z)
theorem oS.fd {I I' : Nm → Nat → Int32} (h : oS I I') {k : Nat} (hk : ¬ ((6 ≤ k ∧ k ≤ 10) ∨ (17 ≤ k ∧ k ≤ 22) ∨ (25 ≤ k ∧ k ≤ 30))) : I' (0, 0) k = I (0, 0) k := h (0, 0) k (by
  rintro (⟨-, z⟩ | z | z)
  · exact hk z
  · cases z
  · cases z)
theorem oS.oC {I I' : Nm → Nat → Int32} (h : oS I I') : oC I I' := fun n k hn => h.nm (by intro z; rw [z] at hn; omega) (by intro z; rw [z] at hn; omega) (by intro z; rw [z] at hn; omega) k
theorem Rep.congr {S S' : Nm → Option Shp} {D D' : Nm → Nat → Option Nm} {I I' : Nm → Nat → Int32} (hS : ∀ i sp, S (22, i) = some sp → S' (22, i) = some sp) (hD : ∀ i k, S (22, i) ≠ none → D' (22, i) k = D (22, i) k) (hI : ∀ i k, S (22, i) ≠ none → I' (22, i) k = I (22, i) k) : ∀ (n i : Nat) (f : (Nat → Int32) → Int32), Rep S D I n i f → Rep S' D' I' n i f := by
  intro n
  induction n with
  | zero => intro i f h; exact h
  | succ n ih =>
    intro i f h
    rcases h with ⟨h1, h2⟩ | ⟨h1, h2, w, h3, h4, h5⟩ | ⟨h1, j, g, h2, h3, h4⟩ | ⟨h1, j, k, g, q, h2, h3, h4, h5, h6⟩
    · refine Or.inl ⟨hS _ _ h1, ?_⟩
      rw [hI i 0 (by rw [h1]; simp)]; exact h2
    · refine Or.inr (Or.inl ⟨hS _ _ h1, by rw [hD i 1 (by rw [h1]; simp)]; exact h2, w, h3, by rw [hI i 0 (by rw [h1]; simp)]; exact h4, h5⟩)
    · refine Or.inr (Or.inr (Or.inl ⟨hS _ _ h1, j, g, by rw [hD i 0 (by rw [h1]; simp)]; exact h2, ih _ _ h3, ?_⟩))
      rw [hI i 1 (by rw [h1]; simp)]; exact h4
    · refine Or.inr (Or.inr (Or.inr ⟨hS _ _ h1, j, k, g, q, by rw [hD i 1 (by rw [h1]; simp)]; exact h2, by rw [hD i 2 (by rw [h1]; simp)]; exact h3, ih _ _ h4, ih _ _ h5, ?_⟩))
      rw [hI i 0 (by rw [h1]; simp)]; exact h6
theorem CoI.core {X : XT} {S : Nm → Option Shp} {D : Nm → Nat → Option Nm} {I I' : Nm → Nat → Int32} (h : CoI X S D I) (o : oS I I') : CoI X S D I' := by
  obtain ⟨⟨s1, s2, s3, s4, s5, s6⟩, ⟨r1, r2⟩, ⟨r, p1, p2⟩, a1, g1, ⟨rh, h1, h2⟩, t1, f1⟩ := h
  have nm : ∀ t i k, t ≠ 0 → t ≠ 9 → t ≠ 10 → I' (t, i) k = I (t, i) k := fun t i k h0 h9 h10 => o.nm (by intro z; cases z; exact h0 rfl) (by intro z; cases z; exact h9 rfl) (by intro z; cases z; exact h10 rfl) k
  refine ⟨⟨by rw [o.fd (by decide)]; exact s1, by rw [o.fd (by decide)]; exact s2, by rw [o.fd (by decide)]; exact s3, by rw [o.fd (by decide)]; exact s4, by rw [o.fd (by decide)]; exact s5, by rw [o.fd (by decide)]; exact s6⟩, ⟨fun a b ha hb => ?_, fun a b ha hb => ?_⟩, ⟨r, fun p hp => ?_, p2⟩, fun k hk => ?_, fun hh => ?_, ⟨rh, fun s hs => ?_, h2⟩, fun t ht => ?_, f1⟩
  · rw [nm 15 a b (by decide) (by decide) (by decide)]; exact r1 a b ha hb
  · rw [nm 16 a b (by decide) (by decide) (by decide)]; exact r2 a b ha hb
  · obtain ⟨q1, q2, q3, q4, q5⟩ := p1 p hp
    refine ⟨q1, q2, ?_, ?_, ?_⟩
    · rw [nm 20 _ _ (by decide) (by decide) (by decide)]; exact q3
    · rw [nm 20 _ _ (by decide) (by decide) (by decide)]; exact q4
    · rw [nm 20 _ _ (by decide) (by decide) (by decide)]; exact q5
  · rw [nm 8 0 k (by decide) (by decide) (by decide)]; exact a1 k hk
  · obtain ⟨q1, q2, q3, q4, q5⟩ := g1 hh
    refine ⟨by rw [nm 13 0 0 (by decide) (by decide) (by decide)]; exact q1, by rw [nm 13 0 1 (by decide) (by decide) (by decide)]; exact q2, by rw [nm 13 0 2 (by decide) (by decide) (by decide)]; exact q3, fun a b ha hb => ?_, fun p hp => ?_⟩
    · rw [nm 17 a b (by decide) (by decide) (by decide)]; exact q4 a b ha hb
    · rw [nm 18 0 p (by decide) (by decide) (by decide), nm 18 1 p (by decide) (by decide) (by decide), nm 18 2 p (by decide) (by decide) (by decide)]; exact q5 p hp
  · refine ⟨(h1 s hs).1, fun so n hsn => ?_⟩
    obtain ⟨q1, q2, q3⟩ := (h1 s hs).2 so n hsn
    exact ⟨q1, q2, fun i hi => by rw [nm 23 _ _ (by decide) (by decide) (by decide)]; exact q3 i hi⟩
  · obtain ⟨w, q1, q2, q3⟩ := t1 t ht
    refine ⟨w, q1, q2, fun j hj => ?_⟩
    obtain ⟨i, q4, q5⟩ := q3 j hj
    exact ⟨i, q4, Rep.congr (fun _ _ h => h) (fun _ _ _ => rfl) (fun i k _ => nm 22 i k (by decide) (by decide) (by decide)) _ _ _ q5⟩
