/-! LAW (plain): the shortest ways, stage by stage; and the class's tellsFar -/
set_option maxRecDepth 100000
theorem lp_up {σ : Type} (N : Nat) (Gd Inv : Nat → σ → Prop) (hend : ∀ s, Inv N s → Gd N s) (hstep : ∀ j s, j < N → Inv j s → (∀ s', Inv (j + 1) s' → Gd (j + 1) s') → Gd j s) : ∀ j s, j ≤ N → Inv j s → Gd j s := by
  have key : ∀ n j s, N - j = n → j ≤ N → Inv j s → Gd j s := by
    intro n
    induction n with
    | zero =>
      intro j s h1 h2 h3
      have e : j = N := by omega
      subst e
      exact hend s h3
    | succ n ih =>
      intro j s h1 h2 h3
      exact hstep j s (by omega) h3 (fun s' h => ih (j + 1) s' (by omega) (by omega) h)
  exact fun j s h1 h2 => key _ j s rfl h1 h2
def fw0 (R : Nat → Nat → Nat) (a b : Nat) : Nat := if a = b then 0 else if R a b = 0 then 999 else R a b
def fwS (D : Nat → Nat → Nat) (m a b : Nat) : Nat := if D a m + D m b < D a b then D a m + D m b else D a b
def fwn (R : Nat → Nat → Nat) (n : Nat) : Nat → Nat → Nat := match n with
  | 0 => fw0 R
  | m + 1 => fwS (fwn R m) m
/-- the miles by roads -/
def fw (R : Nat → Nat → Nat) : Nat → Nat → Nat := fwn R 8
theorem fw_diag (R : Nat → Nat → Nat) (n a : Nat) : fwn R n a a = 0 := by
  induction n generalizing a with
  | zero => simp [fwn, fw0]
  | succ n ih => simp [fwn, fwS, ih]
theorem fw_le (R : Nat → Nat → Nat) (hR : ∀ a b, R a b ≤ 99) (n a b : Nat) : fwn R n a b ≤ 999 := by
  induction n generalizing a b with
  | zero =>
    simp only [fwn, fw0]
    have := hR a b
    split
    · omega
    · split <;> omega
  | succ n ih =>
    simp only [fwn, fwS]
    have := ih a b
    split <;> omega
theorem fw_col (R : Nat → Nat → Nat) (n a : Nat) : fwn R (n + 1) a n = fwn R n a n := by
  simp [fwn, fwS, fw_diag]
theorem fw_row (R : Nat → Nat → Nat) (n b : Nat) : fwn R (n + 1) n b = fwn R n n b := by
  simp [fwn, fwS, fw_diag]
theorem nI_min (a b : Nat) (ha : a < 2 ^ 31) (hb : b < 2 ^ 31) : imin (nI a) (nI b) = nI (if b < a then b else a) := by
  unfold imin
  by_cases h : b < a
  · rw [if_pos h, if_pos ((nI_ltI hb ha).mpr h)]
  · rw [if_neg h, if_neg (fun z => h ((nI_ltI hb ha).mp z))]
section TF
variable {Γ : Gm} {l : Launch}
/-- outside the table of ways nothing is other -/
def tfO (I I' : Nm → Nat → Int32) : Prop := ∀ n k, ¬ (n.1 = 16 ∧ n.2 < 8 ∧ k < 8) → I' n k = I n k
theorem tfO.rf {I : Nm → Nat → Int32} : tfO I I := fun _ _ _ => rfl
theorem tfO.up {I I' : Nm → Nat → Int32} (h : tfO I I') {a b : Nat} (ha : a < 8) (hb : b < 8) (x : Int32) : tfO I (upI I' (16, a) b x) := by
  intro n k hn
  rw [upI_at, if_neg, h n k hn]
  rintro ⟨rfl, rfl⟩
  exact hn ⟨rfl, ha, hb⟩
set_option maxHeartbeats 4000000 in
theorem s_tellsFar (d : Nat) (S : Nm → Option Shp) (D : Nm → Nat → Option Nm) (I : Nm → Nat → Int32) (J : Nm → Nat → Int64) (R : Nat → Nat → Nat) (hR : ∀ a b, R a b ≤ 99) (hI : ∀ a b, a < 8 → b < 8 → I (15, a) b = nI (R a b)) :
    GR Γ l MX0_tellsFar (d + 1) 0 0 [pv_r 0 0] (hC S D I J) (fun v h' => v = none ∧ ∃ I', h' = hC S D I' J ∧ tfO I I' ∧ ∀ a b, a < 8 → b < 8 → I' (16, a) b = nI (fw R a b)) := by
  refine GR.start (ls := [some (pv_r 0 0), none, none, none]) rfl ?_
  refine bX0_tellsFar_0.go rfl ?_
  -- the first table
  refine lp_up (σ := Nm → Nat → Int32) 8 (fun a I' => G Γ l MX0_tellsFar (d + 1) 0 0 _ 0 0 2 [some (pv_r 0 0), some (pv_i (nI a)), none, none] [] (hC S D I' J)) (fun a I' => tfO I I' ∧ ∀ a' b, a' < a → b < 8 → I' (16, a') b = nI (fwn R 0 a' b)) ?_ ?_ 0 I (by decide) ⟨tfO.rf, fun a' b h => absurd h (Nat.not_lt_zero a')⟩
  · -- behind it
    rintro I1 ⟨h1, h2⟩
    refine bX0_tellsFar_2.go rfl ?_
    refine iX0_tellsFar_5 (fun c => ?_) (fun c => absurd (show nI 8 ≤ nI 8 from nI_le (Nat.le_refl 8) (by decide)) c)
    refine bX0_tellsFar_70.go rfl ?_
    have hR9 := fw_le R hR
    -- stage by stage
    refine lp_up (σ := Nm → Nat → Int32) 8 (fun m I' => G Γ l MX0_tellsFar (d + 1) 0 0 _ 0 0 72 [some (pv_r 0 0), some (pv_i (nI m)), none, none] [] (hC S D I' J)) (fun m I' => tfO I I' ∧ ∀ a b, a < 8 → b < 8 → I' (16, a) b = nI (fwn R m a b)) ?_ ?_ 0 I1 (by decide) ⟨h1, h2⟩
    · rintro I2 ⟨g1, g2⟩
      refine bX0_tellsFar_72.go rfl ?_
      refine iX0_tellsFar_75 (fun c => ?_) (fun c => absurd (show nI 8 ≤ nI 8 from nI_le (Nat.le_refl 8) (by decide)) c)
      exact G.vret rfl dX0_tellsFar_148 ⟨rfl, I2, rfl, g1, g2⟩
    · rintro m I2 hm ⟨g1, g2⟩ ihm
      refine bX0_tellsFar_72.go rfl ?_
      refine iX0_tellsFar_75 (fun c => absurd ((nI_leI (a := 8) (by decide) (by omega)).mp c) (by omega)) (fun c => ?_)
      refine bX0_tellsFar_78.go rfl ?_
      refine lp_up (σ := Nm → Nat → Int32) 8 (fun a I' => G Γ l MX0_tellsFar (d + 1) 0 0 _ 0 0 80 [some (pv_r 0 0), some (pv_i (nI m)), some (pv_i (nI a)), none] [] (hC S D I' J)) (fun a I' => tfO I I' ∧ ∀ a' b, a' < 8 → b < 8 → I' (16, a') b = nI (if a' < a then fwn R (m + 1) a' b else fwn R m a' b)) ?_ ?_ 0 I2 (by decide) ⟨g1, fun a' b h1 h2 => by rw [if_neg (by omega)]; exact g2 a' b h1 h2⟩
      · rintro I3 ⟨k1, k2⟩
        refine bX0_tellsFar_80.go rfl ?_
        refine iX0_tellsFar_83 (fun c => ?_) (fun c => absurd (show nI 8 ≤ nI 8 from nI_le (Nat.le_refl 8) (by decide)) c)
        refine bX0_tellsFar_142.go rfl ?_
        refine G.mask [true, true, false, true] ?_
        have := ihm I3 ⟨k1, fun a b h1 h2 => by rw [k2 a b h1 h2, if_pos h1]⟩
        rw [← nI_1] at this
        exact this
      · rintro a I3 ha ⟨k1, k2⟩ iha
        refine bX0_tellsFar_80.go rfl ?_
        refine iX0_tellsFar_83 (fun c => absurd ((nI_leI (a := 8) (by decide) (by omega)).mp c) (by omega)) (fun c => ?_)
        refine bX0_tellsFar_86.go rfl ?_
        refine lp_up (σ := Nm → Nat → Int32) 8 (fun b I' => G Γ l MX0_tellsFar (d + 1) 0 0 _ 0 0 88 [some (pv_r 0 0), some (pv_i (nI m)), some (pv_i (nI a)), some (pv_i (nI b))] [] (hC S D I' J)) (fun b I' => tfO I I' ∧ ∀ a' b', a' < 8 → b' < 8 → I' (16, a') b' = nI (if a' < a ∨ (a' = a ∧ b' < b) then fwn R (m + 1) a' b' else fwn R m a' b')) ?_ ?_ 0 I3 (by decide) ⟨k1, fun a' b' h1 h2 => by
          rw [k2 a' b' h1 h2]
          by_cases q : a' < a
          · rw [if_pos q, if_pos (Or.inl q)]
          · rw [if_neg q, if_neg (by omega)]⟩
        · rintro I4 ⟨m1, m2⟩
          refine bX0_tellsFar_88.go rfl ?_
          refine iX0_tellsFar_91 (fun c => ?_) (fun c => absurd (show nI 8 ≤ nI 8 from nI_le (Nat.le_refl 8) (by decide)) c)
          refine bX0_tellsFar_136.go rfl ?_
          refine G.mask [true, true, true, false] ?_
          have := iha I4 ⟨m1, fun a' b' h1 h2 => by
            rw [m2 a' b' h1 h2]
            by_cases q : a' < a + 1
            · rw [if_pos q, if_pos (by omega)]
            · rw [if_neg q, if_neg (by omega)]⟩
          rw [← nI_1] at this
          exact this
        · rintro b I4 hb ⟨m1, m2⟩ ihb
          have v1 : I4 (16, a) b = nI (fwn R m a b) := by rw [m2 a b ha hb, if_neg (by omega)]
          have v2 : I4 (16, a) m = nI (fwn R m a m) := by
            rw [m2 a m ha hm]
            split
            · rw [fw_col]
            · rfl
          have v3 : I4 (16, m) b = nI (fwn R m m b) := by
            rw [m2 m b hm hb]
            split
            · rw [fw_row]
            · rfl
          refine bX0_tellsFar_88.go rfl ?_
          refine iX0_tellsFar_91 (fun c => absurd ((nI_leI (a := 8) (by decide) (by omega)).mp c) (by omega)) (fun c => ?_)
          refine bX0_tellsFar_94.go rfl ?_
          refine G.aaldN rfl dX0_tellsFar_99 rfl ha (rf_3 D ha) ?_
          refine bX0_tellsFar_100.go rfl ?_
          refine G.aaldN rfl dX0_tellsFar_106 rfl ha (rf_3 D ha) ?_
          refine bX0_tellsFar_107.go rfl ?_
          refine G.ialdN (sp_16 S ha) dX0_tellsFar_108 rfl hb v1 ?_
          refine bX0_tellsFar_109.go rfl ?_
          refine G.aaldN rfl dX0_tellsFar_114 rfl ha (rf_3 D ha) ?_
          refine bX0_tellsFar_115.go rfl ?_
          refine G.ialdN (sp_16 S ha) dX0_tellsFar_116 rfl hm v2 ?_
          refine bX0_tellsFar_117.go rfl ?_
          refine G.aaldN rfl dX0_tellsFar_122 rfl hm (rf_3 D hm) ?_
          refine bX0_tellsFar_123.go rfl ?_
          refine G.ialdN (sp_16 S hm) dX0_tellsFar_124 rfl hb v3 ?_
          refine bX0_tellsFar_125.go rfl ?_
          refine G.callF (vX0_tellsFar_126 rfl) mk_J7_min (s_min d _ _ _) rfl ?_
          refine G.iastN (sp_16 S ha) dX0_tellsFar_129 rfl hb ?_
          refine bX0_tellsFar_130.go rfl ?_
          have := ihb (upI I4 (16, a) b (imin (nI (fwn R m a b)) (nI (fwn R m a m) + nI (fwn R m m b)))) ⟨m1.up ha hb _, fun a' b' h1 h2 => by
            by_cases q : a' = a ∧ b' = b
            · obtain ⟨rfl, rfl⟩ := q
              have q1 := hR9 m a' b'
              have q2 := hR9 m a' m
              have q3 := hR9 m m b'
              rw [upI_self, if_pos (by omega), nI_add, nI_min _ _ (by omega) (by omega)]
              rfl
            · rw [upI_at, if_neg (by rintro ⟨z1, z2⟩; cases z1; exact q ⟨rfl, z2⟩), m2 a' b' h1 h2]
              by_cases q2 : a' < a ∨ (a' = a ∧ b' < b)
              · rw [if_pos q2, if_pos (by omega)]
              · rw [if_neg q2, if_neg (by omega)]⟩
          rw [← nI_1] at this
          exact this
  · rintro a I1 ha ⟨h1, h2⟩ ih
    refine bX0_tellsFar_2.go rfl ?_
    refine iX0_tellsFar_5 (fun c => absurd ((nI_leI (a := 8) (by decide) (by omega)).mp c) (by omega)) (fun c => ?_)
    refine bX0_tellsFar_8.go rfl ?_
    refine lp_up (σ := Nm → Nat → Int32) 8 (fun b I' => G Γ l MX0_tellsFar (d + 1) 0 0 _ 0 0 10 [some (pv_r 0 0), some (pv_i (nI a)), some (pv_i (nI b)), none] [] (hC S D I' J)) (fun b I' => tfO I I' ∧ (∀ a' b, a' < a → b < 8 → I' (16, a') b = nI (fwn R 0 a' b)) ∧ ∀ b', b' < b → I' (16, a) b' = nI (fwn R 0 a b')) ?_ ?_ 0 I1 (by decide) ⟨h1, h2, fun b' h => absurd h (Nat.not_lt_zero b')⟩
    · rintro I2 ⟨g1, g2, g3⟩
      refine bX0_tellsFar_10.go rfl ?_
      refine iX0_tellsFar_13 (fun c => ?_) (fun c => absurd (show nI 8 ≤ nI 8 from nI_le (Nat.le_refl 8) (by decide)) c)
      refine bX0_tellsFar_64.go rfl ?_
      refine G.mask [true, true, false, true] ?_
      have := ih I2 ⟨g1, fun a' b h1 h2 => by
        rcases Nat.lt_or_ge a' a with q | q
        · exact g2 a' b q h2
        · rw [show a' = a by omega]; exact g3 b h2⟩
      rw [← nI_1] at this
      exact this
    · rintro b I2 hb ⟨g1, g2, g3⟩ ih2
      refine bX0_tellsFar_10.go rfl ?_
      refine iX0_tellsFar_13 (fun c => absurd ((nI_leI (a := 8) (by decide) (by omega)).mp c) (by omega)) (fun c => ?_)
      refine bX0_tellsFar_16.go rfl ?_
      refine G.aaldN rfl dX0_tellsFar_21 rfl ha (rf_3 D ha) ?_
      refine bX0_tellsFar_22.go rfl ?_
      have fin : ∀ x : Int32, x = nI (fwn R 0 a b) → G Γ l MX0_tellsFar (d + 1) 0 0 (rq (fun v h' => v = none ∧ ∃ I', h' = hC S D I' J ∧ tfO I I' ∧ ∀ a b, a < 8 → b < 8 → I' (16, a) b = nI (fw R a b))) 0 0 57 [some (pv_r 0 0), some (pv_i (nI a)), some (pv_i (nI b)), none] [pv_i x, pv_i (nI b), pv_r 16 a] (hC S D I2 J) := by
        intro x hx
        refine G.iastN (sp_16 S ha) dX0_tellsFar_57 rfl hb ?_
        refine bX0_tellsFar_58.go rfl ?_
        have := ih2 (upI I2 (16, a) b x) ⟨g1.up ha hb x, fun a' b' h1 h2 => by rw [upI_nm (by intro z; cases z; omega)]; exact g2 a' b' h1 h2, fun b' h => by
          by_cases e : b' = b
          · subst e; rw [upI_self, hx]
          · rw [upI_k e]; exact g3 b' (by omega)⟩
        rw [← nI_1] at this
        exact this
      refine iX0_tellsFar_25 (fun c => ?_) (fun c => ?_)
      · have hab : ¬ a = b := fun z => c (by rw [z])
        have hI2 : I2 (15, a) b = nI (R a b) := by rw [g1 (15, a) b (by rintro ⟨z, -⟩; cases z)]; exact hI a b ha hb
        refine bX0_tellsFar_32.go rfl ?_
        refine G.aaldN rfl dX0_tellsFar_37 rfl ha (rf_2 D ha) ?_
        refine bX0_tellsFar_38.go rfl ?_
        refine G.ialdN (sp_15 S ha) dX0_tellsFar_39 rfl hb hI2 ?_
        refine iX0_tellsFar_40 (fun c => ?_) (fun c => ?_)
        · refine bX0_tellsFar_49.go rfl ?_
          refine G.aaldN rfl dX0_tellsFar_54 rfl ha (rf_2 D ha) ?_
          refine bX0_tellsFar_55.go rfl ?_
          refine G.ialdN (sp_15 S ha) dX0_tellsFar_56 rfl hb hI2 ?_
          refine fin _ ?_
          have : ¬ R a b = 0 := fun z => c (by rw [z]; rfl)
          simp [fwn, fw0, hab, this]
        · refine bX0_tellsFar_43.go rfl ?_
          refine fin _ ?_
          have : R a b = 0 := by
            have h9 := hR a b
            exact (nI_eq (b := 0) (by omega) (by decide)).mp c
          simp [fwn, fw0, hab, this]
          rfl
      · have hab : a = b := (nI_eq (by omega) (by omega)).mp c
        refine bX0_tellsFar_28.go rfl ?_
        refine fin _ ?_
        simp [fwn, fw0, hab]
        rfl
end TF
