/-! the twin: small methods, the ways -/
set_option maxRecDepth 100000
section TW
variable {Γ : Gm} {l : Launch}
theorem t_in (d : Nat) (v a b : Int64) (h : PH) : GF Γ l MX8_in d 0 0 [pv_l v, pv_l a, pv_l b] h (some (pv_i (bi (a ≤ v ∧ v ≤ b)))) h := by
  refine bX8_in_0.go rfl ?_
  refine iX8_in_3 (fun c => ?_) (fun c => ?_)
  · refine bX8_in_17.go rfl ?_
    refine G.iret rfl rfl dX8_in_18 ⟨?_, rfl⟩
    rw [lg_cmp_lt] at c
    rw [bi_f]
    intro z
    exact absurd c (Int64.not_lt.mpr z.1)
  · refine bX8_in_6.go rfl ?_
    refine iX8_in_10 (fun c2 => ?_) (fun c2 => ?_)
    · refine bX8_in_17.go rfl ?_
      refine G.iret rfl rfl dX8_in_18 ⟨?_, rfl⟩
      rw [lg_cmp_gt] at c2
      rw [bi_f]
      intro z
      exact absurd c2 (Int64.not_lt.mpr z.2)
    · refine bX8_in_13.go rfl ?_
      refine G.iret rfl rfl dX8_in_18 ⟨?_, rfl⟩
      rw [lg_cmp_lt] at c
      rw [lg_cmp_gt] at c2
      rw [bi_t ⟨Int64.not_lt.mp c, Int64.not_lt.mp c2⟩]
theorem t_inR {d : Nat} {v : Int32} {a b : Int64} {A B : Int} {h : PH} (ha : a.toInt = A) (hb : b.toInt = B) : GF Γ l MX8_in d 0 0 [pv_l v.toInt64, pv_l a, pv_l b] h (some (pv_i (bi (inR v A B)))) h := by
  have := t_in (Γ := Γ) (l := l) d v.toInt64 a b h
  rw [bi_c (in_R ha hb)] at this
  exact this
theorem s_inR {d : Nat} {v : Int32} {a b : Int64} {A B : Int} {h : PH} (ha : a.toInt = A) (hb : b.toInt = B) : GF Γ l MX0_in d 0 0 [pv_l v.toInt64, pv_l a, pv_l b] h (some (pv_i (bi (inR v A B)))) h := by
  have := s_in (Γ := Γ) (l := l) d v.toInt64 a b h
  rw [bi_c (in_R ha hb)] at this
  exact this
def iwith (v a b : Int32) : Int32 := if v < a then a else if b < v then b else v
theorem t_within (d : Nat) (v a b : Int32) (h : PH) : GF Γ l MX8_within d 0 0 [pv_i v, pv_i a, pv_i b] h (some (pv_i (iwith v a b))) h := by
  refine bX8_within_0.go rfl ?_
  refine iX8_within_2 (fun c => ?_) (fun c => ?_)
  · refine bX8_within_9.go rfl ?_
    have c' : ¬ v < a := fun z => absurd c (by rw [Int32.le_iff_toInt_le]; rw [Int32.lt_iff_toInt_lt] at z; omega)
    refine iX8_within_11 (fun c2 => ?_) (fun c2 => ?_)
    · refine bX8_within_18.go rfl ?_
      refine G.iret rfl rfl dX8_within_19 ⟨?_, rfl⟩
      rw [iwith, if_neg c', if_neg]
      intro z
      exact absurd c2 (by rw [Int32.le_iff_toInt_le]; rw [Int32.lt_iff_toInt_lt] at z; omega)
    · refine bX8_within_14.go rfl ?_
      refine G.iret rfl rfl dX8_within_19 ⟨?_, rfl⟩
      rw [iwith, if_neg c', if_pos]
      rw [Int32.le_iff_toInt_le] at c2
      rw [Int32.lt_iff_toInt_lt]; omega
  · refine bX8_within_5.go rfl ?_
    refine G.iret rfl rfl dX8_within_19 ⟨?_, rfl⟩
    rw [iwith, if_pos]
    rw [Int32.le_iff_toInt_le] at c
    rw [Int32.lt_iff_toInt_lt]; omega
theorem t_isPlace (d : Nat) (t : Int32) (h : PH) : GF Γ l MX8_isPlace (d + 1) 0 0 [pv_i t] h (some (pv_i (bi (inR t 0 7)))) h := by
  refine bX8_isPlace_0.go rfl ?_
  refine G.callF (vX8_isPlace_6 rfl) mk_X8_in (t_inR (d := d) rfl rfl) rfl ?_
  exact G.iret rfl bi_n dX8_isPlace_9 ⟨rfl, rfl⟩
theorem t_isOne (d : Nat) (p : Int32) (S : Nm → Option Shp) (D : Nm → Nat → Option Nm) (I : Nm → Nat → Int32) (J : Nm → Nat → Int64) {m : Nat} (hm : I (50, 0) 11 = nI m) (h6 : m ≤ 6) : GF Γ l MX8_isOne (d + 1) 0 0 [pv_r 50 0, pv_i p] (hC S D I J) (some (pv_i (bi (inR p 0 ((m : Int) - 1))))) (hC S D I J) := by
  refine bX8_isOne_0.go rfl ?_
  refine G.callF (vX8_isOne_10 rfl) mk_X8_in (t_inR (d := d) (B := (m : Int) - 1) rfl ?_) rfl ?_
  · show ((I (50, 0) 11 - 1).toInt64).toInt = _
    rw [hm, Int32.toInt_toInt64, nI_pred_toInt (by omega)]
  · exact G.iret rfl bi_n dX8_isOne_13 ⟨rfl, rfl⟩
/-- outside the twin's table of ways nothing is other -/
def tsO (I I' : Nm → Nat → Int32) : Prop := ∀ n k, ¬ (n = (57, 0) ∧ k < 64) → I' n k = I n k
theorem tsO.rf {I : Nm → Nat → Int32} : tsO I I := fun _ _ _ => rfl
theorem tsO.up {I I' : Nm → Nat → Int32} (h : tsO I I') {k : Nat} (hk : k < 64) (x : Int32) : tsO I (upI I' (57, 0) k x) := by
  intro n j hn
  rw [upI_at, if_neg, h n j hn]
  rintro ⟨rfl, rfl⟩
  exact hn ⟨rfl, hk⟩
set_option maxHeartbeats 4000000 in
theorem t_spreads (d : Nat) (S : Nm → Option Shp) (D : Nm → Nat → Option Nm) (I : Nm → Nat → Int32) (J : Nm → Nat → Int64) (R : Nat → Nat → Nat) (hR : ∀ a b, R a b ≤ 99) (hI : ∀ a b, a < 8 → b < 8 → I (54, 0) (8 * a + b) = nI (R a b)) :
    GR Γ l MX8_spreads (d + 1) 0 0 [pv_r 50 0] (hC S D I J) (fun v h' => v = none ∧ ∃ I', h' = hC S D I' J ∧ tsO I I' ∧ ∀ a b, a < 8 → b < 8 → I' (57, 0) (8 * a + b) = nI (fw R a b)) := by
  have hI' : ∀ k, k < 64 → I (54, 0) k = nI (R (k / 8) (k % 8)) := fun k hk => by
    rw [← hI (k / 8) (k % 8) (by omega) (by omega), Nat.div_add_mod]
  refine GR.start (ls := [some (pv_r 50 0), none, none, none]) rfl ?_
  refine bX8_spreads_0.go rfl ?_
  refine lp_up (σ := Nm → Nat → Int32) 64 (fun k I' => G Γ l MX8_spreads (d + 1) 0 0 _ 0 0 2 [some (pv_r 50 0), some (pv_i (nI k)), none, none] [] (hC S D I' J)) (fun k I' => tsO I I' ∧ ∀ j, j < k → I' (57, 0) j = nI (fwn R 0 (j / 8) (j % 8))) ?_ ?_ 0 I (by decide) ⟨tsO.rf, fun j h => absurd h (Nat.not_lt_zero j)⟩
  · rintro I1 ⟨h1, h2⟩
    refine bX8_spreads_2.go rfl ?_
    refine iX8_spreads_5 (fun c => ?_) (fun c => absurd (show nI 64 ≤ nI 64 from nI_le (Nat.le_refl 64) (by decide)) c)
    refine bX8_spreads_56.go rfl ?_
    have hR9 := fw_le R hR
    refine lp_up (σ := Nm → Nat → Int32) 8 (fun m I' => G Γ l MX8_spreads (d + 1) 0 0 _ 0 0 58 [some (pv_r 50 0), some (pv_i (nI m)), none, none] [] (hC S D I' J)) (fun m I' => tsO I I' ∧ ∀ j, j < 64 → I' (57, 0) j = nI (fwn R m (j / 8) (j % 8))) ?_ ?_ 0 I1 (by decide) ⟨h1, h2⟩
    · rintro I2 ⟨g1, g2⟩
      refine bX8_spreads_58.go rfl ?_
      refine iX8_spreads_61 (fun c => ?_) (fun c => absurd (show nI 8 ≤ nI 8 from nI_le (Nat.le_refl 8) (by decide)) c)
      refine G.vret rfl dX8_spreads_140 ⟨rfl, I2, rfl, g1, fun a b ha hb => ?_⟩
      rw [g2 (8 * a + b) (by omega), show (8 * a + b) / 8 = a by omega, show (8 * a + b) % 8 = b by omega]
      rfl
    · rintro m I2 hm ⟨g1, g2⟩ ihm
      refine bX8_spreads_58.go rfl ?_
      refine iX8_spreads_61 (fun c => absurd (nI_le_t (a := 8) c) (by omega)) (fun c => ?_)
      refine bX8_spreads_64.go rfl ?_
      refine lp_up (σ := Nm → Nat → Int32) 64 (fun k I' => G Γ l MX8_spreads (d + 1) 0 0 _ 0 0 66 [some (pv_r 50 0), some (pv_i (nI m)), some (pv_i (nI k)), none] [] (hC S D I' J)) (fun k I' => tsO I I' ∧ ∀ j, j < 64 → I' (57, 0) j = nI (if j < k then fwn R (m + 1) (j / 8) (j % 8) else fwn R m (j / 8) (j % 8))) ?_ ?_ 0 I2 (by decide) ⟨g1, fun j h1 => by rw [if_neg (by omega)]; exact g2 j h1⟩
      · rintro I3 ⟨k1, k2⟩
        refine bX8_spreads_66.go rfl ?_
        refine iX8_spreads_69 (fun c => ?_) (fun c => absurd (show nI 64 ≤ nI 64 from nI_le (Nat.le_refl 64) (by decide)) c)
        refine bX8_spreads_134.go rfl ?_
        refine G.mask [true, true, false, true] ?_
        have := ihm I3 ⟨k1, fun j h1 => by rw [k2 j h1, if_pos h1]⟩
        rw [← nI_1] at this
        exact this
      · rintro k I3 hk ⟨k1, k2⟩ ihk
        have v1 : I3 (57, 0) k = nI (fwn R m (k / 8) (k % 8)) := by rw [k2 k hk, if_neg (by omega)]
        have v2 : I3 (57, 0) (8 * (k / 8) + m) = nI (fwn R m (k / 8) m) := by
          rw [k2 _ (by omega), show (8 * (k / 8) + m) / 8 = k / 8 by omega, show (8 * (k / 8) + m) % 8 = m by omega]
          split
          · rw [fw_col]
          · rfl
        have v3 : I3 (57, 0) (8 * m + k % 8) = nI (fwn R m m (k % 8)) := by
          rw [k2 _ (by omega), show (8 * m + k % 8) / 8 = m by omega, show (8 * m + k % 8) % 8 = k % 8 by omega]
          split
          · rw [fw_row]
          · rfl
        refine bX8_spreads_66.go rfl ?_
        refine iX8_spreads_69 (fun c => absurd (nI_le_t (a := 64) c) (by omega)) (fun c => ?_)
        refine bX8_spreads_72.go rfl ?_
        refine G.idiv (by decide) dX8_spreads_81 ?_
        rw [pk_div8 (by omega)]
        refine bX8_spreads_82.go rfl ?_
        refine G.ialdN rfl dX8_spreads_85 (j := 8 * (k / 8) + m) (by rw [← nI_add, ← pk_mul]; rfl) (by omega) v2 ?_
        refine bX8_spreads_86.go rfl ?_
        refine G.irem (by decide) dX8_spreads_97 ?_
        rw [pk_rem8 (by omega)]
        refine bX8_spreads_98.go rfl ?_
        refine G.ialdN rfl dX8_spreads_99 (j := 8 * m + k % 8) (by rw [← nI_add, ← pk_mul]; rfl) (by omega) v3 ?_
        refine bX8_spreads_100.go rfl ?_
        refine G.ialdN rfl dX8_spreads_113 rfl hk v1 ?_
        have q1 := hR9 m (k / 8) (k % 8)
        have q2 := hR9 m (k / 8) m
        have q3 := hR9 m m (k % 8)
        have fin : ∀ x : Int32, x = nI (fwn R (m + 1) (k / 8) (k % 8)) → G Γ l MX8_spreads (d + 1) 0 0 (rq (fun v h' => v = none ∧ ∃ I', h' = hC S D I' J ∧ tsO I I' ∧ ∀ a b, a < 8 → b < 8 → I' (57, 0) (8 * a + b) = nI (fw R a b))) 0 0 127 [some (pv_r 50 0), some (pv_i (nI m)), some (pv_i (nI k)), some (pv_i (nI (fwn R m (k / 8) m) + nI (fwn R m m (k % 8))))] [pv_i x, pv_i (nI k), pv_r 57 0] (hC S D I3 J) := by
          intro x hx
          refine G.iastN rfl dX8_spreads_127 rfl hk ?_
          refine bX8_spreads_128.go rfl ?_
          refine G.mask [true, true, true, false] ?_
          have := ihk (upI I3 (57, 0) k x) ⟨k1.up hk x, fun j h1 => by
            by_cases e : j = k
            · subst e; rw [upI_self, hx, if_pos (by omega)]
            · rw [upI_k e, k2 j h1]
              by_cases q : j < k
              · rw [if_pos q, if_pos (by omega)]
              · rw [if_neg q, if_neg (by omega)]⟩
          rw [← nI_1] at this
          exact this
        refine iX8_spreads_114 (fun c => ?_) (fun c => ?_)
        · refine bX8_spreads_121.go rfl ?_
          refine G.ialdN rfl dX8_spreads_126 rfl hk v1 ?_
          refine fin _ ?_
          rw [nI_add] at c
          have := nI_le_t c
          simp only [fwn, fwS]
          rw [if_neg (by omega)]
        · refine bX8_spreads_117.go rfl ?_
          refine fin _ ?_
          rw [nI_add] at c ⊢
          have := nI_le_f c
          simp only [fwn, fwS]
          rw [if_pos (by omega)]
  · rintro k I1 hk ⟨h1, h2⟩ ih
    refine bX8_spreads_2.go rfl ?_
    refine iX8_spreads_5 (fun c => absurd (nI_le_t (a := 64) c) (by omega)) (fun c => ?_)
    refine bX8_spreads_8.go rfl ?_
    refine G.idiv (by decide) dX8_spreads_16 ?_
    rw [pk_div8 (by omega)]
    refine bX8_spreads_17.go rfl ?_
    refine G.irem (by decide) dX8_spreads_20 ?_
    rw [pk_rem8 (by omega)]
    have fin : ∀ x : Int32, x = nI (fwn R 0 (k / 8) (k % 8)) → G Γ l MX8_spreads (d + 1) 0 0 (rq (fun v h' => v = none ∧ ∃ I', h' = hC S D I' J ∧ tsO I I' ∧ ∀ a b, a < 8 → b < 8 → I' (57, 0) (8 * a + b) = nI (fw R a b))) 0 0 49 [some (pv_r 50 0), some (pv_i (nI k)), none, none] [pv_i x, pv_i (nI k), pv_r 57 0] (hC S D I1 J) := by
      intro x hx
      refine G.iastN rfl dX8_spreads_49 rfl hk ?_
      refine bX8_spreads_50.go rfl ?_
      have := ih (upI I1 (57, 0) k x) ⟨h1.up hk x, fun j h => by
        by_cases e : j = k
        · subst e; rw [upI_self, hx]
        · rw [upI_k e]; exact h2 j (by omega)⟩
      rw [← nI_1] at this
      exact this
    have v4 : I1 (54, 0) k = nI (R (k / 8) (k % 8)) := by rw [h1 (54, 0) k (by rintro ⟨z, -⟩; cases z)]; exact hI' k hk
    refine iX8_spreads_21 (fun c => ?_) (fun c => ?_)
    · have hab := nI_eq_f c
      refine bX8_spreads_28.go rfl ?_
      refine G.ialdN rfl dX8_spreads_33 rfl hk v4 ?_
      refine iX8_spreads_34 (fun c => ?_) (fun c => ?_)
      · refine bX8_spreads_43.go rfl ?_
        refine G.ialdN rfl dX8_spreads_48 rfl hk v4 ?_
        refine fin _ ?_
        have : ¬ R (k / 8) (k % 8) = 0 := fun z => c (by rw [z]; rfl)
        simp [fwn, fw0, hab, this]
      · refine bX8_spreads_37.go rfl ?_
        refine fin _ ?_
        have h9 := hR (k / 8) (k % 8)
        have : R (k / 8) (k % 8) = 0 := nI_eq_t (b := 0) c
        simp [fwn, fw0, hab, this]
        rfl
    · have hab : k / 8 = k % 8 := nI_eq_t c
      refine bX8_spreads_24.go rfl ?_
      refine fin _ ?_
      simp [fwn, fw0, hab]
      rfl
end TW
