/-! the twin: roads -/
set_option maxRecDepth 100000
theorem xroad_at {X : XT} {a b v x y : Nat} (ha : a < 8) (hb : b < 8) (hx : x < 8) (hy : y < 8) : xRoad (xroad X a b v) x y = if (x = a ∧ y = b) ∨ (x = b ∧ y = a) then v else xRoad X x y := by
  unfold xroad
  simp only [xRoad, xt]
  by_cases h1 : x = b ∧ y = a
  · rw [if_pos (Or.inr h1), if_pos ⟨trivial, by omega⟩]
  · rw [if_neg (by rintro ⟨-, z⟩; exact h1 (by omega))]
    by_cases h2 : x = a ∧ y = b
    · rw [if_pos (Or.inl h2), if_pos ⟨trivial, by omega⟩]
    · rw [if_neg (by rintro ⟨-, z⟩; exact h2 (by omega)), if_neg (by rintro (z | z); exact h2 z; exact h1 z)]
theorem xroad_le {X : XT} {a b v : Nat} (h : ∀ k, X.2.1 0 k ≤ 99) (hv : v ≤ 99) (k : Nat) : (xroad X a b v).2.1 0 k ≤ 99 := by
  unfold xroad
  simp only [xt]
  split
  · exact hv
  · split
    · exact hv
    · exact h k
section TW
variable {Γ : Gm} {l : Launch}
set_option maxHeartbeats 1000000 in
theorem t_far (d : Nat) (a b : Int32) (S : Nm → Option Shp) (D : Nm → Nat → Option Nm) (I : Nm → Nat → Int32) (J : Nm → Nat → Int64) {X : XT} (hX : ∀ k, X.2.1 0 k ≤ 99) (hR : TwR X I) : GF Γ l MX8_far (d + 2) 0 0 [pv_r 50 0, pv_i a, pv_i b] (hC S D I J) (some (pv_i (q_far X a b))) (hC S D I J) := by
  refine GF.start (ls := [some (pv_r 50 0), some (pv_i a), some (pv_i b), none]) rfl ?_
  have bad : ¬ (inR a 0 7 ∧ inR b 0 7) → G Γ l MX8_far (d + 2) 0 0 (rq (fun v h' => v = some (pv_i (q_far X a b)) ∧ h' = hC S D I J)) 0 0 14 [some (pv_r 50 0), some (pv_i a), some (pv_i b), none] [] (hC S D I J) := by
    intro hb
    refine bX8_far_14.go rfl ?_
    exact G.iret rfl rfl dX8_far_16 ⟨by rw [q_far, if_neg hb], rfl⟩
  refine bX8_far_0.go rfl ?_
  refine G.callF (vX8_far_1 rfl) mk_X8_isPlace (t_isPlace d _ _) rfl ?_
  refine iX8_far_4 (fun c => bad (fun z => bi_0.mp c z.1)) (fun c => ?_)
  have ha : inR a 0 7 := Decidable.not_not.mp (fun z => c (bi_0.mpr z))
  refine bX8_far_7.go rfl ?_
  refine G.callF (vX8_far_8 rfl) mk_X8_isPlace (t_isPlace d _ _) rfl ?_
  refine iX8_far_11 (fun c => ?_) (fun c => bad (fun z => bi_0.mp c z.2))
  have hb : inR b 0 7 := Decidable.not_not.mp (fun z => c (bi_0.mpr z))
  obtain ⟨ea, la⟩ := inR_iN ha
  obtain ⟨eb, lb⟩ := inR_iN hb
  have hf := fw_le (xRoad X) (fun x y => hX _) 8 (iN a) (iN b)
  refine bX8_far_17.go rfl ?_
  refine G.ialdN rfl dX8_far_27 (j := 8 * iN a + iN b) (by rw [← nI_add, ← pk_mul, ← ea, ← eb]; rfl) (by omega) (hR.2 _ _ (by omega) (by omega)) ?_
  refine bX8_far_28.go rfl ?_
  refine iX8_far_33 (fun c => ?_) (fun c => ?_)
  · refine bX8_far_40.go rfl ?_
    refine G.iret rfl rfl dX8_far_41 ⟨?_, rfl⟩
    rw [q_far, if_pos ⟨ha, hb⟩, if_neg (fun z => c (by rw [z]; rfl))]
  · refine bX8_far_36.go rfl ?_
    refine G.iret rfl rfl dX8_far_41 ⟨?_, rfl⟩
    rw [q_far, if_pos ⟨ha, hb⟩, if_pos (nI_eq_t (b := 999) c (by show fw _ _ _ < _; unfold fw; omega) (by decide))]
/-- what the twin's roads and ways may change -/
def oTR (I I' : Nm → Nat → Int32) : Prop := ∀ n k, ¬ (n = (54, 0)) → ¬ (n = (57, 0)) → I' n k = I n k
set_option maxHeartbeats 1000000 in
theorem t_lays1 (d : Nat) (a b v : Nat) (ha : a < 8) (hb : b < 8) (hv : v ≤ 99) (S : Nm → Option Shp) (D : Nm → Nat → Option Nm) (I : Nm → Nat → Int32) (J : Nm → Nat → Int64) {X : XT} (hX : ∀ k, X.2.1 0 k ≤ 99) (hR : ∀ k, k < 64 → I (54, 0) k = nI (X.2.1 0 k)) :
    GR Γ l MX8_lays1 (d + 2) 0 0 [pv_r 50 0, pv_i (nI a), pv_i (nI b), pv_i (nI v)] (hC S D I J) (fun w h' => w = none ∧ ∃ I', h' = hC S D I' J ∧ oTR I I' ∧ TwR (xroad X a b v) I') := by
  refine GR.start (ls := [some (pv_r 50 0), some (pv_i (nI a)), some (pv_i (nI b)), some (pv_i (nI v))]) rfl ?_
  refine bX8_lays1_0.go rfl ?_
  refine G.iastN rfl dX8_lays1_11 (j := 8 * a + b) (by rw [← nI_add, ← pk_mul]; rfl) (by omega) ?_
  refine bX8_lays1_12.go rfl ?_
  refine G.iastN rfl dX8_lays1_23 (j := 8 * b + a) (by rw [← nI_add, ← pk_mul]; rfl) (by omega) ?_
  refine bX8_lays1_24.go rfl ?_
  have h54 : ∀ k, k < 64 → upI (upI I (54, 0) (8 * a + b) (nI v)) (54, 0) (8 * b + a) (nI v) (54, 0) k = nI ((xroad X a b v).2.1 0 k) := by
    intro k hk
    unfold xroad
    simp only [xt, upI_at, true_and]
    by_cases h1 : k = 8 * b + a
    · simp only [if_pos h1]
    · by_cases h2 : k = 8 * a + b
      · simp only [if_neg h1, if_pos h2]
      · simp only [if_neg h1, if_neg h2]
        exact hR k hk
  refine G.callR (vX8_lays1_25 rfl rfl) mk_X8_spreads (t_spreads d S D _ J (xRoad (xroad X a b v)) (fun x y => xroad_le hX hv _) (fun x y hx hy => h54 _ (by omega))) rfl (fun w h' hq => ?_)
  obtain ⟨rfl, I', rfl, ho, hw⟩ := hq
  refine G.vret rfl dX8_lays1_28 ⟨rfl, I', rfl, fun n k h1 h2 => ?_, fun k hk => ?_, hw⟩
  · rw [ho n k (fun z => h2 z.1), upI_nm h1, upI_nm h1]
  · rw [ho (54, 0) k (by rintro ⟨z, -⟩; cases z)]
    exact h54 k hk
set_option maxHeartbeats 1000000 in
theorem t_road (d : Nat) (a b m : Int32) (S : Nm → Option Shp) (D : Nm → Nat → Option Nm) (I : Nm → Nat → Int32) (J : Nm → Nat → Int64) {X : XT} (hX : ∀ k, X.2.1 0 k ≤ 99) (hR : TwR X I) :
    GR Γ l MX8_road (d + 3) 0 0 [pv_r 50 0, pv_i a, pv_i b, pv_i m] (hC S D I J) (fun w h' => w = some (pv_i (q_road X a b m).2) ∧ ∃ I', h' = hC S D I' J ∧ oTR I I' ∧ TwR (q_road X a b m).1 I') := by
  refine GR.start (ls := [some (pv_r 50 0), some (pv_i a), some (pv_i b), some (pv_i m), none]) rfl ?_
  have bad : ¬ ok_road a b m → G Γ l MX8_road (d + 3) 0 0 (rq (fun w h' => w = some (pv_i (q_road X a b m).2) ∧ ∃ I', h' = hC S D I' J ∧ oTR I I' ∧ TwR (q_road X a b m).1 I')) 0 0 31 [some (pv_r 50 0), some (pv_i a), some (pv_i b), some (pv_i m), none] [] (hC S D I J) := by
    intro hb
    refine bX8_road_31.go rfl ?_
    refine G.iret rfl rfl dX8_road_33 ?_
    rw [q_road, if_neg hb]
    exact ⟨rfl, I, rfl, fun _ _ _ _ => rfl, hR⟩
  refine bX8_road_0.go rfl ?_
  refine G.callF (vX8_road_1 rfl) mk_X8_isPlace (t_isPlace d _ _) rfl ?_
  refine iX8_road_4 (fun c => bad (fun z => bi_0.mp c z.1)) (fun c => ?_)
  have ha : inR a 0 7 := Decidable.not_not.mp (fun z => c (bi_0.mpr z))
  refine bX8_road_7.go rfl ?_
  refine G.callF (vX8_road_8 rfl) mk_X8_isPlace (t_isPlace d _ _) rfl ?_
  refine iX8_road_11 (fun c => bad (fun z => bi_0.mp c z.2.1)) (fun c => ?_)
  have hb : inR b 0 7 := Decidable.not_not.mp (fun z => c (bi_0.mpr z))
  refine bX8_road_14.go rfl ?_
  refine iX8_road_16 (fun c => bad (fun z => z.2.2.1 c)) (fun hne => ?_)
  refine bX8_road_19.go rfl ?_
  refine G.callF (vX8_road_25 rfl) mk_X8_in (t_inR (d := d) rfl rfl) rfl ?_
  refine iX8_road_28 (fun c => ?_) (fun c => bad (fun z => bi_0.mp c z.2.2.2))
  have hm : inR m 0 99 := Decidable.not_not.mp (fun z => c (bi_0.mpr z))
  obtain ⟨ea, la⟩ := inR_iN ha
  obtain ⟨eb, lb⟩ := inR_iN hb
  obtain ⟨em, lm⟩ := inR_iN hm
  refine bX8_road_34.go rfl ?_
  refine G.ialdN rfl dX8_road_44 (j := 8 * iN a + iN b) (by rw [← nI_add, ← pk_mul, ← ea, ← eb]; rfl) (by omega) (hR.1 _ (by omega)) ?_
  refine bX8_road_45.go rfl ?_
  refine G.callR (vX8_road_51 rfl rfl) mk_X8_lays1 (t_lays1 d (iN a) (iN b) (iN m) (by omega) (by omega) (by omega) S D I J hX hR.1) (by rw [← ea, ← eb, ← em]; rfl) (fun w h' hq => ?_)
  obtain ⟨rfl, I', rfl, ho, hw⟩ := hq
  refine bX8_road_54.go rfl ?_
  refine G.iret rfl rfl dX8_road_56 ?_
  rw [q_road, if_pos ⟨ha, hb, hne, hm⟩]
  exact ⟨rfl, I', rfl, ho, hw⟩
end TW
