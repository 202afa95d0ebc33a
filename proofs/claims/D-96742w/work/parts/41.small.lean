/-! small methods of the class -/
set_option maxRecDepth 100000
def imax (a b : Int32) : Int32 := if a < b then b else a
def imin (a b : Int32) : Int32 := if b < a then b else a
section SM
variable {Γ : Gm} {l : Launch}
theorem s_max (d : Nat) (a b : Int32) (h : PH) : GF Γ l MJ7_max d 0 0 [pv_i a, pv_i b] h (some (pv_i (imax a b))) h := by
  refine bJ7_max_0.go rfl ?_
  refine iJ7_max_2 (fun c => ?_) (fun c => ?_)
  · refine bJ7_max_9.go rfl ?_
    exact G.iret rfl rfl dJ7_max_10 ⟨by rw [imax, if_pos c], rfl⟩
  · refine bJ7_max_5.go rfl ?_
    exact G.iret rfl rfl dJ7_max_10 ⟨by rw [imax, if_neg c], rfl⟩
theorem s_min (d : Nat) (a b : Int32) (h : PH) : GF Γ l MJ7_min d 0 0 [pv_i a, pv_i b] h (some (pv_i (imin a b))) h := by
  refine bJ7_min_0.go rfl ?_
  refine iJ7_min_2 (fun c => ?_) (fun c => ?_)
  · refine bJ7_min_9.go rfl ?_
    exact G.iret rfl rfl dJ7_min_10 ⟨by rw [imin, if_pos c], rfl⟩
  · refine bJ7_min_5.go rfl ?_
    exact G.iret rfl rfl dJ7_min_10 ⟨by rw [imin, if_neg c], rfl⟩
theorem s_in (d : Nat) (v a b : Int64) (h : PH) : GF Γ l MX0_in d 0 0 [pv_l v, pv_l a, pv_l b] h (some (pv_i (bi (a ≤ v ∧ v ≤ b)))) h := by
  refine bX0_in_0.go rfl ?_
  refine iX0_in_3 (fun c => ?_) (fun c => ?_)
  · refine bX0_in_17.go rfl ?_
    refine G.iret rfl rfl dX0_in_18 ⟨?_, rfl⟩
    rw [lg_cmp_lt] at c
    rw [bi_f]
    intro z
    exact absurd c (Int64.not_lt.mpr z.1)
  · refine bX0_in_6.go rfl ?_
    refine iX0_in_10 (fun c2 => ?_) (fun c2 => ?_)
    · refine bX0_in_17.go rfl ?_
      refine G.iret rfl rfl dX0_in_18 ⟨?_, rfl⟩
      rw [lg_cmp_gt] at c2
      rw [bi_f]
      intro z
      exact absurd c2 (Int64.not_lt.mpr z.2)
    · refine bX0_in_13.go rfl ?_
      refine G.iret rfl rfl dX0_in_18 ⟨?_, rfl⟩
      rw [lg_cmp_lt] at c
      rw [lg_cmp_gt] at c2
      rw [bi_t ⟨Int64.not_lt.mp c, Int64.not_lt.mp c2⟩]
theorem s_isPlace (d : Nat) (t : Int32) (h : PH) : GF Γ l MX0_isPlace (d + 1) 0 0 [pv_i t] h (some (pv_i (bi (0 ≤ t.toInt64 ∧ t.toInt64 ≤ 7)))) h := by
  refine bX0_isPlace_0.go rfl ?_
  refine G.callF (vX0_isPlace_6 rfl) mk_X0_in (s_in d _ _ _ _) rfl ?_
  exact G.iret rfl bi_n dX0_isPlace_9 ⟨rfl, rfl⟩
theorem s_isOne (d : Nat) (p : Int32) (S : Nm → Option Shp) (D : Nm → Nat → Option Nm) (I : Nm → Nat → Int32) (J : Nm → Nat → Int64) : GF Γ l MX0_isOne (d + 1) 0 0 [pv_r 0 0, pv_i p] (hC S D I J) (some (pv_i (bi (0 ≤ p.toInt64 ∧ p.toInt64 ≤ (I (0, 0) 1 - 1).toInt64)))) (hC S D I J) := by
  refine bX0_isOne_0.go rfl ?_
  refine G.callF (vX0_isOne_10 rfl) mk_X0_in (s_in d _ _ _ _) rfl ?_
  exact G.iret rfl bi_n dX0_isOne_13 ⟨rfl, rfl⟩
theorem s_held (d : Nat) (v m : Int32) (h : PH) : GF Γ l MX0_held (d + 1) 0 0 [pv_i v, pv_i m] h (some (pv_i (imax 0 (imin m v)))) h := by
  refine bX0_held_0.go rfl ?_
  refine G.callF (vX0_held_3 rfl) mk_J7_min (s_min d _ _ _) rfl ?_
  refine G.callF (vX0_held_6 rfl) mk_J7_max (s_max d _ _ _) rfl ?_
  exact G.iret rfl rfl dX0_held_9 ⟨rfl, rfl⟩
end SM
