/-! made: a rider of each kind; person -/
set_option maxRecDepth 100000
section MA
variable {Γ : Gm} {l : Launch}
theorem s_X10_init (d : Nat) (t i : Nat) (ht : t < 100) {ci : Nat} (hci : 2 ≤ ci ∧ ci < 8) (a b : Int32) (sh : Nm → Option Shp) (I : Nm → Nat → Int32) (J : Nm → Nat → Int64) (rf : Nm → Nat → Option Nm) (hn : sh (t, i) = some (.inl ci)) : GF Γ l MX10_init (d + 2) 0 0 [pv_r t i, pv_i a, pv_i b] (sh, I, J, rf) none (sh, upI (upI I (t, i) 0 a) (t, i) 1 b, J, rf) := by
  refine bX10_init_0.go rfl ?_
  refine G.callF (vX10_init_3 rfl) mk_X9_init (s_X9_init d t i ht hci a b sh I J rf hn) rfl ?_
  exact G.vret rfl dX10_init_6 ⟨rfl, rfl⟩
theorem s_X11_init (d : Nat) (t i : Nat) (ht : t < 100) {ci : Nat} (hci : 2 ≤ ci ∧ ci < 8) (a b : Int32) (sh : Nm → Option Shp) (I : Nm → Nat → Int32) (J : Nm → Nat → Int64) (rf : Nm → Nat → Option Nm) (hn : sh (t, i) = some (.inl ci)) : GF Γ l MX11_init (d + 2) 0 0 [pv_r t i, pv_i a, pv_i b] (sh, I, J, rf) none (sh, upI (upI I (t, i) 0 a) (t, i) 1 b, J, rf) := by
  refine bX11_init_0.go rfl ?_
  refine G.callF (vX11_init_3 rfl) mk_X9_init (s_X9_init d t i ht hci a b sh I J rf hn) rfl ?_
  exact G.vret rfl dX11_init_6 ⟨rfl, rfl⟩
theorem s_X14_init (d : Nat) (t i : Nat) (ht : t < 100) {ci : Nat} (hci : 2 ≤ ci ∧ ci < 8) (a b : Int32) (sh : Nm → Option Shp) (I : Nm → Nat → Int32) (J : Nm → Nat → Int64) (rf : Nm → Nat → Option Nm) (hn : sh (t, i) = some (.inl ci)) : GF Γ l MX14_init (d + 2) 0 0 [pv_r t i, pv_i a, pv_i b] (sh, I, J, rf) none (sh, upI (upI I (t, i) 0 a) (t, i) 1 b, J, rf) := by
  refine bX14_init_0.go rfl ?_
  refine G.callF (vX14_init_3 rfl) mk_X9_init (s_X9_init d t i ht hci a b sh I J rf hn) rfl ?_
  exact G.vret rfl dX14_init_6 ⟨rfl, rfl⟩
theorem s_X12_init (d : Nat) (t i : Nat) (ht : t < 100) {ci : Nat} (hci : 2 ≤ ci ∧ ci < 8) (a b : Int32) (sh : Nm → Option Shp) (I : Nm → Nat → Int32) (J : Nm → Nat → Int64) (rf : Nm → Nat → Option Nm) (hn : sh (t, i) = some (.inl ci)) : GF Γ l MX12_init (d + 3) 0 0 [pv_r t i, pv_i a, pv_i b] (sh, I, J, rf) none (sh, upI (upI I (t, i) 0 a) (t, i) 1 b, J, rf) := by
  refine bX12_init_0.go rfl ?_
  refine G.callF (vX12_init_3 rfl) mk_X10_init (s_X10_init d t i ht hci a b sh I J rf hn) rfl ?_
  exact G.vret rfl dX12_init_6 ⟨rfl, rfl⟩
theorem s_X13_init (d : Nat) (t i : Nat) (ht : t < 100) {ci : Nat} (hci : 2 ≤ ci ∧ ci < 8) (a b : Int32) (sh : Nm → Option Shp) (I : Nm → Nat → Int32) (J : Nm → Nat → Int64) (rf : Nm → Nat → Option Nm) (hn : sh (t, i) = some (.inl ci)) : GF Γ l MX13_init (d + 3) 0 0 [pv_r t i, pv_i a, pv_i b] (sh, I, J, rf) none (sh, upI (upI I (t, i) 0 a) (t, i) 1 b, J, rf) := by
  refine bX13_init_0.go rfl ?_
  refine G.callF (vX13_init_3 rfl) mk_X11_init (s_X11_init d t i ht hci a b sh I J rf hn) rfl ?_
  exact G.vret rfl dX13_init_6 ⟨rfl, rfl⟩
/-- the heap with a new rider -/
abbrev hRd (S : Nm → Option Shp) (D : Nm → Nat → Option Nm) (I : Nm → Nat → Int32) (J : Nm → Nat → Int64) (k j : Nat) (a b : Int32) : PH := hC (upS S (20, k) (.inl (2 + j))) (z0 D (20, k) none) (upI (upI (z0 I (20, k) 0) (20, k) 0 a) (20, k) 1 b) (z0 J (20, k) 0)
set_option maxHeartbeats 4000000 in
theorem s_made (d : Nat) (j : Nat) (hj : j ≤ 5) (a b : Int32) (k : Nat) (S : Nm → Option Shp) (D : Nm → Nat → Option Nm) (I : Nm → Nat → Int32) (J : Nm → Nat → Int64) (hk : S (20, k) = none) : GF Γ l MX0_made (d + 4) 1 3 [pv_i (nI j), pv_i a, pv_i b] (hC S D I J) (some (pv_r 20 k)) (hRd S D I J k j a b) := by
  refine GF.start (ls := [some (pv_i (nI j)), some (pv_i a), some (pv_i b)]) rfl ?_
  refine bX0_made_0.go rfl ?_
  have hd : dynT 20 := ⟨by decide, by decide⟩
  have hs : ∀ j, shp (upS S (20, k) (.inl (2 + j))) (20, k) = some (.inl (2 + j)) := fun j => by
    rw [shp_dyn _ hd]
    exact if_pos rfl
  match j, hj with
  | 0, _ =>
    refine G.tswO (tgt := 86) dX0_made_1 (by decide) (by decide) ?_
    refine G.new (20, k) (ci := 2) (q := (RX9, TX9, 3)) (by show shp S (20, k) = none; rw [shp_dyn S hd]; exact hk) rfl q250 q251 q149 dX0_made_86 ?_
    refine G.widen (k1 := 1) (n1 := 3) (Nat.le_refl 1) (Nat.le_refl 3) ?_
    rw [hN_hC hd]
    refine bX0_made_89.go rfl ?_
    refine G.callF (vX0_made_92 rfl) mk_X9_init (s_X9_init (d + 2) 20 k (by decide) (ci := 2) (by decide) a b _ _ _ _ (hs 0)) rfl ?_
    exact G.aret rfl (Or.inl ⟨_, rfl⟩) dX0_made_95 ⟨rfl, rfl⟩
  | 1, _ =>
    refine G.tswI (off := 35) (tgt := 36) dX0_made_1 (by decide) (by decide) rfl (by decide) ?_
    refine G.new (20, k) (ci := 3) (q := (RX10, TX10, 3)) (by show shp S (20, k) = none; rw [shp_dyn S hd]; exact hk) rfl q178 q179 q150 dX0_made_36 ?_
    refine G.widen (k1 := 1) (n1 := 3) (Nat.le_refl 1) (Nat.le_refl 3) ?_
    rw [hN_hC hd]
    refine bX0_made_39.go rfl ?_
    refine G.callF (vX0_made_42 rfl) mk_X10_init (s_X10_init (d + 1) 20 k (by decide) (ci := 3) (by decide) a b _ _ _ _ (hs 1)) rfl ?_
    exact G.aret rfl (Or.inl ⟨_, rfl⟩) dX0_made_45 ⟨rfl, rfl⟩
  | 2, _ =>
    refine G.tswI (off := 45) (tgt := 46) dX0_made_1 (by decide) (by decide) rfl (by decide) ?_
    refine G.new (20, k) (ci := 4) (q := (RX11, TX11, 3)) (by show shp S (20, k) = none; rw [shp_dyn S hd]; exact hk) rfl q210 q211 q151 dX0_made_46 ?_
    refine G.widen (k1 := 1) (n1 := 3) (Nat.le_refl 1) (Nat.le_refl 3) ?_
    rw [hN_hC hd]
    refine bX0_made_49.go rfl ?_
    refine G.callF (vX0_made_52 rfl) mk_X11_init (s_X11_init (d + 1) 20 k (by decide) (ci := 4) (by decide) a b _ _ _ _ (hs 2)) rfl ?_
    exact G.aret rfl (Or.inl ⟨_, rfl⟩) dX0_made_55 ⟨rfl, rfl⟩
  | 3, _ =>
    refine G.tswI (off := 55) (tgt := 56) dX0_made_1 (by decide) (by decide) rfl (by decide) ?_
    refine G.new (20, k) (ci := 5) (q := (RX12, TX12, 3)) (by show shp S (20, k) = none; rw [shp_dyn S hd]; exact hk) rfl q220 q221 q152 dX0_made_56 ?_
    refine G.widen (k1 := 1) (n1 := 3) (Nat.le_refl 1) (Nat.le_refl 3) ?_
    rw [hN_hC hd]
    refine bX0_made_59.go rfl ?_
    refine G.callF (vX0_made_62 rfl) mk_X12_init (s_X12_init (d + 0) 20 k (by decide) (ci := 5) (by decide) a b _ _ _ _ (hs 3)) rfl ?_
    exact G.aret rfl (Or.inl ⟨_, rfl⟩) dX0_made_65 ⟨rfl, rfl⟩
  | 4, _ =>
    refine G.tswI (off := 65) (tgt := 66) dX0_made_1 (by decide) (by decide) rfl (by decide) ?_
    refine G.new (20, k) (ci := 6) (q := (RX13, TX13, 3)) (by show shp S (20, k) = none; rw [shp_dyn S hd]; exact hk) rfl q230 q231 q153 dX0_made_66 ?_
    refine G.widen (k1 := 1) (n1 := 3) (Nat.le_refl 1) (Nat.le_refl 3) ?_
    rw [hN_hC hd]
    refine bX0_made_69.go rfl ?_
    refine G.callF (vX0_made_72 rfl) mk_X13_init (s_X13_init (d + 0) 20 k (by decide) (ci := 6) (by decide) a b _ _ _ _ (hs 4)) rfl ?_
    exact G.aret rfl (Or.inl ⟨_, rfl⟩) dX0_made_75 ⟨rfl, rfl⟩
  | 5, _ =>
    refine G.tswI (off := 75) (tgt := 76) dX0_made_1 (by decide) (by decide) rfl (by decide) ?_
    refine G.new (20, k) (ci := 7) (q := (RX14, TX14, 3)) (by show shp S (20, k) = none; rw [shp_dyn S hd]; exact hk) rfl q240 q241 q154 dX0_made_76 ?_
    refine G.widen (k1 := 1) (n1 := 3) (Nat.le_refl 1) (Nat.le_refl 3) ?_
    rw [hN_hC hd]
    refine bX0_made_79.go rfl ?_
    refine G.callF (vX0_made_82 rfl) mk_X14_init (s_X14_init (d + 1) 20 k (by decide) (ci := 7) (by decide) a b _ _ _ _ (hs 5)) rfl ?_
    exact G.aret rfl (Or.inl ⟨_, rfl⟩) dX0_made_85 ⟨rfl, rfl⟩
end MA
