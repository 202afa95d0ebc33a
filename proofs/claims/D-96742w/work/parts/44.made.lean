/-! new riders -/
set_option maxRecDepth 100000
/-- what is made as the calls go: tags 20 to 49; where a reference is written as the calls go -/
def dynT (t : Nat) : Prop := 20 ≤ t ∧ t < 50
def upS (S : Nm → Option Shp) (n : Nm) (sp : Shp) : Nm → Option Shp := fun a => if a = n then some sp else S a
def z0 {α : Type} (I : Nm → Nat → α) (n : Nm) (x : α) : Nm → Nat → α := fun a b => if a = n then x else I a b
theorem shp_dyn (S : Nm → Option Shp) {t : Nat} (h : dynT t) (i : Nat) : shp S (t, i) = S (t, i) := by
  obtain ⟨h1, h2⟩ := h
  unfold shp
  split <;> first | rfl | (exfalso; simp only at *; omega)
theorem rfs_dyn (D : Nm → Nat → Option Nm) {t : Nat} (h : dynT t) (i k : Nat) : rfs D (t, i) k = D (t, i) k := by
  obtain ⟨h1, h2⟩ := h
  unfold rfs
  split <;> first | rfl | (exfalso; simp only at *; omega)
theorem shp_congr {S S' : Nm → Option Shp} {a : Nm} (h : S' a = S a) : shp S' a = shp S a := by
  unfold shp
  split <;> first | rfl | exact h
theorem rfs_congr {D D' : Nm → Nat → Option Nm} {a : Nm} {k : Nat} (h : D' a k = D a k) : rfs D' a k = rfs D a k := by
  unfold rfs
  split <;> first | rfl | exact h
theorem hN_hC {S : Nm → Option Shp} {D : Nm → Nat → Option Nm} {I : Nm → Nat → Int32} {J : Nm → Nat → Int64} {n : Nm} (hn : dynT n.1) (sp : Shp) : hN (hC S D I J) n sp = hC (upS S n sp) (z0 D n none) (z0 I n 0) (z0 J n 0) := by
  unfold hN hC
  have e1 : (fun a => if a = n then some sp else shp S a) = shp (upS S n sp) := by
    funext a
    by_cases h : a = n
    · subst h
      rw [if_pos rfl, show a = (a.1, a.2) from rfl, shp_dyn _ hn]
      exact (if_pos rfl).symm
    · rw [if_neg h]
      exact (shp_congr (if_neg h)).symm
  have e2 : (fun a b => if a = n then none else rfs D a b) = rfs (z0 D n none) := by
    funext a b
    by_cases h : a = n
    · subst h
      rw [if_pos rfl, show a = (a.1, a.2) from rfl, rfs_dyn _ hn]
      exact (if_pos rfl).symm
    · rw [if_neg h]
      exact (rfs_congr (if_neg h)).symm
  rw [← e1, ← e2]
  rfl
/-- references that are written as the calls go -/
def dynR (t : Nat) : Prop := t = 1 ∨ t = 5 ∨ t = 19 ∨ dynT t
theorem rfs_dynR (D : Nm → Nat → Option Nm) {t : Nat} (h : dynR t) (i k : Nat) : rfs D (t, i) k = D (t, i) k := by
  rcases h with rfl | rfl | rfl | h
  · rfl
  · rfl
  · rfl
  · exact rfs_dyn D h i k
theorem hR_hC {S : Nm → Option Shp} {D : Nm → Nat → Option Nm} {I : Nm → Nat → Int32} {J : Nm → Nat → Int64} {n : Nm} (hn : dynR n.1) (k : Nat) (x : Option Nm) : hR (hC S D I J) n k x = hC S (upR D n k x) I J := by
  unfold hR hC
  have e2 : (fun a b => if a = n ∧ b = k then x else rfs D a b) = rfs (upR D n k x) := by
    funext a b
    by_cases h : a = n ∧ b = k
    · obtain ⟨h1, h2⟩ := h
      subst h1
      subst h2
      rw [if_pos ⟨rfl, rfl⟩, show a = (a.1, a.2) from rfl, rfs_dynR _ hn]
      exact (if_pos ⟨rfl, rfl⟩).symm
    · rw [if_neg h]
      exact (rfs_congr (if_neg h)).symm
  rw [← e2]
theorem hI_hC {S : Nm → Option Shp} {D : Nm → Nat → Option Nm} {I : Nm → Nat → Int32} {J : Nm → Nat → Int64} {n : Nm} (k : Nat) (x : Int32) : hI (hC S D I J) n k x = hC S D (upI I n k x) J := rfl
theorem fin_R (Y : Mth) (idx k : Nat) {ci : Nat} (h : 2 ≤ ci ∧ ci < 8) (hk : k < 3) : FinOk Y idx k ci := by
  intro q hq
  match ci, h with
  | 2, _ => cases hq; match k, hk with | 0, _ => exact Or.inl rfl | 1, _ => exact Or.inl rfl | 2, _ => exact Or.inl rfl
  | 3, _ => cases hq; match k, hk with | 0, _ => exact Or.inl rfl | 1, _ => exact Or.inl rfl | 2, _ => exact Or.inl rfl
  | 4, _ => cases hq; match k, hk with | 0, _ => exact Or.inl rfl | 1, _ => exact Or.inl rfl | 2, _ => exact Or.inl rfl
  | 5, _ => cases hq; match k, hk with | 0, _ => exact Or.inl rfl | 1, _ => exact Or.inl rfl | 2, _ => exact Or.inl rfl
  | 6, _ => cases hq; match k, hk with | 0, _ => exact Or.inl rfl | 1, _ => exact Or.inl rfl | 2, _ => exact Or.inl rfl
  | 7, _ => cases hq; match k, hk with | 0, _ => exact Or.inl rfl | 1, _ => exact Or.inl rfl | 2, _ => exact Or.inl rfl
theorem fty_R {ci k : Nat} (h : 2 ≤ ci ∧ ci < 8) : fty ci k = .int := by
  match ci, h with
  | 2, _ => show tyX9 k = _; unfold tyX9; split <;> rfl
  | 3, _ => show tyX10 k = _; unfold tyX10; split <;> rfl
  | 4, _ => show tyX11 k = _; unfold tyX11; split <;> rfl
  | 5, _ => show tyX12 k = _; unfold tyX12; split <;> rfl
  | 6, _ => show tyX13 k = _; unfold tyX13; split <;> rfl
  | 7, _ => show tyX14 k = _; unfold tyX14; split <;> rfl
theorem fkd_R {ci k : Nat} (h : 2 ≤ ci ∧ ci < 8) : fkd ci k = 0 := by
  show fkT (fty ci k) = 0
  rw [fty_R h]
  rfl
section MD
variable {Γ : Gm} {l : Launch}
section RW
variable {Y : Mth} {d mc ms : Nat} {Q : PO → PH → Prop} {k0 n0 pc : Nat} {ls : PLs} {st stk : List PV} {h : PH}
/-- a rider's field read, written -/
theorem G.getRd {n : Nm} {ci k idx : Nat} {x : Int32} (hn : h.1 n = some (.inl ci)) (hci : 2 ≤ ci ∧ ci < 8) (F : FldOk Y.1.cls idx k ci) (hd : decode Y.2.1 pc = .ok (.getfield idx, 3)) (hx : h.2.1 n k = x) (kk : G Γ l Y d mc ms Q k0 n0 (pc + 3) ls (.inl x :: st) h) : G Γ l Y d mc ms Q k0 n0 pc ls (.inr (.inr (some n)) :: st) h := by
  subst hx
  exact G.getI hn (fkd_R hci) F hd kk
theorem G.putRd {sh : Nm → Option Shp} {I : Nm → Nat → Int32} {J : Nm → Nat → Int64} {rf : Nm → Nat → Option Nm} {n : Nm} {ci k idx : Nat} {x : Int32} (hn : sh n = some (.inl ci)) (hci : 2 ≤ ci ∧ ci < 8) (hk : k < 3) (F : FldOk Y.1.cls idx k ci) (hd : decode Y.2.1 pc = .ok (.putfield idx, 3)) (kk : G Γ l Y d mc ms Q k0 n0 (pc + 3) ls st (sh, upI I n k x, J, rf)) (ht : n.1 < 100 := by exact Nat.le_of_ble_eq_true rfl) : G Γ l Y d mc ms Q k0 n0 pc ls (.inl x :: .inr (.inr (some n)) :: st) (sh, I, J, rf) :=
  G.putI hn ht (fkd_R hci) (by rw [fty_R hci]; exact ⟨rfl, rfl⟩) F (fin_R Y idx k hci hk) hd kk
end RW
theorem s_X9_init (d : Nat) (t i : Nat) (ht : t < 100) {ci : Nat} (hci : 2 ≤ ci ∧ ci < 8) (a b : Int32) (sh : Nm → Option Shp) (I : Nm → Nat → Int32) (J : Nm → Nat → Int64) (rf : Nm → Nat → Option Nm) (hn : sh (t, i) = some (.inl ci)) : GF Γ l MX9_init (d + 1) 0 0 [pv_r t i, pv_i a, pv_i b] (sh, I, J, rf) none (sh, upI (upI I (t, i) 0 a) (t, i) 1 b, J, rf) := by
  refine GF.start (ls := [some (pv_r t i), some (pv_i a), some (pv_i b)]) rfl ?_
  refine bX9_init_0.go rfl ?_
  refine G.objInit q186 q187 q188 dX9_init_1 ?_
  refine bX9_init_4.go rfl ?_
  refine G.putRd hn hci (by decide) (fkR_X9_7 hci) dX9_init_6 ?_ ht
  refine bX9_init_9.go rfl ?_
  refine G.putRd hn hci (by decide) (fkR_X9_13 hci) dX9_init_11 ?_ ht
  exact G.vret rfl dX9_init_14 ⟨rfl, rfl⟩
theorem s_X9_like (d : Nat) (t i t' i' : Nat) (ht : t < 100) {ci cj : Nat} (hci : 2 ≤ ci ∧ ci < 8) (hcj : 2 ≤ cj ∧ cj < 8) (sh : Nm → Option Shp) (I : Nm → Nat → Int32) (J : Nm → Nat → Int64) (rf : Nm → Nat → Option Nm) (hn : sh (t, i) = some (.inl ci)) (hn' : sh (t', i') = some (.inl cj)) : GF Γ l MX9_like d 0 0 [pv_r t i, pv_r t' i'] (sh, I, J, rf) (some (pv_r t i)) (sh, upI I (t, i) 2 (I (t', i') 2), J, rf) := by
  refine GF.start (ls := [some (pv_r t i), some (pv_r t' i')]) rfl ?_
  refine bX9_like_0.go rfl ?_
  refine G.getRd hn' hcj (fkR_X9_16 hcj) dX9_like_2 rfl ?_
  refine G.putRd hn hci (by decide) (fkR_X9_16 hci) dX9_like_5 ?_ ht
  refine bX9_like_8.go rfl ?_
  exact G.aret rfl (Or.inl ⟨_, rfl⟩) dX9_like_9 ⟨rfl, rfl⟩
end MD
