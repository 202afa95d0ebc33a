/-! riders: what each kind says -/
set_option maxRecDepth 100000
section RD
variable {Γ : Gm} {l : Launch}
theorem s_X9_kind (d : Nat) (n : Nm) (h : PH) : GF Γ l MX9_kind d 0 0 [pv_q (some n)] h (some (pv_i 0)) h := by
  refine bX9_kind_0.go rfl ?_
  exact G.iret rfl rfl dX9_kind_1 ⟨rfl, rfl⟩
theorem s_X9_pull (d : Nat) (n : Nm) (v f t : Int32) (h : PH) : GF Γ l MX9_pull d 0 0 [pv_q (some n), pv_i v, pv_i f, pv_i t] h (some (pv_i v)) h := by
  refine bX9_pull_0.go rfl ?_
  exact G.iret rfl rfl dX9_pull_1 ⟨rfl, rfl⟩
theorem s_X9_mood (d : Nat) (n : Nm) (v : Int32) (h : PH) : GF Γ l MX9_mood d 0 0 [pv_q (some n), pv_i v] h (some (pv_i v)) h := by
  refine bX9_mood_0.go rfl ?_
  exact G.iret rfl rfl dX9_mood_1 ⟨rfl, rfl⟩
theorem s_X9_hasEnough (d : Nat) (n : Nm) (y : Prop) [Decidable y] (s : Int32) (h : PH) : GF Γ l MX9_hasEnough d 0 0 [pv_q (some n), pv_i (bi y), pv_i s] h (some (pv_i (bi y))) h := by
  refine bX9_hasEnough_0.go rfl ?_
  exact G.iret rfl bi_n dX9_hasEnough_1 ⟨rfl, rfl⟩
section K1
variable (d : Nat) (n : Nm) {ci : Nat} (h : PH) (hn : h.1 n = some (.inl ci))
theorem s_X10_kind (hn : h.1 n = some (.inl ci)) : GF Γ l MX10_kind (d + 1) 0 0 [pv_q (some n)] h (some (pv_i 1)) h := by
  refine bX10_kind_0.go rfl ?_
  refine G.callF (vX10_kind_1 rfl hn) mk_X9_kind (s_X9_kind d n h) rfl ?_
  refine bX10_kind_4.go rfl ?_
  exact G.iret rfl rfl dX10_kind_6 ⟨rfl, rfl⟩
theorem s_X11_kind (hn : h.1 n = some (.inl ci)) : GF Γ l MX11_kind (d + 1) 0 0 [pv_q (some n)] h (some (pv_i 2)) h := by
  refine bX11_kind_0.go rfl ?_
  refine G.callF (vX11_kind_1 rfl hn) mk_X9_kind (s_X9_kind d n h) rfl ?_
  refine bX11_kind_4.go rfl ?_
  exact G.iret rfl rfl dX11_kind_6 ⟨rfl, rfl⟩
theorem s_X12_kind (hn : h.1 n = some (.inl ci)) : GF Γ l MX12_kind (d + 2) 0 0 [pv_q (some n)] h (some (pv_i 3)) h := by
  refine bX12_kind_0.go rfl ?_
  refine G.callF (vX12_kind_1 rfl hn) mk_X10_kind (s_X10_kind d n h hn) rfl ?_
  refine bX12_kind_4.go rfl ?_
  exact G.iret rfl rfl dX12_kind_6 ⟨rfl, rfl⟩
theorem s_X13_kind (hn : h.1 n = some (.inl ci)) : GF Γ l MX13_kind (d + 2) 0 0 [pv_q (some n)] h (some (pv_i 4)) h := by
  refine bX13_kind_0.go rfl ?_
  refine G.callF (vX13_kind_1 rfl hn) mk_X11_kind (s_X11_kind d n h hn) rfl ?_
  refine bX13_kind_4.go rfl ?_
  exact G.iret rfl rfl dX13_kind_6 ⟨rfl, rfl⟩
theorem s_X14_kind (hn : h.1 n = some (.inl ci)) : GF Γ l MX14_kind (d + 1) 0 0 [pv_q (some n)] h (some (pv_i 5)) h := by
  refine bX14_kind_0.go rfl ?_
  refine G.callF (vX14_kind_1 rfl hn) mk_X9_kind (s_X9_kind d n h) rfl ?_
  refine bX14_kind_4.go rfl ?_
  exact G.iret rfl rfl dX14_kind_6 ⟨rfl, rfl⟩
def pl1 (v f : Int32) : Int32 := if f = 0 then v / 2 else v
theorem s_X10_pull (v f t : Int32) (hn : h.1 n = some (.inl ci)) : GF Γ l MX10_pull (d + 1) 0 0 [pv_q (some n), pv_i v, pv_i f, pv_i t] h (some (pv_i (pl1 v f))) h := by
  refine bX10_pull_0.go rfl ?_
  refine iX10_pull_1 (fun c => ?_) (fun c => ?_)
  · refine bX10_pull_14.go rfl ?_
    refine G.callF (vX10_pull_18 rfl hn) mk_X9_pull (s_X9_pull d n v f t h) rfl ?_
    refine bX10_pull_21.go rfl ?_
    refine G.idiv (by decide) dX10_pull_22 ?_
    exact G.iret rfl rfl dX10_pull_23 ⟨by rw [pl1, if_pos c], rfl⟩
  · refine bX10_pull_4.go rfl ?_
    refine G.callF (vX10_pull_8 rfl hn) mk_X9_pull (s_X9_pull d n v f t h) rfl ?_
    refine bX10_pull_11.go rfl ?_
    exact G.iret rfl rfl dX10_pull_23 ⟨by rw [pl1, if_neg c], rfl⟩
theorem s_X11_pull (v f t : Int32) (hn : h.1 n = some (.inl ci)) (hc : ci = 4 ∨ ci = 6) : GF Γ l MX11_pull (d + 1) 0 0 [pv_q (some n), pv_i v, pv_i f, pv_i t] h (some (pv_i (v + h.2.1 n 0))) h := by
  refine bX11_pull_0.go rfl ?_
  refine G.callF (vX11_pull_4 rfl hn) mk_X9_pull (s_X9_pull d n v f t h) rfl ?_
  refine bX11_pull_7.go rfl ?_
  rcases hc with e | e
  · subst e
    refine G.getI hn rfl fk_X11_15_4 dX11_pull_8 ?_
    refine bX11_pull_11.go rfl ?_
    exact G.iret rfl rfl dX11_pull_12 ⟨rfl, rfl⟩
  · subst e
    refine G.getI hn rfl fk_X11_15_6 dX11_pull_8 ?_
    refine bX11_pull_11.go rfl ?_
    exact G.iret rfl rfl dX11_pull_12 ⟨rfl, rfl⟩
theorem s_X12_pull (v f t : Int32) (hn : h.1 n = some (.inl ci)) : GF Γ l MX12_pull (d + 2) 0 0 [pv_q (some n), pv_i v, pv_i f, pv_i t] h (some (pv_i (if 12 ≤ t then pl1 v f else 2 * pl1 v f))) h := by
  refine bX12_pull_0.go rfl ?_
  refine iX12_pull_3 (fun c => ?_) (fun c => ?_)
  · refine bX12_pull_18.go rfl ?_
    refine G.callF (vX12_pull_22 rfl hn) mk_X10_pull (s_X10_pull d n h v f t hn) rfl ?_
    exact G.iret rfl rfl dX12_pull_25 ⟨by rw [if_pos c], rfl⟩
  · refine bX12_pull_6.go rfl ?_
    refine G.callF (vX12_pull_11 rfl hn) mk_X10_pull (s_X10_pull d n h v f t hn) rfl ?_
    refine bX12_pull_14.go rfl ?_
    exact G.iret rfl rfl dX12_pull_25 ⟨by rw [if_neg c], rfl⟩
theorem s_X13_pull (v f t : Int32) (hn : h.1 n = some (.inl 6)) : GF Γ l MX13_pull (d + 2) 0 0 [pv_q (some n), pv_i v, pv_i f, pv_i t] h (some (pv_i (if f = 0 then v + h.2.1 n 0 + 10 else 0))) h := by
  refine bX13_pull_0.go rfl ?_
  refine iX13_pull_1 (fun c => ?_) (fun c => ?_)
  · refine bX13_pull_8.go rfl ?_
    refine G.callF (vX13_pull_12 rfl hn) mk_X11_pull (s_X11_pull d n h v f t hn (Or.inr rfl)) rfl ?_
    refine bX13_pull_15.go rfl ?_
    exact G.iret rfl rfl dX13_pull_18 ⟨by rw [if_pos c], rfl⟩
  · refine bX13_pull_4.go rfl ?_
    exact G.iret rfl rfl dX13_pull_18 ⟨by rw [if_neg c], rfl⟩
theorem s_X14_pull (v f t : Int32) : GF Γ l MX14_pull d 0 0 [pv_q (some n), pv_i v, pv_i f, pv_i t] h (some (pv_i 1)) h := by
  refine bX14_pull_0.go rfl ?_
  exact G.iret rfl rfl dX14_pull_1 ⟨rfl, rfl⟩
theorem s_X10_mood (v : Int32) (hn : h.1 n = some (.inl ci)) : GF Γ l MX10_mood (d + 1) 0 0 [pv_q (some n), pv_i v] h (some (pv_i (v - 3))) h := by
  refine bX10_mood_0.go rfl ?_
  refine G.callF (vX10_mood_2 rfl hn) mk_X9_mood (s_X9_mood d n v h) rfl ?_
  refine bX10_mood_5.go rfl ?_
  exact G.iret rfl rfl dX10_mood_7 ⟨rfl, rfl⟩
theorem s_X12_mood (v : Int32) (hn : h.1 n = some (.inl ci)) : GF Γ l MX12_mood (d + 2) 0 0 [pv_q (some n), pv_i v] h (some (pv_i (imax 0 (v - 3)))) h := by
  refine bX12_mood_0.go rfl ?_
  refine G.callF (vX12_mood_3 rfl hn) mk_X10_mood (s_X10_mood d n h v hn) rfl ?_
  refine G.callF (vX12_mood_6 rfl) mk_J7_max (s_max d _ _ _) rfl ?_
  exact G.iret rfl rfl dX12_mood_9 ⟨rfl, rfl⟩
theorem s_X13_mood (v : Int32) (hn : h.1 n = some (.inl 6)) : GF Γ l MX13_mood (d + 1) 0 0 [pv_q (some n), pv_i v] h (some (pv_i (v + h.2.1 n 0))) h := by
  refine bX13_mood_0.go rfl ?_
  refine G.callF (vX13_mood_2 rfl hn) mk_X9_mood (s_X9_mood d n v h) rfl ?_
  refine bX13_mood_5.go (by simp only [ra_, ac_al, ac_gf, ac_ii, Option.toList, List.cons_append, List.nil_append]; simp [gv_ent, gv_el, hn]; exact ⟨rfl, rfl, rfl⟩) ?_
  exact G.iret rfl rfl dX13_mood_10 ⟨rfl, rfl⟩
theorem s_X14_mood (v : Int32) (hn : h.1 n = some (.inl ci)) : GF Γ l MX14_mood (d + 1) 0 0 [pv_q (some n), pv_i v] h (some (pv_i (v / 2))) h := by
  refine bX14_mood_0.go rfl ?_
  refine G.callF (vX14_mood_2 rfl hn) mk_X9_mood (s_X9_mood d n v h) rfl ?_
  refine bX14_mood_5.go rfl ?_
  refine G.idiv (by decide) dX14_mood_6 ?_
  exact G.iret rfl rfl dX14_mood_7 ⟨rfl, rfl⟩
theorem s_X10_hasEnough (y : Prop) [Decidable y] (s : Int32) (hn : h.1 n = some (.inl ci)) : GF Γ l MX10_hasEnough (d + 1) 0 0 [pv_q (some n), pv_i (bi y), pv_i s] h (some (pv_i (bi (8 < s ∨ y)))) h := by
  refine bX10_hasEnough_0.go rfl ?_
  refine iX10_hasEnough_3 (fun c => ?_) (fun c => ?_)
  · refine bX10_hasEnough_15.go rfl ?_
    exact G.iret rfl rfl dX10_hasEnough_20 ⟨by rw [bi_t (Or.inl c)], rfl⟩
  · refine bX10_hasEnough_6.go rfl ?_
    refine G.callF (vX10_hasEnough_9 rfl hn) mk_X9_hasEnough (s_X9_hasEnough d n y s h) rfl ?_
    refine iX10_hasEnough_12 (fun c2 => ?_) (fun c2 => ?_)
    · refine bX10_hasEnough_19.go rfl ?_
      refine G.iret rfl rfl dX10_hasEnough_20 ⟨?_, rfl⟩
      rw [bi_f]
      rintro (z | z)
      · exact c z
      · exact bi_0.mp c2 z
    · refine bX10_hasEnough_15.go rfl ?_
      refine G.iret rfl rfl dX10_hasEnough_20 ⟨?_, rfl⟩
      rw [bi_t (Or.inr (Decidable.not_not.mp (fun z => c2 (bi_0.mpr z))))]
theorem s_X11_hasEnough (y : Prop) [Decidable y] (s : Int32) (hn : h.1 n = some (.inl 4)) : GF Γ l MX11_hasEnough (d + 1) 0 0 [pv_q (some n), pv_i (bi y), pv_i s] h (some (pv_i (bi (¬ s ≤ h.2.1 n 0 ∧ y)))) h := by
  refine bX11_hasEnough_0.go rfl ?_
  refine G.getI hn rfl fk_X11_15_4 dX11_hasEnough_2 ?_
  refine iX11_hasEnough_5 (fun c => ?_) (fun c => ?_)
  · refine bX11_hasEnough_21.go rfl ?_
    exact G.iret rfl rfl dX11_hasEnough_22 ⟨by rw [bi_f (fun z => z.1 c)], rfl⟩
  · refine bX11_hasEnough_8.go rfl ?_
    refine G.callF (vX11_hasEnough_11 rfl hn) mk_X9_hasEnough (s_X9_hasEnough d n y s h) rfl ?_
    refine iX11_hasEnough_14 (fun c2 => ?_) (fun c2 => ?_)
    · refine bX11_hasEnough_21.go rfl ?_
      exact G.iret rfl rfl dX11_hasEnough_22 ⟨by rw [bi_f (fun z => bi_0.mp c2 z.2)], rfl⟩
    · refine bX11_hasEnough_17.go rfl ?_
      exact G.iret rfl rfl dX11_hasEnough_22 ⟨by rw [bi_t ⟨c, Decidable.not_not.mp (fun z => c2 (bi_0.mpr z))⟩], rfl⟩
theorem s_X13_hasEnough (y s : Int32) : GF Γ l MX13_hasEnough d 0 0 [pv_q (some n), pv_i y, pv_i s] h (some (pv_i 0)) h := by
  refine bX13_hasEnough_0.go rfl ?_
  exact G.iret rfl rfl dX13_hasEnough_1 ⟨rfl, rfl⟩
theorem s_X14_hasEnough (y s : Int32) (hn : h.1 n = some (.inl 7)) : GF Γ l MX14_hasEnough d 0 0 [pv_q (some n), pv_i y, pv_i s] h (some (pv_i (bi (¬ s < h.2.1 n 0)))) h := by
  refine bX14_hasEnough_0.go (by simp only [ra_, ac_al, ac_il, ac_gf]; simp [gv_ent, gv_el, hn]; exact ⟨rfl, rfl, rfl⟩) ?_
  refine iX14_hasEnough_5 (fun c => ?_) (fun c => ?_)
  · refine bX14_hasEnough_12.go rfl ?_
    exact G.iret rfl rfl dX14_hasEnough_13 ⟨by rw [bi_f (fun z => z c)], rfl⟩
  · refine bX14_hasEnough_8.go rfl ?_
    exact G.iret rfl rfl dX14_hasEnough_13 ⟨by rw [bi_t c], rfl⟩
end K1
end RD
