/-! THE FLOOR, 8: new arrays, references stored, throws and handlers -/
set_option maxRecDepth 100000
section R4
variable {Γ : Gm} {l : Launch} {Y : Mth} {d mc ms : Nat} {Q : PO → PH → Prop} {k0 n0 pc : Nat} {ls : PLs} {st stk : List PV} {h : PH}
theorem gv_newArr {H H1 : Heap} {ad : Nm → Nat} {n : Nm} {τ N : Nat} {v : Value} (ht : n.1 < 100) (hv : v = if τ < 4 then .int 0 else .null) (e1 : H1[H.size]? = some (arrV (Γ.2.2.1 τ) N (fun _ => v))) : gv_ok Γ (fun a => if a = n then H.size else ad a) (hN h n (.inr (τ, N))) n (.inr (τ, N)) H1 := by
  unfold gv_ok
  simp only
  rw [if_pos ht, if_pos True.intro, e1]
  congr 2
  funext j
  rw [hv]
  have i1 : (hN h n (.inr (τ, N))).2.1 n j = 0 := if_pos rfl
  have i3 : (hN h n (.inr (τ, N))).2.2.2 n j = none := if_pos rfl
  by_cases h4 : τ < 4
  · rw [if_pos h4]
    match τ, h4, i1 with
    | 0, _, i1 => show _ = Value.int _; rw [i1]
    | 1, _, i1 => show _ = Value.int _; rw [i1]
    | 2, _, i1 => show _ = Value.int _; rw [i1]
    | 3, _, i1 => show _ = Value.int _; rw [i1]
  · rw [if_neg h4, gv_av_r (by omega), i3]
    rfl
/-- the machine's kinds of small arrays -/
def ato (τ : Nat) : ArrayType := match τ with
  | 0 => .int
  | 1 => .byte
  | 2 => .short
  | _ => .boolean
theorem G.newa (n : Nm) {τ N : Nat} {x : Int32} (hn : h.1 n = none) (hτ : τ < 4) (hc : Cond.arrayClass (newarray.typeOf (ato τ)) ∈ lw_all) (hd : decode Y.2.1 pc = .ok (.newarray (ato τ), 2)) (hx : x = nI N) (hNN : N ≤ 1000) (kk : G Γ l Y d mc ms Q (k0 + 1) (n0 + N) (pc + 2) ls (.inr (.inr (some n)) :: st) (hN h n (.inr (τ, N)))) (ht : n.1 < 100 := by exact Nat.le_of_ble_eq_true rfl) (hk : k0 + 1 ≤ mc := by omega) (hs : n0 + N ≤ ms := by omega) : G Γ l Y d mc ms Q k0 n0 pc ls (.inl x :: st) h := by
  intro p e s m args below meth c H locs ad ad0 d0 sl C R E Z Fr L
  subst hx
  have hts := C.2.2.2.2.2.2.2.1
  have hty : newarray.typeOf (ato τ) = aty τ := by
    match τ, hτ with
    | 0, _ => rfl
    | 1, _ => rfl
    | 2, _ => rfl
    | 3, _ => rfl
  have hcb : componentBytes (newarray.typeOf (ato τ)) ≤ 8 := by
    match τ, hτ with
    | 0, _ => decide
    | 1, _ => decide
    | 2, _ => decide
    | 3, _ => decide
  refine va_newaK C.1 C.2.1 (hts _ hc) rfl hd rfl (nI_pos (by omega)) (nI_clamp (by omega)) ?_ hk hs rfl fun H1 cA e1 z1 o1 hAr hNm => ?_
  · exact Nat.le_trans (Nat.mul_le_mul hNN hcb) (by decide)
  · have hcA : cA = Γ.2.2.1 τ := by
      have h9 := (C.2.2.2.2.2.2.2.2.2.1.2 τ _ (gm_at Γ (by omega))).2
      have h8 : s.vm.findClass ("[" ++ (aty τ).toString) = some (Γ.2.2.1 τ) := by
        match τ, hτ, h9 with
        | 0, _, h9 => exact h9
        | 1, _, h9 => exact h9
        | 2, _, h9 => exact h9
        | 3, _, h9 => exact h9
      rw [hty] at hNm
      exact Option.some.inj (hNm.symm.trans h8)
    subst hcA
    refine gv_goNew (sp := .inr (τ, N)) C R E Z.tail Fr L hn ht z1 o1 (gv_newArr ht ?_ e1) kk
    rw [if_pos hτ]
    match τ, hτ with
    | 0, _ => rfl
    | 1, _ => rfl
    | 2, _ => rfl
    | 3, _ => rfl
theorem G.aastG {n r : Nm} {τ len : Nat} {i : Int32} (hn : h.1 n = some (.inr (τ, len))) (hd : decode Y.2.1 pc = .ok (.aastore, 1)) (ht : n.1 < 100) (hτ : 4 ≤ τ ∧ τ < 10) (hi : vp_in i len)
    (hr : ∀ (s : State) (args : Array Value) (H : Heap) (ad : Nm → Nat) (locs : List Loc), gv_K Γ s → (∀ w ∈ lw_all, w.before args s = true) → gv_Rel Γ ad h H → gv_Fr Γ s H locs → ∃ (cv : Cell) (kv kA kcomp : Class) (comp : ClassId), H[ad r]? = some cv ∧ (∀ q, cv.vm ≠ .statics q) ∧ s.vm.classes[cv.cls]? = some kv ∧ s.vm.classes[Γ.2.2.1 τ]? = some kA ∧ kA.kind = .array comp (aty τ) ∧ s.vm.classes[comp]? = some kcomp ∧ s.vm.assignable cv.cls comp = true)
    (kk : G Γ l Y d mc ms Q k0 n0 (pc + 1) ls st (hR h n i.toNatClampNeg (some r))) : G Γ l Y d mc ms Q k0 n0 pc ls (.inr (.inr (some r)) :: .inl i :: .inr (.inr (some n)) :: st) h := by
  intro p e s m args below meth c H locs ad ad0 d0 sl C R E Z Fr L
  obtain ⟨cv, kv, kA, kcomp, comp, g1, g2, g3, g4, g5, g6, g7⟩ := hr s args H ad locs C.2.2.2.2.2.2.2.2.2 C.2.2.2.2.2.2.2.1 R Fr
  have c1 := gv_arrW R hn ht
  refine W.aast C.1 C.2.1 c1 (fun q hq => by cases hq) (fun hq => by cases hq) g4 g5 (aty_ref hτ.1) g6 ⟨fun z => hi (Or.inl z), by rw [arrV_size]; exact vp_in_lt hi⟩ g1 g2 g3 g7 rfl rfl hd fun H1 e1 z hq => ?_
  refine kk p e s m args below meth c H1 _ ad ad0 d0 sl C (R.put hn ht rfl (fun _ _ => rfl) (fun _ _ => rfl) (fun a ha => hR_same ha) hq ?_ (hR_wf R hn Z.head)) (E.same rfl) (Z.tail.tail.tail.same rfl) (Fr.put (R.2.2.1 n (by rw [hn]; simp) ht) z hq) L
  unfold gv_ok
  simp only
  rw [if_pos ht, ← hR_av hτ.1, e1, arrV_store]
  rfl
/-- an object of the class number ci goes into an array of objects of a class -/
def astO (τ ci : Nat) : Prop := ∃ q C, clL[ci]? = some q ∧ aty τ = .object C ∧ (q.1 = C ∨ (q.1, C) ∈ nwC)
theorem G.aast {n r : Nm} {τ len ci : Nat} {i : Int32} (hn : h.1 n = some (.inr (τ, len))) (hd : decode Y.2.1 pc = .ok (.aastore, 1)) (hτ : 4 ≤ τ ∧ τ < 10) (hi : vp_in i len) (hr : h.1 r = some (.inl ci)) (ha : astO τ ci) (kk : G Γ l Y d mc ms Q k0 n0 (pc + 1) ls st (hR h n i.toNatClampNeg (some r))) (ht : n.1 < 100 := by exact Nat.le_of_ble_eq_true rfl) : G Γ l Y d mc ms Q k0 n0 pc ls (.inr (.inr (some r)) :: .inl i :: .inr (.inr (some n)) :: st) h := by
  refine G.aastG hn hd ht hτ hi (fun s args H ad locs K hts R Fr => ?_) kk
  obtain ⟨q, C, hq, hC, hqC⟩ := ha
  obtain ⟨q', hq', cell, c1, c2, c3, c4, c5, c6⟩ := R.1 r _ hr
  cases hq.symm.trans hq'
  obtain ⟨hK1, hk2, hk3, hk4, -⟩ := K
  have hcls := (hK1.1 ci q hq).2
  have h9 := (hK1.2 τ _ (gm_at Γ hτ.2)).2
  rw [hC] at h9
  obtain ⟨kA, comp, k1, k2, k3, -⟩ := h9
  obtain ⟨kC, hkC, -⟩ := hcls.2
  have hst : ∀ z, cell.vm ≠ .statics z := fun z hz => by rw [hz] at c5; cases c5
  rcases hqC with e | e
  · have : comp = Γ.2.1.1 ci := Option.some.inj (k3.symm.trans (by rw [← e]; exact hcls.1))
    subst this
    exact ⟨cell, kC, kA, kC, _, c1, hst, by rw [c2]; exact hkC, k1, by rw [hC]; exact k2, hkC, by rw [c2]; exact va_assign hcls⟩
  · obtain ⟨c0, t0, f1, f2, f3⟩ := Cond.castable_spec (va_Nw.use (A := args) rfl (hk4 _ e))
    cases k3.symm.trans f2
    cases hcls.1.symm.trans f1
    obtain ⟨kk9, hk9, -⟩ := Vm.findClass_spec f2
    exact ⟨cell, kC, kA, kk9, _, c1, hst, by rw [c2]; exact hkC, k1, by rw [hC]; exact k2, hk9, by rw [c2]; exact f3⟩
/-! throws -/
theorem GT.out {x : Nm} (hh : ∀ q ∈ Y.2.2.2.2, ¬ (q.1 ≤ pc ∧ pc < q.2.1)) (hq : Q (.inr x) h) (hk : k0 ≤ mc := by omega) (hn : n0 ≤ ms := by omega) : GT Γ l Y d mc ms Q k0 n0 pc ls h x := by
  intro p e s m args below meth c H locs ad ad0 d0 sl stv T C R E Z hx Fr L hT X
  subst hT
  have hlocks := C.2.2.2.2.1
  have X2 := stand_widen X hk hn
  obtain ⟨a1, a2, a3, a4, a5⟩ := X2.leaveThrown (ad x) (g := F0 m pc sl stv) rfl rfl rfl (by
    intro q hq'
    have h9 := C.2.2.2.2.2.2.2.2.1
    have hm : (q.startPc, q.endPc, q.handlerPc, q.catchType) ∈ Y.2.2.2.2 := by
      rw [← h9]
      exact List.mem_map_of_mem hq'
    have := hh _ hm
    simp only at this
    cases hcv : covers q pc with
    | false => rfl
    | true =>
      refine absurd ?_ this
      simpa [covers] using hcv)
  exact ⟨_, a1, .threw (ad x), a2, a3, a4, ⟨locs, a5, Fr.2.2.2⟩, .inr x, h, ad, hq, rfl, hx, R, E, Fr.2.2.1⟩
theorem G.athrow {x : Nm} (hd : decode Y.2.1 pc = .ok (.athrow, 1)) (kk : GT Γ l Y d mc ms Q k0 n0 pc ls h x) : G Γ l Y d mc ms Q k0 n0 pc ls (.inr (.inr (some x)) :: st) h := by
  intro p e s m args below meth c H locs ad ad0 d0 sl C R E Z Fr L T hT X
  obtain ⟨t, a1, b1⟩ := kk p e s m args below meth c H locs ad ad0 d0 sl (st.map (gv_cv ad)) T C R E ⟨fun v hv => absurd hv List.not_mem_nil, Z.2⟩ (Z.head x rfl) Fr L hT X
  refine ⟨t, ?_, b1⟩
  have hx := C.1
  have hdg : decode c.code pc = .ok (.athrow, 1) := by rw [C.2.1]; exact hd
  jvm_step X.here [hx, hdg, Op.athrow.wp_sem]
  exact a1
end R4
