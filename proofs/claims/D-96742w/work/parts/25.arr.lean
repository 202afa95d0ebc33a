/-! THE FLOOR, 6: contracts that answer; arrays; new cells -/
set_option maxRecDepth 100000
/-- a contract without throws -/
def rq (Q0 : Option PV → PH → Prop) : PO → PH → Prop := fun r h => match r with
  | .inl v => Q0 v h
  | .inr _ => False
def GR (Γ : Gm) (l : Launch) (Y : Mth) (d mc ms : Nat) (vs : List PV) (h : PH) (Q0 : Option PV → PH → Prop) : Prop := GE Γ l Y d mc ms vs h (rq Q0)
/-- a contract that says the answer and the heap -/
def GF (Γ : Gm) (l : Launch) (Y : Mth) (d mc ms : Nat) (vs : List PV) (h : PH) (v : Option PV) (h' : PH) : Prop := GR Γ l Y d mc ms vs h (fun a b => a = v ∧ b = h')
theorem GF.start {Γ : Gm} {l : Launch} {Y : Mth} {d mc ms : Nat} {vs : List PV} {h h' : PH} {v : Option PV} {ls : PLs} (hl : gv_ent vs Y.2.2.1 = ls) (kk : G Γ l Y d mc ms (rq (fun a b => a = v ∧ b = h')) 0 0 0 ls [] h) : GF Γ l Y d mc ms vs h v h' := by
  subst hl
  exact kk
theorem GR.start {Γ : Gm} {l : Launch} {Y : Mth} {d mc ms : Nat} {vs : List PV} {h : PH} {Q0 : Option PV → PH → Prop} {ls : PLs} (hl : gv_ent vs Y.2.2.1 = ls) (kk : G Γ l Y d mc ms (rq Q0) 0 0 0 ls [] h) : GR Γ l Y d mc ms vs h Q0 := by
  subst hl
  exact kk
theorem GE.start {Γ : Gm} {l : Launch} {Y : Mth} {d mc ms : Nat} {vs : List PV} {h : PH} {Q : PO → PH → Prop} {ls : PLs} (hl : gv_ent vs Y.2.2.1 = ls) (kk : G Γ l Y d mc ms Q 0 0 0 ls [] h) : GE Γ l Y d mc ms vs h Q := by
  subst hl
  exact kk
section RA
variable {Γ : Gm} {l : Launch} {Y : Mth} {d mc ms : Nat} {Q : PO → PH → Prop} {k0 n0 pc : Nat} {ls : PLs} {st stk : List PV} {h : PH}
theorem G.callR {Y' : Mth} {len d' mc' ms' np : Nat} {vs : List PV} {Q0 : Option PV → PH → Prop} (hI : InvOk Γ l Y d mc ms pc ls vs st h Y'.1 len) (M : MOk Y' np) (hE : GR Γ l Y' d' mc' ms' vs h Q0) (hst : stk = vs.reverse ++ st) (kr : ∀ v h', Q0 v h' → G Γ l Y d mc ms Q (k0 + mc') (n0 + ms') (pc + len) ls (v.toList ++ st) h')
    (hel : Nat.ble (gv_el vs).length Y'.2.2.1 = true := by rfl) (hw : Nat.ble ((st.map gv_cat).sum + Y'.2.2.1) 35 = true := by rfl) (hd : d' + 1 ≤ d := by omega) (hcl : k0 + mc' ≤ mc := by omega) (hsl : n0 + ms' ≤ ms := by omega) : G Γ l Y d mc ms Q k0 n0 pc ls stk h := by
  subst hst
  exact G.callG hI M.1 M.2.1 hE (Nat.le_of_ble_eq_true hel) hd (Nat.le_of_ble_eq_true hw) hcl hsl kr (fun x h' q => q.elim)
theorem G.callF {Y' : Mth} {len d' mc' ms' np : Nat} {vs : List PV} {v : Option PV} {h' : PH} (hI : InvOk Γ l Y d mc ms pc ls vs st h Y'.1 len) (M : MOk Y' np) (hE : GF Γ l Y' d' mc' ms' vs h v h') (hst : stk = vs.reverse ++ st) (kr : G Γ l Y d mc ms Q (k0 + mc') (n0 + ms') (pc + len) ls (v.toList ++ st) h')
    (hel : Nat.ble (gv_el vs).length Y'.2.2.1 = true := by rfl) (hw : Nat.ble ((st.map gv_cat).sum + Y'.2.2.1) 35 = true := by rfl) (hd : d' + 1 ≤ d := by omega) (hcl : k0 + mc' ≤ mc := by omega) (hsl : n0 + ms' ≤ ms := by omega) : G Γ l Y d mc ms Q k0 n0 pc ls stk h :=
  G.callR hI M hE hst (fun a b q => by obtain ⟨rfl, rfl⟩ := q; exact kr) hel hw hd hcl hsl
/-- an array's type by its kind -/
def aty (τ : Nat) : FieldType := match τ with
  | 0 => .int
  | 1 => .byte
  | 2 => .short
  | 3 => .boolean
  | 4 => .object "TandemKeepsAPlace$Rider"
  | 5 => .array .int
  | 6 => .object "TandemKeepsAPlace$Node"
  | 7 => .array (.object "TandemKeepsAPlace$Node")
  | 8 => .object "java/lang/String"
  | _ => .object "TandemKeepsAPlace$Sheet"
theorem gm_at (Γ : Gm) {τ : Nat} (h : τ < 10) : (gm_tys Γ)[τ]? = some (Γ.2.2.1 τ, aty τ) := by
  match τ, h with
  | 0, _ => rfl
  | 1, _ => rfl
  | 2, _ => rfl
  | 3, _ => rfl
  | 4, _ => rfl
  | 5, _ => rfl
  | 6, _ => rfl
  | 7, _ => rfl
  | 8, _ => rfl
  | 9, _ => rfl
/-- an array that may be read: ours, the script, a constant's bytes -/
def roA (n : Nm) (τ : Nat) : Prop := n.1 < 100 ∨ (n = (200, 0) ∧ τ = 0) ∨ (n.1 = 101 ∧ n.2 < 14 ∧ τ = 1)
theorem gv_arr {p : Program} {s : State} {m : MethodId} {args : Array Value} {meth : Method} {c : Code} {H : Heap} {locs : List Loc} {ad : Nm → Nat} (C : gv_Cx Γ Y p s m args meth c) (Rl : gv_Rel Γ ad h H) (Fr : gv_Fr Γ s H locs) {n : Nm} {τ len : Nat} (hn : h.1 n = some (.inr (τ, len))) (hτ : τ < 10) (ho : roA n τ) :
    ∃ cell : Cell, H[ad n]? = some cell ∧ s.isArrayOf cell (aty τ) ∧ cell.vm ≠ .unknown ∧ cell.slots.size = len ∧ ∀ j, j < len → cell.slots[j]? = some (gv_av ad h n τ j) := by
  have hok := Rl.1 n _ hn
  unfold gv_ok at hok
  simp only at hok
  obtain ⟨-, -, -, -, -, -, -, -, -, hK, -, -, -, -, -, -, -, -, hz1, hz2, -⟩ := C
  by_cases ht : n.1 < 100
  · rw [if_pos ht] at hok
    exact ⟨_, hok, (hK.2 τ _ (gm_at Γ hτ)).1 len _, (fun q => by cases q), arrV_size _ _ _, fun j hj => arrV_read _ _ hj⟩
  · rw [if_neg ht] at hok
    obtain ⟨cell, c1, c2, c3⟩ := hok (by omega)
    have hro := Rl.2.2.2.1 n (by omega)
    rw [hro.1] at c1
    have c1' : s.heap[Γ.2.2.2 n]? = some cell := by rw [← Fr.2.2.1 _ hro.2]; exact c1
    rw [hro.1]
    rcases ho with z | ⟨rfl, rfl⟩ | ⟨z1, z2, rfl⟩
    · exact absurd z ht
    · have := hz2.2 cell c1'
      exact ⟨cell, c1, this.1, this.2, c2, c3⟩
    · obtain ⟨n1, n2⟩ := n
      cases z1
      have := (hz1 n2 z2).2 cell c1'
      exact ⟨cell, c1, this.1, this.2, c2, c3⟩
theorem vp_in_lt {i : Int32} {n : Nat} (h : vp_in i n) : i.toNatClampNeg < n := Nat.not_le.mp fun q => h (Or.inr q)
theorem G.alen {n : Nm} {τ len : Nat} (hn : h.1 n = some (.inr (τ, len))) (hd : decode Y.2.1 pc = .ok (.arraylength, 1)) (hτ : τ < 10) (ho : roA n τ) (kk : G Γ l Y d mc ms Q k0 n0 (pc + 1) ls (.inl (nI len) :: st) h) : G Γ l Y d mc ms Q k0 n0 pc ls (.inr (.inr (some n)) :: st) h := by
  intro p e s m args below meth c H locs ad ad0 d0 sl C R E Z Fr L
  obtain ⟨cell, c1, c2, c3, c4, c5⟩ := gv_arr C R Fr hn hτ ho
  exact W.alen C.1 C.2.1 c1 c2 (by rw [c4]; rfl) rfl rfl hd (kk p e s m args below meth c H locs ad ad0 d0 sl C R E (Z.tail.push (gv_wv_i _)) Fr L)
theorem G.iald {n : Nm} {len : Nat} {i : Int32} (hn : h.1 n = some (.inr (0, len))) (hd : decode Y.2.1 pc = .ok (.iaload, 1)) (ho : roA n 0) (hi : vp_in i len) (kk : G Γ l Y d mc ms Q k0 n0 (pc + 1) ls (.inl (h.2.1 n i.toNatClampNeg) :: st) h) : G Γ l Y d mc ms Q k0 n0 pc ls (.inl i :: .inr (.inr (some n)) :: st) h := by
  intro p e s m args below meth c H locs ad ad0 d0 sl C R E Z Fr L
  obtain ⟨cell, c1, c2, c3, c4, c5⟩ := gv_arr C R Fr hn (by decide) ho
  exact W.iald C.1 C.2.1 c1 c2 c3 (by rw [c4]; exact hi) (c5 _ (vp_in_lt hi)) rfl rfl hd (kk p e s m args below meth c H locs ad ad0 d0 sl C R E (Z.tail.tail.push (gv_wv_i _)) Fr L)
theorem G.bald {n : Nm} {len : Nat} {i : Int32} (hn : h.1 n = some (.inr (1, len))) (hd : decode Y.2.1 pc = .ok (.baload, 1)) (ho : roA n 1) (hi : vp_in i len) (kk : G Γ l Y d mc ms Q k0 n0 (pc + 1) ls (.inl (h.2.1 n i.toNatClampNeg) :: st) h) : G Γ l Y d mc ms Q k0 n0 pc ls (.inl i :: .inr (.inr (some n)) :: st) h := by
  intro p e s m args below meth c H locs ad ad0 d0 sl C R E Z Fr L
  obtain ⟨cell, c1, c2, c3, c4, c5⟩ := gv_arr C R Fr hn (by decide) ho
  exact W.bald C.1 C.2.1 c1 c2 c3 (by rw [c4]; exact hi) (c5 _ (vp_in_lt hi)) rfl rfl hd (kk p e s m args below meth c H locs ad ad0 d0 sl C R E (Z.tail.tail.push (gv_wv_i _)) Fr L)
theorem G.sald {n : Nm} {len : Nat} {i : Int32} (hn : h.1 n = some (.inr (2, len))) (hd : decode Y.2.1 pc = .ok (.saload, 1)) (ho : roA n 2) (hi : vp_in i len) (kk : G Γ l Y d mc ms Q k0 n0 (pc + 1) ls (.inl (h.2.1 n i.toNatClampNeg) :: st) h) : G Γ l Y d mc ms Q k0 n0 pc ls (.inl i :: .inr (.inr (some n)) :: st) h := by
  intro p e s m args below meth c H locs ad ad0 d0 sl C R E Z Fr L
  obtain ⟨cell, c1, c2, c3, c4, c5⟩ := gv_arr C R Fr hn (by decide) ho
  exact W.sald C.1 C.2.1 c1 c2 c3 (by rw [c4]; exact hi) (c5 _ (vp_in_lt hi)) rfl rfl hd (kk p e s m args below meth c H locs ad ad0 d0 sl C R E (Z.tail.tail.push (gv_wv_i _)) Fr L)
theorem G.zald {n : Nm} {len : Nat} {i : Int32} (hn : h.1 n = some (.inr (3, len))) (hd : decode Y.2.1 pc = .ok (.baload, 1)) (ho : roA n 3) (hi : vp_in i len) (kk : G Γ l Y d mc ms Q k0 n0 (pc + 1) ls (.inl (h.2.1 n i.toNatClampNeg) :: st) h) : G Γ l Y d mc ms Q k0 n0 pc ls (.inl i :: .inr (.inr (some n)) :: st) h := by
  intro p e s m args below meth c H locs ad ad0 d0 sl C R E Z Fr L
  obtain ⟨cell, c1, c2, c3, c4, c5⟩ := gv_arr C R Fr hn (by decide) ho
  exact W.zald C.1 C.2.1 c1 c2 c3 (by rw [c4]; exact hi) (c5 _ (vp_in_lt hi)) rfl rfl hd (kk p e s m args below meth c H locs ad ad0 d0 sl C R E (Z.tail.tail.push (gv_wv_i _)) Fr L)
theorem gv_av_r {ad : Nm → Nat} {n : Nm} {τ : Nat} (h4 : 4 ≤ τ) (j : Nat) : gv_av ad h n τ j = va_rf ((h.2.2.2 n j).map ad) := by
  match τ, h4 with
  | τ + 4, _ => rfl
theorem aty_ref {τ : Nat} (h : 4 ≤ τ) : (aty τ).isReference = true := by
  match τ, h with
  | 4, _ => rfl
  | 5, _ => rfl
  | 6, _ => rfl
  | 7, _ => rfl
  | 8, _ => rfl
  | n + 9, _ => rfl
theorem G.aald {n : Nm} {τ len : Nat} {i : Int32} (hn : h.1 n = some (.inr (τ, len))) (hd : decode Y.2.1 pc = .ok (.aaload, 1)) (hτ : 4 ≤ τ ∧ τ < 10) (ho : roA n τ) (hi : vp_in i len) (kk : G Γ l Y d mc ms Q k0 n0 (pc + 1) ls (.inr (.inr (h.2.2.2 n i.toNatClampNeg)) :: st) h) : G Γ l Y d mc ms Q k0 n0 pc ls (.inl i :: .inr (.inr (some n)) :: st) h := by
  intro p e s m args below meth c H locs ad ad0 d0 sl C R E Z Fr L
  obtain ⟨cell, c1, c2, c3, c4, c5⟩ := gv_arr C R Fr hn hτ.2 ho
  have hv := c5 _ (vp_in_lt hi)
  rw [gv_av_r hτ.1] at hv
  have hw : gv_wv h (.inr (.inr (h.2.2.2 n i.toNatClampNeg))) := by
    intro r hr
    refine R.2.2.2.2 n i.toNatClampNeg r (by rw [hn]; simp) ?_
    cases hr' : h.2.2.2 n i.toNatClampNeg with
    | none => rw [hr'] at hr; cases hr
    | some z => rw [hr'] at hr; cases hr; rfl
  exact W.aald C.1 C.2.1 c1 c2 (aty_ref hτ.1) c3 (by rw [c4]; exact hi) hv rfl rfl hd (kk p e s m args below meth c H locs ad ad0 d0 sl C R E (Z.tail.tail.push hw) Fr L)
/-- an element of an int array written -/
theorem hI_av {ad : Nm → Nat} {n : Nm} {τ k : Nat} {x : Int32} (h4 : τ < 4) : updV (fun j => gv_av ad h n τ j) k (.int x) = fun j => gv_av ad (hI h n k x) n τ j := by
  funext j
  unfold updV
  have e2 : ∀ (h : PH) (j : Nat), gv_av ad h n τ j = .int (h.2.1 n j) := by
    intro h j
    match τ, h4 with
    | 0, _ => rfl
    | 1, _ => rfl
    | 2, _ => rfl
    | 3, _ => rfl
  show (if j = k then Value.int x else gv_av ad h n τ j) = gv_av ad (hI h n k x) n τ j
  rw [e2, e2]
  show _ = Value.int (if n = n ∧ j = k then x else h.2.1 n j)
  by_cases e : j = k
  · rw [if_pos e, if_pos ⟨rfl, e⟩]
  · rw [if_neg e, if_neg (fun z => e z.2)]
theorem hR_av {ad : Nm → Nat} {n : Nm} {τ k : Nat} {x : Option Nm} (h4 : 4 ≤ τ) : updV (fun j => gv_av ad h n τ j) k (va_rf (x.map ad)) = fun j => gv_av ad (hR h n k x) n τ j := by
  funext j
  unfold updV
  show (if j = k then va_rf (x.map ad) else gv_av ad h n τ j) = gv_av ad (hR h n k x) n τ j
  rw [gv_av_r h4, gv_av_r h4]
  show _ = va_rf (Option.map ad (if n = n ∧ j = k then x else h.2.2.2 n j))
  by_cases e : j = k
  · rw [if_pos e, if_pos ⟨rfl, e⟩]
  · rw [if_neg e, if_neg (fun z => e z.2)]
/-- the array's own cell -/
theorem gv_arrW {H : Heap} {ad : Nm → Nat} (Rl : gv_Rel Γ ad h H) {n : Nm} {τ len : Nat} (hn : h.1 n = some (.inr (τ, len))) (ht : n.1 < 100) : H[ad n]? = some (arrV (Γ.2.2.1 τ) len (fun j => gv_av ad h n τ j)) := by
  have hok := Rl.1 n _ hn
  unfold gv_ok at hok
  simp only at hok
  rw [if_pos ht] at hok
  exact hok
theorem gv_putA {H H1 : Heap} {ad : Nm → Nat} (Rl : gv_Rel Γ ad h H) {n : Nm} {τ len i : Nat} {x : Int32} (hn : h.1 n = some (.inr (τ, len))) (ht : n.1 < 100) (h4 : τ < 4) (e1 : H1[ad n]? = some ((arrV (Γ.2.2.1 τ) len (fun j => gv_av ad h n τ j)).setSlot i (.int x))) (hq : ∀ q, q ≠ ad n → H1[q]? = H[q]?) : gv_Rel Γ ad (hI h n i x) H1 := by
  refine Rl.put hn ht rfl (fun a ha => hI_same ha) (fun _ _ => rfl) (fun _ _ => rfl) hq ?_ (fun j r hr => Rl.2.2.2.2 n j r (by rw [hn]; simp) hr)
  unfold gv_ok
  simp only
  rw [if_pos ht, ← hI_av h4, e1, arrV_store]
theorem G.iast {n : Nm} {len : Nat} {i x : Int32} (hn : h.1 n = some (.inr (0, len))) (hd : decode Y.2.1 pc = .ok (.iastore, 1)) (ht : n.1 < 100) (hi : vp_in i len) (kk : G Γ l Y d mc ms Q k0 n0 (pc + 1) ls st (hI h n i.toNatClampNeg x)) : G Γ l Y d mc ms Q k0 n0 pc ls (.inl x :: .inl i :: .inr (.inr (some n)) :: st) h := by
  intro p e s m args below meth c H locs ad ad0 d0 sl C R E Z Fr L
  obtain ⟨cell, c1, c2, c3, c4, c5⟩ := gv_arr C R Fr hn (by decide) (Or.inl ht)
  cases c1.symm.trans (gv_arrW R hn ht)
  exact W.iast C.1 C.2.1 c1 c2 c3 (by rw [c4]; exact hi) rfl rfl hd fun H1 e1 z hq => kk p e s m args below meth c H1 _ ad ad0 d0 sl C (gv_putA R hn ht (by decide) e1 hq) (E.same rfl) (Z.tail.tail.tail.same rfl) (Fr.put (R.2.2.1 n (by rw [hn]; simp) ht) z hq) L
theorem G.bast {n : Nm} {len : Nat} {i x : Int32} (hn : h.1 n = some (.inr (1, len))) (hd : decode Y.2.1 pc = .ok (.bastore, 1)) (ht : n.1 < 100) (hi : vp_in i len) (kk : G Γ l Y d mc ms Q k0 n0 (pc + 1) ls st (hI h n i.toNatClampNeg x.toInt8.toInt32)) : G Γ l Y d mc ms Q k0 n0 pc ls (.inl x :: .inl i :: .inr (.inr (some n)) :: st) h := by
  intro p e s m args below meth c H locs ad ad0 d0 sl C R E Z Fr L
  obtain ⟨cell, c1, c2, c3, c4, c5⟩ := gv_arr C R Fr hn (by decide) (Or.inl ht)
  cases c1.symm.trans (gv_arrW R hn ht)
  exact W.bast C.1 C.2.1 c1 c2 c3 (by rw [c4]; exact hi) rfl rfl hd fun H1 e1 z hq => kk p e s m args below meth c H1 _ ad ad0 d0 sl C (gv_putA R hn ht (by decide) e1 hq) (E.same rfl) (Z.tail.tail.tail.same rfl) (Fr.put (R.2.2.1 n (by rw [hn]; simp) ht) z hq) L
theorem G.sast {n : Nm} {len : Nat} {i x : Int32} (hn : h.1 n = some (.inr (2, len))) (hd : decode Y.2.1 pc = .ok (.sastore, 1)) (ht : n.1 < 100) (hi : vp_in i len) (kk : G Γ l Y d mc ms Q k0 n0 (pc + 1) ls st (hI h n i.toNatClampNeg x.toInt16.toInt32)) : G Γ l Y d mc ms Q k0 n0 pc ls (.inl x :: .inl i :: .inr (.inr (some n)) :: st) h := by
  intro p e s m args below meth c H locs ad ad0 d0 sl C R E Z Fr L
  obtain ⟨cell, c1, c2, c3, c4, c5⟩ := gv_arr C R Fr hn (by decide) (Or.inl ht)
  cases c1.symm.trans (gv_arrW R hn ht)
  exact W.sast C.1 C.2.1 c1 c2 c3 (by rw [c4]; exact hi) rfl rfl hd fun H1 e1 z hq => kk p e s m args below meth c H1 _ ad ad0 d0 sl C (gv_putA R hn ht (by decide) e1 hq) (E.same rfl) (Z.tail.tail.tail.same rfl) (Fr.put (R.2.2.1 n (by rw [hn]; simp) ht) z hq) L
theorem G.zast {n : Nm} {len : Nat} {i x : Int32} (hn : h.1 n = some (.inr (3, len))) (hd : decode Y.2.1 pc = .ok (.bastore, 1)) (ht : n.1 < 100) (hi : vp_in i len) (hx : narrow .boolean (.int x) = .int x) (kk : G Γ l Y d mc ms Q k0 n0 (pc + 1) ls st (hI h n i.toNatClampNeg x)) : G Γ l Y d mc ms Q k0 n0 pc ls (.inl x :: .inl i :: .inr (.inr (some n)) :: st) h := by
  intro p e s m args below meth c H locs ad ad0 d0 sl C R E Z Fr L
  obtain ⟨cell, c1, c2, c3, c4, c5⟩ := gv_arr C R Fr hn (by decide) (Or.inl ht)
  cases c1.symm.trans (gv_arrW R hn ht)
  exact W.zast C.1 C.2.1 c1 c2 c3 (by rw [c4]; exact hi) rfl rfl hd fun H1 e1 z hq => kk p e s m args below meth c H1 _ ad ad0 d0 sl C (gv_putA R hn ht (by decide) (by rw [hx] at e1; exact e1) hq) (E.same rfl) (Z.tail.tail.tail.same rfl) (Fr.put (R.2.2.1 n (by rw [hn]; simp) ht) z hq) L
end RA
