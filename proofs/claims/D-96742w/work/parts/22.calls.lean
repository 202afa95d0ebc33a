/-! THE FLOOR, 3: calls, ends, throws -/
set_option maxRecDepth 100000
/-- the tables have the method's code -/
def CdOk (Y : Mth) : Prop := (Y.2.2.2.2 = [] ∧ Cond.code Y.1 Y.2.1 Y.2.2.1 Y.2.2.2.1 ∈ lw_all) ∨ Cond.codeWith Y.1 Y.2.1 Y.2.2.1 Y.2.2.2.1 Y.2.2.2.2 ∈ lw_all
theorem cd_spec {Y : Mth} (h : CdOk Y) {args : Array Value} {s : State} (hts : ∀ w ∈ lw_all, w.before args s = true) : ∃ mk meth ck, s.methodNamed? Y.1 = some mk ∧ s.vm.method? mk = some meth ∧ meth.code = some ck ∧ ck.code = Y.2.1 ∧ ck.maxLocals = Y.2.2.1 ∧ meth.sig.returnType = Y.2.2.2.1 ∧ meth.locks = false ∧ ck.exceptionTable.toList.map (fun h => (h.startPc, h.endPc, h.handlerPc, h.catchType)) = Y.2.2.2.2 ∧ parseMethodDescriptor Y.1.desc = some meth.sig := by
  rcases h with ⟨e, h⟩ | h
  · obtain ⟨mk, hn⟩ := Cond.code_named (hts _ h)
    obtain ⟨meth, ck, h1, h2, h3, h4, h5, h6, h7, h8⟩ := Cond.code_spec hn (hts _ h)
    refine ⟨mk, meth, ck, hn, h1, h2, h3, h4, h5, h6, ?_, h8⟩
    rw [e]
    simpa using h7
  · obtain ⟨mk, meth, ck, h0, h1, h2, h3, h4, h5, h6, h7, h8⟩ := Cond.codeWith_spec (hts _ h)
    exact ⟨mk, meth, ck, h0, h1, h2, h3, h4, h6, h7, h5, h8⟩
theorem gv_Steps.weaken {tb : Tables} {e : Env} {f : Frame} {below : List Frame} {a b : State} (h : Steps tb e (f :: below) a b) : Steps tb e below a b := by
  obtain ⟨n, hn, w⟩ := h
  exact ⟨n, hn, fun k hk => Within.weaken (mid := [f]) (w k hk)⟩
theorem gv_el_args (ad : Nm → Nat) (vs : List PV) : ∀ (k : Nat) (pre : PLs), pre.length = k → ∀ (i : Nat) (v : PV), (pre ++ gv_el vs)[i]? = some (some v) → k ≤ i → (i, gv_cv ad v) ∈ lv_args k (vs.map (gv_cv ad)) := by
  induction vs with
  | nil =>
    intro k pre hp i v h hk
    simp only [gv_el, List.append_nil] at h
    have := (List.getElem?_eq_some_iff.mp h).1
    omega
  | cons w r ih =>
    intro k pre hp i v h hk
    rcases w with x | x | x
    · have e1 : gv_el (Sum.inl x :: r) = some (.inl x) :: gv_el r := rfl
      rw [e1] at h
      show (i, gv_cv ad v) ∈ (k, gv_cv ad (.inl x)) :: lv_args (k + (gv_cv ad (.inl x)).category) (r.map (gv_cv ad))
      by_cases e : i = k
      · subst e
        rw [List.getElem?_append_right (by omega), hp, Nat.sub_self] at h
        cases h
        exact List.mem_cons_self
      · refine List.mem_cons_of_mem _ (ih (k + 1) (pre ++ [some (.inl x)]) (by simp [hp]) i v ?_ (by omega))
        rw [List.append_assoc]
        exact h
    · have e1 : gv_el (Sum.inr (Sum.inl x) :: r) = some (.inr (.inl x)) :: none :: gv_el r := rfl
      rw [e1] at h
      show (i, gv_cv ad v) ∈ (k, gv_cv ad (.inr (.inl x))) :: lv_args (k + (gv_cv ad (.inr (.inl x))).category) (r.map (gv_cv ad))
      by_cases e : i = k
      · subst e
        rw [List.getElem?_append_right (by omega), hp, Nat.sub_self] at h
        cases h
        exact List.mem_cons_self
      · by_cases e2 : i = k + 1
        · subst e2
          rw [List.getElem?_append_right (by omega), hp] at h
          have : k + 1 - k = 1 := by omega
          rw [this] at h
          cases h
        · refine List.mem_cons_of_mem _ (ih (k + 2) (pre ++ [some (.inr (.inl x)), none]) (by simp [hp]) i v ?_ (by omega))
          rw [List.append_assoc]
          exact h
    · have e1 : gv_el (Sum.inr (Sum.inr x) :: r) = some (.inr (.inr x)) :: gv_el r := rfl
      rw [e1] at h
      have e3 : (gv_cv ad (.inr (.inr x))).category = 1 := gv_cat_cv ad (.inr (.inr x))
      have e4 : lv_args k (List.map (gv_cv ad) (Sum.inr (Sum.inr x) :: r)) = (k, gv_cv ad (.inr (.inr x))) :: lv_args (k + 1) (r.map (gv_cv ad)) := by
        simp only [List.map_cons, lv_args]
        rw [e3]
        rfl
      rw [e4]
      by_cases e : i = k
      · subst e
        rw [List.getElem?_append_right (by omega), hp, Nat.sub_self] at h
        cases h
        exact List.mem_cons_self
      · refine List.mem_cons_of_mem _ (ih (k + 1) (pre ++ [some (.inr (.inr x))]) (by simp [hp]) i v ?_ (by omega))
        rw [List.append_assoc]
        exact h
theorem gv_el_len (ad : Nm → Nat) (vs : List PV) : (lg_sl (vs.map (gv_cv ad))).length = (gv_el vs).length := by
  induction vs with
  | nil => rfl
  | cons w r ih =>
    have e : lg_sl ((w :: r).map (gv_cv ad)) = (if (gv_cv ad w).category = 2 then [Slot.val (gv_cv ad w), Slot.second] else [Slot.val (gv_cv ad w)]) ++ lg_sl (r.map (gv_cv ad)) := rfl
    rw [e, List.length_append, ih, gv_cat_cv]
    rcases w with x | x | x
    · show (if (1 : Nat) = 2 then _ else _ : List Slot).length + _ = _
      rw [if_neg (by decide)]
      show 1 + (gv_el r).length = (gv_el r).length + 1
      omega
    · show (if (2 : Nat) = 2 then _ else _ : List Slot).length + _ = _
      rw [if_pos rfl]
      show 2 + (gv_el r).length = (gv_el r).length + 1 + 1
      omega
    · show (if (1 : Nat) = 2 then _ else _ : List Slot).length + _ = _
      rw [if_neg (by decide)]
      show 1 + (gv_el r).length = (gv_el r).length + 1
      omega
theorem gv_ent_get {vs : List PV} {nL i : Nat} {v : PV} (h : (gv_ent vs nL)[i]? = some (some v)) : (gv_el vs)[i]? = some (some v) := by
  unfold gv_ent at h
  rcases Nat.lt_or_ge i (gv_el vs).length with q | q
  · rwa [List.getElem?_append_left q] at h
  · rw [List.getElem?_append_right q, List.getElem?_replicate] at h
    split at h <;> cases h
theorem gv_el_mem {vs : List PV} {i : Nat} {v : PV} (h : (gv_el vs)[i]? = some (some v)) : v ∈ vs := by
  induction vs generalizing i with
  | nil => simp [gv_el] at h
  | cons w r ih =>
    rcases w with x | x | x
    · have e1 : gv_el (Sum.inl x :: r) = some (.inl x) :: gv_el r := rfl
      rw [e1] at h
      cases i with
      | zero => cases h; exact List.mem_cons_self
      | succ j => exact List.mem_cons_of_mem _ (ih h)
    · have e1 : gv_el (Sum.inr (Sum.inl x) :: r) = some (.inr (.inl x)) :: none :: gv_el r := rfl
      rw [e1] at h
      match i, h with
      | 0, h => cases h; exact List.mem_cons_self
      | 1, h => cases h
      | j + 2, h => exact List.mem_cons_of_mem _ (ih h)
    · have e1 : gv_el (Sum.inr (Sum.inr x) :: r) = some (.inr (.inr x)) :: gv_el r := rfl
      rw [e1] at h
      cases i with
      | zero => cases h; exact List.mem_cons_self
      | succ j => exact List.mem_cons_of_mem _ (ih h)
theorem gv_entry {ad : Nm → Nat} {vs : List PV} {nL : Nat} (h : (gv_el vs).length ≤ nL) : gv_Lo ad nL (gv_ent vs nL) ((lg_sl (vs.map (gv_cv ad)) ++ List.replicate (nL - (lg_sl (vs.map (gv_cv ad))).length) Slot.unset).toArray) := by
  have hl := lv_entry (vs.map (gv_cv ad)) (n := nL) (by rw [gv_el_len]; exact h)
  refine ⟨hl.1, hl.2.1, by unfold gv_ent; simp; omega, fun i v hv => ?_⟩
  exact hl.2.2 _ (gv_el_args ad vs 0 [] rfl i v (by simpa using gv_ent_get hv) (Nat.zero_le _))
section GC
variable {Γ : Gm} {l : Launch} {p : Program} {e : Env} {R : Room} {s : State} {m : MethodId} {args : Array Value} {below : List Frame} {meth : Method} {c : Code} {T : State} {locs : List Loc} {cells slots : Nat} {ad : Nm → Nat} {h : PH}
/-- into a method and to its end: what the caller knows then -/
theorem gv_enter (X : Stand p l e R s m args below meth c T locs cells slots) (hx : p.tables.exec = Jvm.exec) (hts : ∀ w ∈ lw_all, w.before args s = true) (hK : gv_K Γ s) (Fr : gv_Fr Γ s T.heap locs) (Rl : gv_Rel Γ ad h T.heap) {g : JFrame} (hg : g.method = m) (hsize : g.locals.size = c.maxLocals) {ig : Instr} {len : Nat} (hdg : decode c.code g.pc = .ok (ig, len))
    {Y : Mth} {mk : MethodId} (hmk : s.methodNamed? Y.1 = some mk) (hc : CdOk Y) (hp : plainFor Y.1 = true) {d mc ms : Nat} {vs : List PV} {Q : PO → PH → Prop} (hE : GE Γ l Y d mc ms vs h Q) (hwv : ∀ v ∈ vs, gv_wv h v) (hel : (gv_el vs).length ≤ Y.2.2.1)
    (hf : d + 1 ≤ R.frames) (hl : 2 * g.monitorRoom + (g.stack.map fun v => v.category).sum + (Y.2.2.1 + 11) + 46 * d ≤ R.locals) (hcl : cells + mc ≤ R.cells) (hsl : slots + ms ≤ R.slots) :
    ∃ (t : State) (o : Outcome), (∀ acts, Steps p.tables e below (doInvoke e (T.setTop g) acts mk (vs.map (gv_cv ad)).toArray).1 t) ∧ Ended t (.java g :: below) o ∧ (T.calling g mk (vs.map (gv_cv ad)).toArray).WarmedH t.vm ∧ (∃ L, (T.calling g mk (vs.map (gv_cv ad)).toArray).sameButNew ({ t with vm := (T.calling g mk (vs.map (gv_cv ad)).toArray).vm } : State) L mc ms ∧ ∀ q ∈ L, Γ.1 ≤ q.base) ∧ gv_Q Γ (T.calling g mk (vs.map (gv_cv ad)).toArray) h.1 ad Q o t := by
  obtain ⟨mk', methk, ck, h0, h1, h2, h3, h4, h5, h6, h7, h8⟩ := cd_spec hc hts
  cases hmk.symm.trans h0
  have hW : s.WarmedH T.vm := X.warmed
  have hmT : T.vm.method? mk = some methk := by rw [hW.alike.method?]; exact h1
  have hpl : s.plainMethod mk := State.plainMethod.of_named hp hmk h1
  have hplT : T.plainMethod mk := by
    intro k hk
    obtain ⟨k0, hk0, he⟩ := hW.alike.symm.2.2 _ _ hk
    have := hpl k0 hk0
    rw [he] at this
    exact this
  obtain ⟨Y1, hin⟩ := X.into (R' := gv_rm d mc ms) hg hsize hdg (vs.map (gv_cv ad)).toArray hmT h2 h6 hplT hf (by rw [h4]; exact hl) hcl hsl
  have hcv : (T.calling g mk (vs.map (gv_cv ad)).toArray).vm = T.vm := rfl
  have hch : (T.calling g mk (vs.map (gv_cv ad)).toArray).heap = T.heap := rfl
  have hWc : s.WarmedH (T.calling g mk (vs.map (gv_cv ad)).toArray).vm := hW
  have K := hE p e (T.calling g mk (vs.map (gv_cv ad)).toArray) mk (vs.map (gv_cv ad)).toArray (.java g :: below) methk ck T.heap [] ad ad h.1 _
    ⟨hx, h3, h4, h5, h6, (name_of_methodNamed hmk h1).1, by rw [hWc.alike.findClass]; exact findClass_of_methodNamed hmk, gv_hts hts hWc, h7, hK.moved hWc Fr.1 (fun q hq => by rw [hch]; exact Fr.2.2.1 q hq)⟩ Rl (fun n hn => ⟨hn, rfl⟩)
    ⟨fun v hv => absurd hv (List.not_mem_nil), fun i v hv => hwv v (gv_el_mem (gv_ent_get hv))⟩ ⟨Nat.le_trans Fr.1 (by rw [hch]; exact Fr.2.1), Nat.le_refl _, fun q _ => rfl, fun x hx => absurd hx (List.not_mem_nil)⟩ (gv_entry hel)
  obtain ⟨t, a1, o, -, b2, b3, b4, b5⟩ := K ((T.setTop g).pushFrame (.java (entryFrame mk (vs.map (gv_cv ad)).toArray ck.maxLocals))) rfl Y1
  refine ⟨t, o, fun acts => ?_, b2, b3, b4, b5⟩
  rw [hin acts]
  refine gv_Steps.weaken (f := .java g) ?_
  rw [h4, lg_entry_eq] at a1 ⊢
  exact a1
end GC
