/-! THE FLOOR, 4: rows of calls and ends -/
set_option maxRecDepth 100000
/-- an exception is on its way in the method Y, from the instruction at pc -/
def GT (Γ : Gm) (l : Launch) (Y : Mth) (d mc ms : Nat) (Q : PO → PH → Prop) (k n pc : Nat) (ls : PLs) (h : PH) (x : Nm) : Prop :=
  ∀ (p : Program) (e : Env) (s : State) (m : MethodId) (args : Array Value) (below : List Frame) (meth : Method) (c : Code) (H : Heap) (locs : List Loc) (ad ad0 : Nm → Nat) (d0 : Nm → Option Shp) (sl : Array Slot) (stv : List Value) (T : State),
    gv_Cx Γ Y p s m args meth c → gv_Rel Γ ad h H → gv_Ex d0 ad0 h ad → gv_Wf h ls [] → h.1 x ≠ none → gv_Fr Γ s H locs → gv_Lo ad Y.2.2.1 ls sl → T.heap = H → Stand p l e (gv_rm d mc ms) s m args below meth c T locs k n →
    ∃ t, Steps p.tables e below ((T.setTop (F0 m pc sl stv)).pushFrame (.throwing (ad x))) t ∧ gv_E Γ below s mc ms (gv_Q Γ s d0 ad0 Q) t
/-- an invoking instruction, up to the callee's entry -/
def InvOk (Γ : Gm) (l : Launch) (Y : Mth) (d mc ms pc : Nat) (ls : PLs) (vs st : List PV) (h : PH) (y : MethodName) (len : Nat) : Prop :=
  ∀ (p : Program) (e : Env) (s : State) (m : MethodId) (args : Array Value) (below : List Frame) (meth : Method) (c : Code) (locs : List Loc) (k n : Nat) (ad : Nm → Nat) (sl : Array Slot) (T : State),
    gv_Cx Γ Y p s m args meth c → gv_Rel Γ ad h T.heap → Stand p l e (gv_rm d mc ms) s m args below meth c T locs k n →
    (∃ ig, decode Y.2.1 pc = .ok (ig, len)) ∧ ∃ mk vm₁, s.methodNamed? y = some mk ∧ Stand p l e (gv_rm d mc ms) s m args below meth c (T.setVm vm₁) locs k n ∧
      ∀ target, (∀ acts, Steps p.tables e below (doInvoke e ((T.setVm vm₁).setTop (F0 m pc sl (st.map (gv_cv ad)))) acts mk (vs.map (gv_cv ad)).toArray).1 target) → Steps p.tables e below (T.setTop (F0 m pc sl ((vs.reverse ++ st).map (gv_cv ad)))) target
theorem gv_sum (ad : Nm → Nat) (st : List PV) : ((st.map (gv_cv ad)).map fun v => v.category).sum = (st.map gv_cat).sum := by
  rw [List.map_map]
  congr 1
  exact List.map_congr_left fun v _ => gv_cat_cv ad v
section CG
variable {Γ : Gm} {l : Launch} {Y : Mth} {d mc ms : Nat} {Q : PO → PH → Prop} {k0 n0 pc : Nat} {ls : PLs} {st : List PV} {h : PH}
theorem G.callG {Y' : Mth} {len d' mc' ms' : Nat} {vs : List PV} {Q' : PO → PH → Prop} (hI : InvOk Γ l Y d mc ms pc ls vs st h Y'.1 len) (hc : CdOk Y') (hp : plainFor Y'.1 = true) (hE : GE Γ l Y' d' mc' ms' vs h Q') (hel : (gv_el vs).length ≤ Y'.2.2.1) (hd : d' + 1 ≤ d) (hw : (st.map gv_cat).sum + Y'.2.2.1 ≤ 35) (hcl : k0 + mc' ≤ mc) (hsl : n0 + ms' ≤ ms)
    (kr : ∀ v h', Q' (.inl v) h' → G Γ l Y d mc ms Q (k0 + mc') (n0 + ms') (pc + len) ls (v.toList ++ st) h')
    (kt : ∀ x h', Q' (.inr x) h' → GT Γ l Y d mc ms Q (k0 + mc') (n0 + ms') pc ls h' x) : G Γ l Y d mc ms Q k0 n0 pc ls (vs.reverse ++ st) h := by
  intro p e s m args below meth c H locs ad ad0 d0 sl C R E W Fr L T hT X
  subst hT
  obtain ⟨⟨ig, hdg⟩, mk, vm₁, hmk, X₁, hst⟩ := hI p e s m args below meth c locs k0 n0 ad sl T C R X
  obtain ⟨t, o, hsteps, hend, hWt, ⟨L', hsame, hL'⟩, r, h', ad', hQ', hout, hwo, hR', hE', hfr'⟩ := gv_enter (Γ := Γ) (ad := ad) (h := h) X₁ C.1 C.2.2.2.2.2.2.2.1 C.2.2.2.2.2.2.2.2.2 Fr R (g := F0 m pc sl (st.map (gv_cv ad))) rfl (by rw [C.2.2.1]; exact L.1) (by rw [C.2.1]; exact hdg) hmk hc hp hE
    (fun v hv => W.1 v (List.mem_append_left _ (List.mem_reverse.mpr hv))) hel (by show d' + 1 ≤ d; exact hd) (by
      show 2 * 0 + ((st.map (gv_cv ad)).map fun v => v.category).sum + (Y'.2.2.1 + 11) + 46 * d' ≤ 46 * d
      rw [gv_sum]; omega) hcl hsl
  have hWf : gv_Wf h' ls st := by
    refine ⟨fun v hv n hn => ?_, fun i v hv n hn => ?_⟩
    · exact (hE' n (W.1 v (List.mem_append_right _ hv) n hn)).1
    · exact (hE' n (W.2 i v hv n hn)).1
  have hcv : ∀ v, gv_wv h v → gv_cv ad' v = gv_cv ad v := by
    intro v hv
    rcases v with x | x | x
    · rfl
    · rfl
    · cases x with
      | none => rfl
      | some n => show va_rf (some (ad' n)) = va_rf (some (ad n)); rw [(hE' n (hv n rfl)).2]
  have hLo : gv_Lo ad' Y.2.2.1 ls sl := ⟨L.1, L.2.1, L.2.2.1, fun i v hv => by rw [hcv v (W.2 i v hv)]; exact L.2.2.2 i v hv⟩
  have hEx : gv_Ex d0 ad0 h' ad' := fun n hn => ⟨(hE' n (E n hn).1).1, (hE' n (E n hn).1).2.trans (E n hn).2⟩
  have hstm : st.map (gv_cv ad) = st.map (gv_cv ad') := List.map_congr_left fun v hv => (hcv v (W.1 v (List.mem_append_right _ hv))).symm
  have hfr2 : ∀ (T' : State), T'.heap = t.heap → T.heap.size ≤ t.heap.size → gv_Fr Γ s T'.heap (locs ++ L') := by
    intro T' e1 e2
    refine ⟨Fr.1, by rw [e1]; exact Nat.le_trans Fr.2.1 e2, fun q hq => by rw [e1, hfr' q hq]; exact Fr.2.2.1 q hq, fun x hx => ?_⟩
    rcases List.mem_append.mp hx with z | z
    · exact Fr.2.2.2 x z
    · exact hL' x z
  have hsz : T.heap.size ≤ t.heap.size := hsame.2.1
  rcases r with v | x
  · rw [show o = .returned (v.map (gv_cv ad')) from hout] at hend
    obtain ⟨T', X', hW', hsm, ht⟩ := X₁.outOf rfl (by rw [C.2.1]; exact hdg) hend hWt hsame
    have hth : T'.heap = t.heap := by rw [ht]; rfl
    have hvv : gv_Wf h' ls (v.toList ++ st) := by
      cases v with
      | none => exact hWf
      | some v => exact hWf.push hwo
    obtain ⟨t2, a1, b1⟩ := kr v h' hQ' p e s m args below meth c T'.heap (locs ++ L') ad' ad0 d0 sl C (by rw [hth]; exact hR') hEx hvv (hfr2 T' hth hsz) hLo T' rfl X'
    refine ⟨t2, hst t2 fun acts => (hsteps acts).trans ?_, b1⟩
    rw [ht]
    have e9 : (v.map (gv_cv ad')).toList ++ st.map (gv_cv ad) = (v.toList ++ st).map (gv_cv ad') := by
      rw [hstm]
      cases v <;> rfl
    show Steps p.tables e below (T'.setTop (F0 m (pc + len) sl ((v.map (gv_cv ad')).toList ++ st.map (gv_cv ad)))) t2
    rw [e9]
    exact a1
  · rw [show o = .threw (ad' x) from hout] at hend
    obtain ⟨T', X', hW', hsm, ht⟩ := X₁.outOfThrown rfl hend hWt hsame
    have hth : T'.heap = t.heap := by rw [ht]; exact (Stand.throwing_heap T' _ _).symm
    obtain ⟨t2, a1, b1⟩ := kt x h' hQ' p e s m args below meth c T'.heap (locs ++ L') ad' ad0 d0 sl (st.map (gv_cv ad)) T' C (by rw [hth]; exact hR') hEx ⟨fun v hv => absurd hv List.not_mem_nil, hWf.2⟩ hwo (hfr2 T' hth hsz) hLo rfl X'
    refine ⟨t2, hst t2 fun acts => (hsteps acts).trans ?_, b1⟩
    rw [ht]
    exact a1
/-- what a callee by an object asks of the tables: its code, its name, its parameters -/
def MOk (Y : Mth) (n : Nat) : Prop := CdOk Y ∧ plainFor Y.1 = true ∧ (Y.1.cls ≠ "java/lang/invoke/MethodHandle" ∧ Y.1.cls ≠ "java/lang/invoke/VarHandle") ∧ (parseMethodDescriptor Y.1.desc).map (fun d => d.parameters.length) = some n
theorem MOk.len {Y : Mth} {n : Nat} (h : MOk Y n) {sig : MethodDescriptor} (hs : parseMethodDescriptor Y.1.desc = some sig) : n = sig.parameters.length := by
  have h2 := h.2.2.2
  rw [hs] at h2
  exact (Option.some.inj h2).symm
/-- invokevirtual of a method of the receiver's own class -/
theorem inv_V {Y' : Mth} {idx ci n : Nat} {b : Nm} {As : List PV} (M : MOk Y' n) (hi : Cond.instanceMethod Y'.1 ∈ lw_all) (hse : Cond.selects Y'.1.cls Y'.1 Y'.1 ∈ lw_all) (hlk : Cond.methodLink Y.1.cls idx Y'.1 ∈ lw_all) (hb : h.1 b = some (.inl ci)) (hci : (clL[ci]?).map (·.1) = some Y'.1.cls) (hn : As.length = n) (hd : decode Y.2.1 pc = .ok (.invokevirtual idx, 3)) :
    InvOk Γ l Y d mc ms pc ls (.inr (.inr (some b)) :: As) st h Y'.1 3 := by
  intro p e s m args below meth c locs k n ad sl T C R X
  refine ⟨⟨_, hd⟩, ?_⟩
  obtain ⟨hx, hbb, -, -, -, -, hown, hts, -, hK, -⟩ := C
  obtain ⟨mk', methk, ck, h0, h1, h2, h3, h4, h5, h6, h7, h8⟩ := cd_spec M.1 hts
  obtain ⟨mk, methM, hnamed, hmethM, hstM, habM⟩ := Cond.instanceMethod_spec (hts _ hi)
  cases h0.symm.trans hnamed
  cases h1.symm.trans hmethM
  obtain ⟨c2, r2, m2, q1, q2, q3, q4, kP, hkP, hkPi⟩ := Cond.selects_spec (hts _ hse)
  obtain ⟨q, hq, cell, c1, c2', c3, c4, c5, c6⟩ := R.1 b _ hb
  rw [hq] at hci
  have hcn : q.1 = Y'.1.cls := Option.some.inj hci
  have hcls : s.vm.findClass Y'.1.cls = some cell.cls := by rw [c2', ← hcn]; exact (hK.1 ci _ hq).2.1
  cases hcls.symm.trans q1
  cases (State.methodFound?_of_named hnamed M.2.2.1).symm.trans q2
  cases hnamed.symm.trans q3
  have hselP : selectMethod e.platform s.vm cell.cls mk' = .method mk' := by rw [Launch.admits_selectMethod X.admits]; exact q4
  obtain ⟨vm₁, X₁, hstep₁⟩ := X.invokevirtual hx hown (hts _ hlk) hnamed hmethM hstM hkP hkPi M.2.2.1 (a := ad b) (cell := cell) c1
    (fun z hz => by rw [hz] at c5; cases c5) hselP hmethM habM hkP hkPi (g := F0 m pc sl (((Sum.inr (Sum.inr (some b)) :: As).reverse ++ st).map (gv_cv ad))) rfl (argsL := As.map (gv_cv ad)) (rest := st.map (gv_cv ad)) (by rw [List.length_map, hn]; exact M.len h8) (by simp [gv_cv_r]) (by rw [hbb]; exact hd)
  exact ⟨mk', vm₁, h0, X₁, fun target ht => hstep₁ target ht⟩
/-- invokestatic -/
theorem inv_S {Y' : Mth} {idx n : Nat} {As : List PV} (M : MOk Y' n) (hs : Cond.static Y'.1 ∈ lw_all) (hin : Cond.initialized Y'.1.cls ∈ lw_all) (hlk : Cond.methodLink Y.1.cls idx Y'.1 ∈ lw_all) (hn : As.length = n) (hd : decode Y.2.1 pc = .ok (.invokestatic idx, 3)) :
    InvOk Γ l Y d mc ms pc ls As st h Y'.1 3 := by
  intro p e s m args below meth c locs k n ad sl T C R X
  refine ⟨⟨_, hd⟩, ?_⟩
  obtain ⟨hx, hbb, -, -, -, -, hown, hts, -, hK, -⟩ := C
  obtain ⟨mk, methk, ck, h0, h1, h2, h3, h4, h5, h6, h7, h8⟩ := cd_spec M.1 hts
  have hstatic : methk.isStatic = true := Cond.static_spec h0 h1 (hts _ hs)
  obtain ⟨kP, hkP, -⟩ := className_of_methodNamed h0
  have hinitP : kP.init = .initialized := Cond.initialized_spec (findClass_of_methodNamed h0) hkP (hts _ hin)
  obtain ⟨vm₁, X₁, hstep₁⟩ := X.invokestatic hx hown (hts _ hlk) h0 h1 hstatic hkP hinitP M.2.2.1 (g := F0 m pc sl ((As.reverse ++ st).map (gv_cv ad))) rfl (argsL := As.map (gv_cv ad)) (rest := st.map (gv_cv ad)) (by rw [List.length_map, hn]; exact M.len h8) (by simp) (by rw [hbb]; exact hd)
  exact ⟨mk, vm₁, h0, X₁, fun target ht => hstep₁ target ht⟩
/-- invokespecial of a constructor -/
theorem inv_I {Y' : Mth} {idx n : Nat} {b : Nm} {As : List PV} (M : MOk Y' n) (hnm : Y'.1.name = "<init>") (hcd : Cond.code Y'.1 Y'.2.1 Y'.2.2.1 none ∈ lw_all) (hi : Cond.instanceMethod Y'.1 ∈ lw_all) (hlk : Cond.methodLink Y.1.cls idx Y'.1 ∈ lw_all) (hn : As.length = n) (hd : decode Y.2.1 pc = .ok (.invokespecial idx, 3)) :
    InvOk Γ l Y d mc ms pc ls (.inr (.inr (some b)) :: As) st h Y'.1 3 := by
  intro p e s m args below meth c locs k n ad sl T C R X
  refine ⟨⟨_, hd⟩, ?_⟩
  obtain ⟨hx, hbb, -, -, -, -, hown, hts, -, hK, -⟩ := C
  have hpl : e.platform.magicAccessors = ({} : Platform).magicAccessors := by rw [X.admits.platform]
  obtain ⟨mk, methM, cM, kP, vm₁, hnamed, hmethM, hcodeM, -, hlocalsM, -, hkP, -, hW₁, hstep₁⟩ := Steps.initColdArgs (e := e) X.here hx X.warmed hpl hown hnm M.2.2.1 (hts _ hlk) (hts _ hi) (hts _ hcd) (f := F0 m pc sl (((Sum.inr (Sum.inr (some b)) :: As).reverse ++ st).map (gv_cv ad))) rfl (argsL := As.map (gv_cv ad)) (rest := st.map (gv_cv ad)) (a := ad b) (fun sig hs => by rw [List.length_map, hn]; exact M.len hs) (by simp [gv_cv_r]) (by rw [hbb]; exact hd)
  exact ⟨mk, vm₁, hnamed, X.noted hW₁, fun target ht => hstep₁ target ht⟩
/-- invokespecial of a nest mate's private constructor -/
theorem inv_IN {Y' : Mth} {idx n : Nat} {b : Nm} {As : List PV} (M : MOk Y' n) (hnm : Y'.1.name = "<init>") (hcd : Cond.code Y'.1 Y'.2.1 Y'.2.2.1 none ∈ lw_all) (hi : Cond.instanceMethod Y'.1 ∈ lw_all) (hlk : (Y.1.cls, idx, Y'.1) ∈ nwM) (hn : As.length = n) (hd : decode Y.2.1 pc = .ok (.invokespecial idx, 3)) :
    InvOk Γ l Y d mc ms pc ls (.inr (.inr (some b)) :: As) st h Y'.1 3 := by
  intro p e s m args below meth c locs k n ad sl T C R X
  refine ⟨⟨_, hd⟩, ?_⟩
  obtain ⟨hx, hbb, -, -, -, -, hown, hts, -, hK, -, hk3, -⟩ := C
  have hpl : e.platform.magicAccessors = ({} : Platform).magicAccessors := by rw [X.admits.platform]
  obtain ⟨mk, methM, cM, kP, vm₁, hnamed, hmethM, hcodeM, -, hlocalsM, -, hkP, -, hW₁, hstep₁⟩ := Steps.initColdArgsNest (e := e) X.here hx X.warmed hpl hown hnm M.2.2.1 (va_Nw.use rfl (hk3 _ hlk)) (hts _ hi) (hts _ hcd) (f := F0 m pc sl (((Sum.inr (Sum.inr (some b)) :: As).reverse ++ st).map (gv_cv ad))) rfl (argsL := As.map (gv_cv ad)) (rest := st.map (gv_cv ad)) (a := ad b) (fun sig hs => by rw [List.length_map, hn]; exact M.len hs) (by simp [gv_cv_r]) (by rw [hbb]; exact hd)
  exact ⟨mk, vm₁, hnamed, X.noted hW₁, fun target ht => hstep₁ target ht⟩
end CG
