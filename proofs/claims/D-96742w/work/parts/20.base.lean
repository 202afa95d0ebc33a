/-! THE FLOOR: pure names, values and heaps; what a machine heap holds of a pure heap; the judgement G (a walk, told by pure states alone) -/
set_option maxRecDepth 100000
abbrev Nm : Type := Nat × Nat
abbrev PV : Type := Int32 ⊕ (Int64 ⊕ Option Nm)
abbrev PLs : Type := List (Option PV)
abbrev Shp : Type := Nat ⊕ (Nat × Nat)
/-- a pure heap: what lies at a name (an object of a class by its number, or an array by its kind and length), its ints, longs, references -/
abbrev PH : Type := (Nm → Option Shp) × (Nm → Nat → Int32) × (Nm → Nat → Int64) × (Nm → Nat → Option Nm)
abbrev pv_i (x : Int32) : PV := Sum.inl x
abbrev pv_l (x : Int64) : PV := Sum.inr (Sum.inl x)
abbrev pv_q (r : Option Nm) : PV := Sum.inr (Sum.inr r)
abbrev pv_r (t i : Nat) : PV := Sum.inr (Sum.inr (some (t, i)))
abbrev pv_n : PV := Sum.inr (Sum.inr none)
def gv_cv (ad : Nm → Nat) (v : PV) : Value := match v with
  | .inl x => .int x
  | .inr (.inl x) => .long x
  | .inr (.inr r) => va_rf (r.map ad)
theorem gv_cv_i (ad : Nm → Nat) (x : Int32) : gv_cv ad (.inl x) = .int x := rfl
theorem gv_cv_l (ad : Nm → Nat) (x : Int64) : gv_cv ad (.inr (.inl x)) = .long x := rfl
theorem gv_cv_r (ad : Nm → Nat) (n : Nm) : gv_cv ad (.inr (.inr (some n))) = .ref (ad n) := rfl
theorem gv_cv_n (ad : Nm → Nat) : gv_cv ad (.inr (.inr none)) = .null := rfl
def gv_cat (v : PV) : Nat := match v with
  | .inr (.inl _) => 2
  | _ => 1
theorem gv_cat_cv (ad : Nm → Nat) (v : PV) : (gv_cv ad v).category = gv_cat v := by
  rcases v with x | x | r
  · rfl
  · rfl
  · cases r <;> rfl
/-- base, classes, array classes, fixed places -/
abbrev Gm : Type := Nat × va_G × (Nat → ClassId) × (Nm → Nat)
def gm_tys (Γ : Gm) : List (ClassId × FieldType) := [(Γ.2.2.1 0, .int), (Γ.2.2.1 1, .byte), (Γ.2.2.1 2, .short), (Γ.2.2.1 3, .boolean), (Γ.2.2.1 4, .object "TandemKeepsAPlace$Rider"), (Γ.2.2.1 5, .array .int), (Γ.2.2.1 6, .object "TandemKeepsAPlace$Node"), (Γ.2.2.1 7, .array (.object "TandemKeepsAPlace$Node")), (Γ.2.2.1 8, .object "java/lang/String"), (Γ.2.2.1 9, .object "TandemKeepsAPlace$Sheet")]
def kz_ok (Γ : Gm) (U : State) : Prop := va_Z "java/lang/String" "COMPACT_STRINGS" "Z" (.int 1) (fun q => Γ.1 ≤ q) U U.heap ∧ (∀ q ∈ nwZ, ∃ r : Option Nm, (r = none ∨ r = some (102, q.2.2.2)) ∧ va_Z q.1 q.2.1 q.2.2.1 (va_rf (r.map Γ.2.2.2)) (fun q => Γ.1 ≤ q) U U.heap) ∧
  (∀ k : Nat, k < 14 → Γ.2.2.2 (101, k) < Γ.1 ∧ ∀ cell : Cell, U.heap[Γ.2.2.2 (101, k)]? = some cell → U.isArrayOf cell .byte ∧ cell.vm ≠ .unknown) ∧ (Γ.2.2.2 (200, 0) < Γ.1 ∧ ∀ cell : Cell, U.heap[Γ.2.2.2 (200, 0)]? = some cell → U.isArrayOf cell .int ∧ cell.vm ≠ .unknown) ∧
  (∃ k7 k6 : Class, U.vm.classes[Γ.2.2.1 7]? = some k7 ∧ k7.kind = .array (Γ.2.2.1 6) (.array (.object "TandemKeepsAPlace$Node")) ∧ U.vm.classes[Γ.2.2.1 6]? = some k6 ∧ U.vm.assignable (Γ.2.2.1 6) (Γ.2.2.1 6) = true) ∧ modulesRight_1 U = true
def kx_ok (Γ : Gm) (U : State) : Prop := (∀ q ∈ nwF, va_Nw (.fieldLinkNest q.1 q.2.1 q.2.2.1 q.2.2.2.1 q.2.2.2.2 "TandemKeepsAPlace") U) ∧ (∀ q ∈ nwM, va_Nw (.methodLinkNest q.1 q.2.1 q.2.2 "TandemKeepsAPlace") U) ∧ (∀ q ∈ nwC, va_Nw (.castable q.1 q.2) U) ∧ (∀ x ∈ nwD, va_Nw (.declares x) U) ∧ (∀ q ∈ nwN, va_Nc q.1 q.2 U) ∧ (∀ q ∈ nwS, vk_R "TandemKeepsAPlace" q.1 q.2.1 (Γ.2.2.2 (100, q.2.2)) U) ∧ kz_ok Γ U
def gv_fv (ad : Nm → Nat) (h : PH) (n : Nm) (kd k : Nat) : Value := match kd with
  | 0 => .int (h.2.1 n k)
  | 1 => .long (h.2.2.1 n k)
  | _ => va_rf ((h.2.2.2 n k).map ad)
/-- an array's element by the array's kind: the first four kinds hold ints -/
def gv_av (ad : Nm → Nat) (h : PH) (n : Nm) (τ j : Nat) : Value := match τ with
  | 0 => .int (h.2.1 n j)
  | 1 => .int (h.2.1 n j)
  | 2 => .int (h.2.1 n j)
  | 3 => .int (h.2.1 n j)
  | _ => va_rf ((h.2.2.2 n j).map ad)
def gv_ob (w : Bool) (o : Nat) (cC : ClassId) (N : Nat) (iS : Nat → Nat) (H : Heap) (V : Nat → Value) : Prop :=
  ∃ cell : Cell, H[o]? = some cell ∧ cell.cls = cC ∧ (w = true → cell.vm = .none) ∧ cell.vm ≠ .unknown ∧ cell.vm.isStatics = false ∧ ∀ k, k < N → cell.slots[iS k]? = some (V k)
/-- arrays that lie there from the start: read alone -/
def gv_ra (o N : Nat) (H : Heap) (V : Nat → Value) : Prop :=
  ∃ cell : Cell, H[o]? = some cell ∧ cell.slots.size = N ∧ ∀ j, j < N → cell.slots[j]? = some (V j)
def gv_ok (Γ : Gm) (ad : Nm → Nat) (h : PH) (n : Nm) (sp : Shp) (H : Heap) : Prop := match sp with
  | .inl ci => ∃ q : vw_C, clL[ci]? = some q ∧ gv_ob (decide (n.1 < 100)) (ad n) (Γ.2.1.1 ci) q.2.2 (Γ.2.1.2 ci) H (fun k => gv_fv ad h n (fkd ci k) k)
  | .inr (τ, len) => if n.1 < 100 then H[ad n]? = some (arrV (Γ.2.2.1 τ) len (fun j => gv_av ad h n τ j)) else (τ < 50 → gv_ra (ad n) len H (fun j => gv_av ad h n τ j))
def gv_wv (h : PH) (v : PV) : Prop := ∀ n : Nm, v = .inr (.inr (some n)) → h.1 n ≠ none
/-- the machine's heap H holds the pure heap h, names at the addresses ad -/
def gv_Rel (Γ : Gm) (ad : Nm → Nat) (h : PH) (H : Heap) : Prop :=
  (∀ n sp, h.1 n = some sp → gv_ok Γ ad h n sp H) ∧ (∀ a b : Nm, h.1 a ≠ none → h.1 b ≠ none → a.1 < 100 → b.1 < 100 → ad a = ad b → a = b) ∧
  (∀ n : Nm, h.1 n ≠ none → n.1 < 100 → Γ.1 ≤ ad n) ∧ (∀ n : Nm, 100 ≤ n.1 → ad n = Γ.2.2.2 n ∧ Γ.2.2.2 n < Γ.1) ∧ ∀ (n : Nm) (k : Nat) (r : Nm), h.1 n ≠ none → h.2.2.2 n k = some r → h.1 r ≠ none
def gv_Fr (Γ : Gm) (s : State) (H : Heap) (locs : List Loc) : Prop := Γ.1 ≤ s.heap.size ∧ s.heap.size ≤ H.size ∧ (∀ q : Nat, q < Γ.1 → H[q]? = s.heap[q]?) ∧ ∀ x ∈ locs, Γ.1 ≤ x.base
def gv_Ex (d0 : Nm → Option Shp) (ad0 : Nm → Nat) (h : PH) (ad : Nm → Nat) : Prop := ∀ n, d0 n ≠ none → h.1 n ≠ none ∧ ad n = ad0 n
def gv_Wf (h : PH) (ls : PLs) (st : List PV) : Prop := (∀ v ∈ st, gv_wv h v) ∧ ∀ (i : Nat) (v : PV), ls[i]? = some (some v) → gv_wv h v
def gv_Lo (ad : Nm → Nat) (nL : Nat) (ls : PLs) (sl : Array Slot) : Prop := sl.size = nL ∧ lv_wf sl ∧ ls.length = nL ∧ ∀ (i : Nat) (v : PV), ls[i]? = some (some v) → sl[i]? = some (.val (gv_cv ad v))
/-- what the tables say all through a run -/
def gv_K (Γ : Gm) (U : State) : Prop := va_K Γ.2.1 clL (gm_tys Γ) U ∧ kx_ok Γ U
abbrev PO : Type := Option PV ⊕ Nm
def gv_out (ad : Nm → Nat) (r : PO) (o : Outcome) : Prop := match r with
  | .inl v => o = .returned (v.map (gv_cv ad))
  | .inr n => o = .threw (ad n)
def gv_wo (h : PH) (r : PO) : Prop := match r with
  | .inl none => True
  | .inl (some v) => gv_wv h v
  | .inr n => h.1 n ≠ none
def gv_Q (Γ : Gm) (s : State) (d0 : Nm → Option Shp) (ad0 : Nm → Nat) (Q : PO → PH → Prop) (o : Outcome) (t : State) : Prop :=
  ∃ (r : PO) (h : PH) (ad : Nm → Nat), Q r h ∧ gv_out ad r o ∧ gv_wo h r ∧ gv_Rel Γ ad h t.heap ∧ gv_Ex d0 ad0 h ad ∧ ∀ q : Nat, q < Γ.1 → t.heap[q]? = s.heap[q]?
def gv_E (Γ : Gm) (below : List Frame) (s : State) (mc ms : Nat) (QC : Outcome → State → Prop) : State → Prop := fun t =>
  ∃ o, t.status = .running ∧ Ended t below o ∧ s.WarmedH t.vm ∧ (∃ L, s.sameButNew ({ t with vm := s.vm } : State) L mc ms ∧ ∀ q ∈ L, Γ.1 ≤ q.base) ∧ QC o t
/-- a method: its name, code, locals, answer, handlers -/
abbrev Mth : Type := MethodName × ByteArray × Nat × Option FieldType × List (Nat × Nat × Nat × Nat)
def gv_Cx (Γ : Gm) (Y : Mth) (p : Program) (s : State) (m : MethodId) (args : Array Value) (meth : Method) (c : Code) : Prop :=
  p.tables.exec = Jvm.exec ∧ c.code = Y.2.1 ∧ c.maxLocals = Y.2.2.1 ∧ meth.sig.returnType = Y.2.2.2.1 ∧ meth.locks = false ∧ meth.name = Y.1.name ∧ s.vm.findClass Y.1.cls = some m.cls ∧ (∀ w ∈ lw_all, w.before args s = true) ∧ c.exceptionTable.toList.map (fun h => (h.startPc, h.endPc, h.handlerPc, h.catchType)) = Y.2.2.2.2 ∧ gv_K Γ s
abbrev gv_rm (d mc ms : Nat) : Room := { frames := d, cells := mc, slots := ms, locals := 46 * d }
/-- THE JUDGEMENT: in every machine where the method Y stands at pc with these locals, this stack, over a heap that holds h: it comes to an end that Q says -/
def G (Γ : Gm) (l : Launch) (Y : Mth) (d mc ms : Nat) (Q : PO → PH → Prop) (k n pc : Nat) (ls : PLs) (st : List PV) (h : PH) : Prop :=
  ∀ (p : Program) (e : Env) (s : State) (m : MethodId) (args : Array Value) (below : List Frame) (meth : Method) (c : Code) (H : Heap) (locs : List Loc) (ad ad0 : Nm → Nat) (d0 : Nm → Option Shp) (sl : Array Slot),
    gv_Cx Γ Y p s m args meth c → gv_Rel Γ ad h H → gv_Ex d0 ad0 h ad → gv_Wf h ls st → gv_Fr Γ s H locs → gv_Lo ad Y.2.2.1 ls sl →
    W p l e (gv_rm d mc ms) s m args below meth c H locs k n (gv_E Γ below s mc ms (gv_Q Γ s d0 ad0 Q)) (F0 m pc sl (st.map (gv_cv ad)))
/-- the locals with which a method begins -/
def gv_el (vs : List PV) : PLs := match vs with
  | [] => []
  | v :: r => match v with
    | .inr (.inl x) => some (.inr (.inl x)) :: none :: gv_el r
    | v => some v :: gv_el r
def gv_ent (vs : List PV) (nL : Nat) : PLs := gv_el vs ++ List.replicate (nL - (gv_el vs).length) none
/-- a method's contract at one start: its arguments, the heap -/
def GE (Γ : Gm) (l : Launch) (Y : Mth) (d mc ms : Nat) (vs : List PV) (h : PH) (Q : PO → PH → Prop) : Prop := G Γ l Y d mc ms Q 0 0 0 (gv_ent vs Y.2.2.1) [] h
/-- a plain instruction's act on locals, stack, heap -/
abbrev PT : Type := PLs × List PV × PH
def Snd (Y : Mth) (pc pc' : Nat) (a : PT → Option PT) : Prop := ∀ (Γ : Gm) (l : Launch) (d mc ms : Nat) (Q : PO → PH → Prop) (k n : Nat) (σ σ' : PT), a σ = some σ' → G Γ l Y d mc ms Q k n pc' σ'.1 σ'.2.1 σ'.2.2 → G Γ l Y d mc ms Q k n pc σ.1 σ.2.1 σ.2.2
theorem Snd.go {Y : Mth} {pc pc' : Nat} {a : PT → Option PT} (S : Snd Y pc pc' a) {Γ : Gm} {l : Launch} {d mc ms : Nat} {Q : PO → PH → Prop} {k n : Nat} {ls ls' : PLs} {st st' : List PV} {h h' : PH} (ha : a (ls, st, h) = some (ls', st', h')) (kk : G Γ l Y d mc ms Q k n pc' ls' st' h') : G Γ l Y d mc ms Q k n pc ls st h :=
  S Γ l d mc ms Q k n (ls, st, h) (ls', st', h') ha kk
def ra_ (as : List (PT → Option PT)) (σ : PT) : Option PT := match as with
  | [] => some σ
  | a :: r => match a σ with
    | none => none
    | some σ' => ra_ r σ'
theorem Snd.nil {Y : Mth} {pc : Nat} : Snd Y pc pc (ra_ []) := fun _ _ _ _ _ _ _ _ _ _ h k => by cases h; exact k
theorem Snd.cons {Y : Mth} {p q r : Nat} {a : PT → Option PT} {as : List (PT → Option PT)} (h1 : Snd Y p q a) (h2 : Snd Y q r (ra_ as)) : Snd Y p r (ra_ (a :: as)) := by
  intro Γ l d mc ms Q k n σ σ' h kk
  simp only [ra_] at h
  cases ha : a σ with
  | none => rw [ha] at h; cases h
  | some σ1 =>
    rw [ha] at h
    exact h1 Γ l d mc ms Q k n σ σ1 ha (h2 Γ l d mc ms Q k n σ1 σ' h kk)
theorem W.mono {p : Program} {l : Launch} {e : Env} {R : Room} {s : State} {m : MethodId} {args : Array Value} {below : List Frame} {meth : Method} {c : Code} {H : Heap} {locs : List Loc} {cells slots : Nat} {Q Q' : State → Prop} {g : JFrame} (h : ∀ t, Q t → Q' t) (k : W p l e R s m args below meth c H locs cells slots Q g) : W p l e R s m args below meth c H locs cells slots Q' g := by
  intro T hT X
  obtain ⟨t, a, b⟩ := k T hT X
  exact ⟨t, a, h t b⟩
theorem gv_wv_i {h : PH} (x : Int32) : gv_wv h (.inl x) := fun n e => by cases e
theorem gv_wv_l {h : PH} (x : Int64) : gv_wv h (.inr (.inl x)) := fun n e => by cases e
theorem gv_wv_n {h : PH} : gv_wv h (.inr (.inr none)) := fun n e => by cases e
theorem gv_Wf.push {h : PH} {ls : PLs} {st : List PV} {v : PV} (w : gv_Wf h ls st) (hv : gv_wv h v) : gv_Wf h ls (v :: st) := ⟨fun x hx => by
  rcases List.mem_cons.mp hx with e | e
  · rw [e]; exact hv
  · exact w.1 x e, w.2⟩
theorem gv_Wf.tail {h : PH} {ls : PLs} {st : List PV} {v : PV} (w : gv_Wf h ls (v :: st)) : gv_Wf h ls st := ⟨fun x hx => w.1 x (List.mem_cons_of_mem _ hx), w.2⟩
theorem gv_Wf.head {h : PH} {ls : PLs} {st : List PV} {v : PV} (w : gv_Wf h ls (v :: st)) : gv_wv h v := w.1 v List.mem_cons_self
theorem gv_Lo.at {ad : Nm → Nat} {nL : Nat} {ls : PLs} {sl : Array Slot} (L : gv_Lo ad nL ls sl) {i : Nat} {v : PV} (h : ls[i]? = some (some v)) : sl[i]? = some (.val (gv_cv ad v)) := L.2.2.2 i v h
/-- a machine's step on the stack alone -/
def WSt (cc : ByteArray) (pc pc' : Nat) (st st' : List Value) : Prop := ∀ {p : Program} {l : Launch} {e : Env} {R : Room} {s : State} {m : MethodId} {args : Array Value} {below : List Frame} {meth : Method} {c : Code} {H : Heap} {locs : List Loc} {cells slots : Nat} {Q : State → Prop} {ls : Array Slot}, p.tables.exec = Jvm.exec → c.code = cc → W p l e R s m args below meth c H locs cells slots Q (F0 m pc' ls st') → W p l e R s m args below meth c H locs cells slots Q (F0 m pc ls st)
def ac_ii (op : Int32 → Int32 → Int32) : PT → Option PT := fun (ls, st, h) => match st with
  | .inl y :: .inl x :: r => some (ls, .inl (op x y) :: r, h)
  | _ => none
theorem sd_ii {Y : Mth} {pc pc' : Nat} {op : Int32 → Int32 → Int32} (hw : ∀ x y rest, WSt Y.2.1 pc pc' (.int y :: .int x :: rest) (.int (op x y) :: rest)) : Snd Y pc pc' (ac_ii op) := by
  intro Γ l d mc ms Q k n σ σ' ha kk p e s m args below meth c H locs ad ad0 d0 sl C R E F Fr L
  obtain ⟨ls, st, h⟩ := σ
  simp only [ac_ii] at ha
  split at ha
  · rename_i _ y x r
    cases ha
    exact hw x y _ C.1 C.2.1 (kk p e s m args below meth c H locs ad ad0 d0 sl C R E (F.tail.tail.push (gv_wv_i _)) Fr L)
  · cases ha
def ac_i (op : Int32 → Int32) : PT → Option PT := fun (ls, st, h) => match st with
  | .inl x :: r => some (ls, .inl (op x) :: r, h)
  | _ => none
theorem sd_i {Y : Mth} {pc pc' : Nat} {op : Int32 → Int32} (hw : ∀ x rest, WSt Y.2.1 pc pc' (.int x :: rest) (.int (op x) :: rest)) : Snd Y pc pc' (ac_i op) := by
  intro Γ l d mc ms Q k n σ σ' ha kk p e s m args below meth c H locs ad ad0 d0 sl C R E F Fr L
  obtain ⟨ls, st, h⟩ := σ
  simp only [ac_i] at ha
  split at ha
  · rename_i _ x r
    cases ha
    exact hw x _ C.1 C.2.1 (kk p e s m args below meth c H locs ad ad0 d0 sl C R E (F.tail.push (gv_wv_i _)) Fr L)
  · cases ha
def ac_ll (op : Int64 → Int64 → Int64) : PT → Option PT := fun (ls, st, h) => match st with
  | .inr (.inl y) :: .inr (.inl x) :: r => some (ls, .inr (.inl (op x y)) :: r, h)
  | _ => none
theorem sd_ll {Y : Mth} {pc pc' : Nat} {op : Int64 → Int64 → Int64} (hw : ∀ x y rest, WSt Y.2.1 pc pc' (.long y :: .long x :: rest) (.long (op x y) :: rest)) : Snd Y pc pc' (ac_ll op) := by
  intro Γ l d mc ms Q k n σ σ' ha kk p e s m args below meth c H locs ad ad0 d0 sl C R E F Fr L
  obtain ⟨ls, st, h⟩ := σ
  simp only [ac_ll] at ha
  split at ha
  · rename_i _ y x r
    cases ha
    exact hw x y _ C.1 C.2.1 (kk p e s m args below meth c H locs ad ad0 d0 sl C R E (F.tail.tail.push (gv_wv_l _)) Fr L)
  · cases ha
def ac_lcmp : PT → Option PT := fun (ls, st, h) => match st with
  | .inr (.inl y) :: .inr (.inl x) :: r => some (ls, .inl (lg_cmp x y) :: r, h)
  | _ => none
theorem sd_lcmp {Y : Mth} {pc : Nat} (hd : decode Y.2.1 pc = .ok (.lcmp, 1)) : Snd Y pc (pc + 1) ac_lcmp := by
  intro Γ l d mc ms Q k n σ σ' ha kk p e s m args below meth c H locs ad ad0 d0 sl C R E F Fr L
  obtain ⟨ls, st, h⟩ := σ
  simp only [ac_lcmp] at ha
  split at ha
  · rename_i _ y x r
    cases ha
    exact W.lcmp C.1 C.2.1 hd (kk p e s m args below meth c H locs ad ad0 d0 sl C R E (F.tail.tail.push (gv_wv_i _)) Fr L)
  · cases ha
def ac_i2l : PT → Option PT := fun (ls, st, h) => match st with
  | .inl x :: r => some (ls, .inr (.inl x.toInt64) :: r, h)
  | _ => none
theorem sd_i2l {Y : Mth} {pc : Nat} (hd : decode Y.2.1 pc = .ok (.i2l, 1)) : Snd Y pc (pc + 1) ac_i2l := by
  intro Γ l d mc ms Q k n σ σ' ha kk p e s m args below meth c H locs ad ad0 d0 sl C R E F Fr L
  obtain ⟨ls, st, h⟩ := σ
  simp only [ac_i2l] at ha
  split at ha
  · rename_i _ x r
    cases ha
    exact lv_i2l C.1 C.2.1 hd rfl (kk p e s m args below meth c H locs ad ad0 d0 sl C R E (F.tail.push (gv_wv_l _)) Fr L)
  · cases ha
def ac_l2i : PT → Option PT := fun (ls, st, h) => match st with
  | .inr (.inl x) :: r => some (ls, .inl x.toInt32 :: r, h)
  | _ => none
theorem sd_l2i {Y : Mth} {pc : Nat} (hd : decode Y.2.1 pc = .ok (.l2i, 1)) : Snd Y pc (pc + 1) ac_l2i := by
  intro Γ l d mc ms Q k n σ σ' ha kk p e s m args below meth c H locs ad ad0 d0 sl C R E F Fr L
  obtain ⟨ls, st, h⟩ := σ
  simp only [ac_l2i] at ha
  split at ha
  · rename_i _ x r
    cases ha
    exact lv_l2i C.1 C.2.1 hd rfl (kk p e s m args below meth c H locs ad ad0 d0 sl C R E (F.tail.push (gv_wv_i _)) Fr L)
  · cases ha
/-- a constant -/
def ac_c (v : PV) : PT → Option PT := fun (ls, st, h) => some (ls, v :: st, h)
theorem sd_ci {Y : Mth} {pc pc' : Nat} {x : Int32} (hw : ∀ rest, WSt Y.2.1 pc pc' rest (.int x :: rest)) : Snd Y pc pc' (ac_c (.inl x)) := by
  intro Γ l d mc ms Q k n σ σ' ha kk p e s m args below meth c H locs ad ad0 d0 sl C R E F Fr L
  cases ha
  exact hw _ C.1 C.2.1 (kk p e s m args below meth c H locs ad ad0 d0 sl C R E (F.push (gv_wv_i _)) Fr L)
theorem sd_cl {Y : Mth} {pc pc' : Nat} {x : Int64} (hw : ∀ rest, WSt Y.2.1 pc pc' rest (.long x :: rest)) : Snd Y pc pc' (ac_c (.inr (.inl x))) := by
  intro Γ l d mc ms Q k n σ σ' ha kk p e s m args below meth c H locs ad ad0 d0 sl C R E F Fr L
  cases ha
  exact hw _ C.1 C.2.1 (kk p e s m args below meth c H locs ad ad0 d0 sl C R E (F.push (gv_wv_l _)) Fr L)
theorem sd_null {Y : Mth} {pc : Nat} (hd : decode Y.2.1 pc = .ok (.aconst_null, 1)) : Snd Y pc (pc + 1) (ac_c (.inr (.inr none))) := by
  intro Γ l d mc ms Q k n σ σ' ha kk p e s m args below meth c H locs ad ad0 d0 sl C R E F Fr L
  cases ha
  exact lv_null C.1 C.2.1 hd (kk p e s m args below meth c H locs ad ad0 d0 sl C R E (F.push gv_wv_n) Fr L)
theorem sd_ldc {Y : Mth} {pc index : Nat} {v : Int32} (hc : Cond.constant Y.1.cls index v ∈ lw_all) (hd : decode Y.2.1 pc = .ok (.ldc index, 2)) : Snd Y pc (pc + 2) (ac_c (.inl v)) := by
  intro Γ l d mc ms Q k n σ σ' ha kk p e s m args below meth c H locs ad ad0 d0 sl C R E F Fr L
  cases ha
  exact lv_ldc C.1 C.2.1 C.2.2.2.2.2.2.1 (C.2.2.2.2.2.2.2.1 _ hc) hd (kk p e s m args below meth c H locs ad ad0 d0 sl C R E (F.push (gv_wv_i _)) Fr L)
theorem sd_ldcw {Y : Mth} {pc index : Nat} {v : Int32} (hc : Cond.constant Y.1.cls index v ∈ lw_all) (hd : decode Y.2.1 pc = .ok (.ldc_w index, 3)) : Snd Y pc (pc + 3) (ac_c (.inl v)) := by
  intro Γ l d mc ms Q k n σ σ' ha kk p e s m args below meth c H locs ad ad0 d0 sl C R E F Fr L
  cases ha
  exact lv_ldcw C.1 C.2.1 C.2.2.2.2.2.2.1 (C.2.2.2.2.2.2.2.1 _ hc) hd (kk p e s m args below meth c H locs ad ad0 d0 sl C R E (F.push (gv_wv_i _)) Fr L)
theorem sd_ldc2 {Y : Mth} {pc index : Nat} {v : Int64} (hc : Cond.constantLong Y.1.cls index v ∈ lw_all) (hd : decode Y.2.1 pc = .ok (.ldc2_w index, 3)) : Snd Y pc (pc + 3) (ac_c (.inr (.inl v))) := by
  intro Γ l d mc ms Q k n σ σ' ha kk p e s m args below meth c H locs ad ad0 d0 sl C R E F Fr L
  cases ha
  exact lv_ldc2 C.1 C.2.1 C.2.2.2.2.2.2.1 (C.2.2.2.2.2.2.2.1 _ hc) hd (kk p e s m args below meth c H locs ad ad0 d0 sl C R E (F.push (gv_wv_l _)) Fr L)
/-- a local -/
def ac_il (i : Nat) : PT → Option PT := fun (ls, st, h) => match ls[i]? with
  | some (some (.inl x)) => some (ls, .inl x :: st, h)
  | _ => none
def ac_ll_ (i : Nat) : PT → Option PT := fun (ls, st, h) => match ls[i]? with
  | some (some (.inr (.inl x))) => some (ls, .inr (.inl x) :: st, h)
  | _ => none
def ac_al (i : Nat) : PT → Option PT := fun (ls, st, h) => match ls[i]? with
  | some (some (.inr (.inr x))) => some (ls, .inr (.inr x) :: st, h)
  | _ => none
theorem sd_il_n {Y : Mth} {pc : Nat} {i : Fin 4} {j : Nat} (hd : decode Y.2.1 pc = .ok (.iload_n i, 1)) (hj : (i : Nat) = j) : Snd Y pc (pc + 1) (ac_il j) := by
  intro Γ l d mc ms Q k n σ σ' ha kk p e s m args below meth c H locs ad ad0 d0 sl C R E F Fr L
  obtain ⟨ls, st, h⟩ := σ
  simp only [ac_il] at ha
  split at ha
  · rename_i x hx
    cases ha
    exact lv_iload_n C.1 C.2.1 hd hj (L.at hx) (kk p e s m args below meth c H locs ad ad0 d0 sl C R E (F.push (gv_wv_i _)) Fr L)
  · cases ha
theorem sd_il {Y : Mth} {pc i : Nat} (hd : decode Y.2.1 pc = .ok (.iload i, 2)) : Snd Y pc (pc + 2) (ac_il i) := by
  intro Γ l d mc ms Q k n σ σ' ha kk p e s m args below meth c H locs ad ad0 d0 sl C R E F Fr L
  obtain ⟨ls, st, h⟩ := σ
  simp only [ac_il] at ha
  split at ha
  · rename_i x hx
    cases ha
    exact lv_iload C.1 C.2.1 hd (L.at hx) (kk p e s m args below meth c H locs ad ad0 d0 sl C R E (F.push (gv_wv_i _)) Fr L)
  · cases ha
theorem sd_ll_n {Y : Mth} {pc : Nat} {i : Fin 4} {j : Nat} (hd : decode Y.2.1 pc = .ok (.lload_n i, 1)) (hj : (i : Nat) = j) : Snd Y pc (pc + 1) (ac_ll_ j) := by
  intro Γ l d mc ms Q k n σ σ' ha kk p e s m args below meth c H locs ad ad0 d0 sl C R E F Fr L
  obtain ⟨ls, st, h⟩ := σ
  simp only [ac_ll_] at ha
  split at ha
  · rename_i x hx
    cases ha
    exact lv_lload_n C.1 C.2.1 hd hj (L.at hx) (kk p e s m args below meth c H locs ad ad0 d0 sl C R E (F.push (gv_wv_l _)) Fr L)
  · cases ha
theorem sd_lload {Y : Mth} {pc i : Nat} (hd : decode Y.2.1 pc = .ok (.lload i, 2)) : Snd Y pc (pc + 2) (ac_ll_ i) := by
  intro Γ l d mc ms Q k n σ σ' ha kk p e s m args below meth c H locs ad ad0 d0 sl C R E F Fr L
  obtain ⟨ls, st, h⟩ := σ
  simp only [ac_ll_] at ha
  split at ha
  · rename_i x hx
    cases ha
    exact lv_lload C.1 C.2.1 hd (L.at hx) (kk p e s m args below meth c H locs ad ad0 d0 sl C R E (F.push (gv_wv_l _)) Fr L)
  · cases ha
theorem sd_al_n {Y : Mth} {pc : Nat} {i : Fin 4} {j : Nat} (hd : decode Y.2.1 pc = .ok (.aload_n i, 1)) (hj : (i : Nat) = j) : Snd Y pc (pc + 1) (ac_al j) := by
  intro Γ l d mc ms Q k n σ σ' ha kk p e s m args below meth c H locs ad ad0 d0 sl C R E F Fr L
  obtain ⟨ls, st, h⟩ := σ
  simp only [ac_al] at ha
  split at ha
  · rename_i x hx
    cases ha
    have K := kk p e s m args below meth c H locs ad ad0 d0 sl C R E (F.push (F.2 _ _ hx)) Fr L
    have A := L.at hx
    cases x with
    | none => exact lv_aload_nN C.1 C.2.1 hd hj A K
    | some y => exact lv_aload_n C.1 C.2.1 hd hj A K
  · cases ha
theorem sd_al {Y : Mth} {pc i : Nat} (hd : decode Y.2.1 pc = .ok (.aload i, 2)) : Snd Y pc (pc + 2) (ac_al i) := by
  intro Γ l d mc ms Q k n σ σ' ha kk p e s m args below meth c H locs ad ad0 d0 sl C R E F Fr L
  obtain ⟨ls, st, h⟩ := σ
  simp only [ac_al] at ha
  split at ha
  · rename_i x hx
    cases ha
    have K := kk p e s m args below meth c H locs ad ad0 d0 sl C R E (F.push (F.2 _ _ hx)) Fr L
    have A := L.at hx
    cases x with
    | none => exact lv_aloadN C.1 C.2.1 hd A K
    | some y => exact lv_aload C.1 C.2.1 hd A K
  · cases ha
/-- storing a local of one word, of two words -/
def ls_st1 (ls : PLs) (i : Nat) (v : PV) : PLs := match ls[i - 1]? with
  | some (some (.inr (.inl _))) => (ls.set (i - 1) none).set i (some v)
  | _ => ls.set i (some v)
def ls_st2 (ls : PLs) (i : Nat) (v : PV) : PLs := match ls[i - 1]? with
  | some (some (.inr (.inl _))) => (((ls.set (i - 1) none).set (i + 1) none)).set i (some v)
  | _ => (ls.set (i + 1) none).set i (some v)
theorem ls_st1_len (ls : PLs) (i : Nat) (v : PV) : (ls_st1 ls i v).length = ls.length := by
  unfold ls_st1
  split <;> simp
theorem ls_st2_len (ls : PLs) (i : Nat) (v : PV) : (ls_st2 ls i v).length = ls.length := by
  unfold ls_st2
  split <;> simp
theorem ls_st1_get {ls : PLs} {i j : Nat} {v w : PV} (h : (ls_st1 ls i v)[j]? = some (some w)) : (j = i ∧ w = v) ∨ (j ≠ i ∧ ls[j]? = some (some w) ∧ ¬ (j + 1 = i ∧ gv_cat w = 2)) := by
  unfold ls_st1 at h
  split at h
  · rename_i x hx
    rw [List.getElem?_set] at h
    by_cases e : i = j
    · subst e
      rw [if_pos rfl] at h
      split at h
      · exact Or.inl ⟨rfl, by simpa using h.symm⟩
      · cases h
    · rw [if_neg e, List.getElem?_set] at h
      by_cases e2 : i - 1 = j
      · rw [if_pos e2] at h
        split at h <;> cases h
      · rw [if_neg e2] at h
        exact Or.inr ⟨fun q => e q.symm, h, fun q => e2 (by omega)⟩
  · rename_i hx
    rw [List.getElem?_set] at h
    by_cases e : i = j
    · subst e
      rw [if_pos rfl] at h
      split at h
      · exact Or.inl ⟨rfl, by simpa using h.symm⟩
      · cases h
    · rw [if_neg e] at h
      refine Or.inr ⟨fun q => e q.symm, h, fun q => ?_⟩
      have e3 : i - 1 = j := by omega
      rw [e3] at hx
      rcases w with a | a | a
      · exact absurd q.2 (by simp [gv_cat])
      · exact hx a h
      · exact absurd q.2 (by simp [gv_cat])
theorem ls_st2_get {ls : PLs} {i j : Nat} {v w : PV} (h : (ls_st2 ls i v)[j]? = some (some w)) : (j = i ∧ w = v) ∨ (j ≠ i ∧ j ≠ i + 1 ∧ ls[j]? = some (some w) ∧ ¬ (j + 1 = i ∧ gv_cat w = 2)) := by
  unfold ls_st2 at h
  split at h
  · rename_i x hx
    rw [List.getElem?_set] at h
    by_cases e : i = j
    · subst e
      rw [if_pos rfl] at h
      split at h
      · exact Or.inl ⟨rfl, by simpa using h.symm⟩
      · cases h
    · rw [if_neg e, List.getElem?_set] at h
      by_cases e1 : i + 1 = j
      · rw [if_pos e1] at h
        split at h <;> cases h
      · rw [if_neg e1, List.getElem?_set] at h
        by_cases e2 : i - 1 = j
        · rw [if_pos e2] at h
          split at h <;> cases h
        · rw [if_neg e2] at h
          exact Or.inr ⟨fun q => e q.symm, fun q => e1 q.symm, h, fun q => e2 (by omega)⟩
  · rename_i hx
    rw [List.getElem?_set] at h
    by_cases e : i = j
    · subst e
      rw [if_pos rfl] at h
      split at h
      · exact Or.inl ⟨rfl, by simpa using h.symm⟩
      · cases h
    · rw [if_neg e, List.getElem?_set] at h
      by_cases e1 : i + 1 = j
      · rw [if_pos e1] at h
        split at h <;> cases h
      · rw [if_neg e1] at h
        refine Or.inr ⟨fun q => e q.symm, fun q => e1 q.symm, h, fun q => ?_⟩
        have e3 : i - 1 = j := by omega
        rw [e3] at hx
        rcases w with a | a | a
        · exact absurd q.2 (by simp [gv_cat])
        · exact hx a h
        · exact absurd q.2 (by simp [gv_cat])
def gv_lv (ad : Nm → Nat) (ls : PLs) : List (Nat × Value) := (List.range ls.length).filterMap fun i => match ls[i]? with
  | some (some v) => some (i, gv_cv ad v)
  | _ => none
theorem gv_lv_mem {ad : Nm → Nat} {ls : PLs} {q : Nat × Value} : q ∈ gv_lv ad ls ↔ ∃ v, ls[q.1]? = some (some v) ∧ q.2 = gv_cv ad v := by
  unfold gv_lv
  rw [List.mem_filterMap]
  constructor
  · rintro ⟨i, -, h⟩
    split at h
    · rename_i v hv
      cases h
      exact ⟨v, hv, rfl⟩
    · cases h
  · rintro ⟨v, hv, e⟩
    have hlt : q.1 < ls.length := (List.getElem?_eq_some_iff.mp hv).1
    refine ⟨q.1, List.mem_range.mpr hlt, ?_⟩
    rw [hv]
    simp only [← e]
theorem gv_Lo.has {ad : Nm → Nat} {nL : Nat} {ls : PLs} {sl : Array Slot} (L : gv_Lo ad nL ls sl) : lv_has sl nL (gv_lv ad ls) := by
  refine ⟨L.1, L.2.1, fun q hq => ?_⟩
  obtain ⟨v, hv, e⟩ := gv_lv_mem.mp hq
  rw [e]
  exact L.at hv
theorem gv_Lo.st1 {ad : Nm → Nat} {nL : Nat} {ls : PLs} {sl sl' : Array Slot} (L : gv_Lo ad nL ls sl) {i : Nat} {v : PV} (h : lv_has sl' nL ((i, gv_cv ad v) :: (gv_lv ad ls).filter (fun q => !(q.1 == i) && !(q.1 + 1 == i && q.2.category == 2)))) : gv_Lo ad nL (ls_st1 ls i v) sl' := by
  refine ⟨h.1, h.2.1, by rw [ls_st1_len]; exact L.2.2.1, fun j w hj => ?_⟩
  rcases ls_st1_get hj with ⟨rfl, rfl⟩ | ⟨h1, h2, h3⟩
  · exact h.2.2 (j, gv_cv ad w) List.mem_cons_self
  · refine h.2.2 (j, gv_cv ad w) (List.mem_cons_of_mem _ (List.mem_filter.mpr ⟨gv_lv_mem.mpr ⟨w, h2, rfl⟩, ?_⟩))
    simp only [gv_cat_cv, Bool.and_eq_true, Bool.not_eq_true', beq_eq_false_iff_ne, ne_eq, Bool.and_eq_false_iff]
    refine ⟨h1, ?_⟩
    by_cases q : j + 1 = i
    · exact Or.inr (fun z => h3 ⟨q, z⟩)
    · exact Or.inl q
theorem gv_Lo.st2 {ad : Nm → Nat} {nL : Nat} {ls : PLs} {sl sl' : Array Slot} (L : gv_Lo ad nL ls sl) {i : Nat} {v : PV} (h : lv_has sl' nL ((i, gv_cv ad v) :: (gv_lv ad ls).filter (fun q => !(q.1 == i) && (!(q.1 == i + 1) && !(q.1 + 1 == i && q.2.category == 2))))) : gv_Lo ad nL (ls_st2 ls i v) sl' := by
  refine ⟨h.1, h.2.1, by rw [ls_st2_len]; exact L.2.2.1, fun j w hj => ?_⟩
  rcases ls_st2_get hj with ⟨rfl, rfl⟩ | ⟨h1, h0, h2, h3⟩
  · exact h.2.2 (j, gv_cv ad w) List.mem_cons_self
  · refine h.2.2 (j, gv_cv ad w) (List.mem_cons_of_mem _ (List.mem_filter.mpr ⟨gv_lv_mem.mpr ⟨w, h2, rfl⟩, ?_⟩))
    simp only [gv_cat_cv, Bool.and_eq_true, Bool.not_eq_true', beq_eq_false_iff_ne, ne_eq, Bool.and_eq_false_iff]
    refine ⟨h1, h0, ?_⟩
    by_cases q : j + 1 = i
    · exact Or.inr (fun z => h3 ⟨q, z⟩)
    · exact Or.inl q
theorem gv_Wf.st1 {h : PH} {ls : PLs} {st : List PV} {v : PV} (w : gv_Wf h ls (v :: st)) (i : Nat) : gv_Wf h (ls_st1 ls i v) st := ⟨w.tail.1, fun j x hj => by
  rcases ls_st1_get hj with ⟨rfl, rfl⟩ | ⟨-, h2, -⟩
  · exact w.head
  · exact w.2 _ _ h2⟩
theorem gv_Wf.st2 {h : PH} {ls : PLs} {st : List PV} {v : PV} (w : gv_Wf h ls (v :: st)) (i : Nat) : gv_Wf h (ls_st2 ls i v) st := ⟨w.tail.1, fun j x hj => by
  rcases ls_st2_get hj with ⟨rfl, rfl⟩ | ⟨-, -, h2, -⟩
  · exact w.head
  · exact w.2 _ _ h2⟩
def ac_is (i : Nat) : PT → Option PT := fun (ls, st, h) => match st, ls[i]? with
  | .inl x :: r, some _ => some (ls_st1 ls i (.inl x), r, h)
  | _, _ => none
def ac_as (i : Nat) : PT → Option PT := fun (ls, st, h) => match st, ls[i]? with
  | .inr (.inr x) :: r, some _ => some (ls_st1 ls i (.inr (.inr x)), r, h)
  | _, _ => none
def ac_ls (i : Nat) : PT → Option PT := fun (ls, st, h) => match st, ls[i + 1]? with
  | .inr (.inl x) :: r, some _ => some (ls_st2 ls i (.inr (.inl x)), r, h)
  | _, _ => none
theorem gv_Lo.lt {ad : Nm → Nat} {nL : Nat} {ls : PLs} {sl : Array Slot} (L : gv_Lo ad nL ls sl) {i : Nat} {x : Option PV} (h : ls[i]? = some x) : i < nL := by
  rw [← L.2.2.1]
  exact (List.getElem?_eq_some_iff.mp h).1
theorem sd_is_n {Y : Mth} {pc : Nat} {i : Fin 4} {j : Nat} (hd : decode Y.2.1 pc = .ok (.istore_n i, 1)) (hj : (i : Nat) = j) : Snd Y pc (pc + 1) (ac_is j) := by
  intro Γ l d mc ms Q k n σ σ' ha kk p e s m args below meth c H locs ad ad0 d0 sl C R E F Fr L
  obtain ⟨ls, st, h⟩ := σ
  simp only [ac_is] at ha
  split at ha
  · rename_i _ _ x r y hx
    cases ha
    exact lv_istore_n C.1 C.2.1 hd hj L.has (L.lt hx) rfl (fun sl' hl' => kk p e s m args below meth c H locs ad ad0 d0 sl' C R E (F.st1 j) Fr (L.st1 hl'))
  · cases ha
theorem sd_is {Y : Mth} {pc i : Nat} (hd : decode Y.2.1 pc = .ok (.istore i, 2)) : Snd Y pc (pc + 2) (ac_is i) := by
  intro Γ l d mc ms Q k n σ σ' ha kk p e s m args below meth c H locs ad ad0 d0 sl C R E F Fr L
  obtain ⟨ls, st, h⟩ := σ
  simp only [ac_is] at ha
  split at ha
  · rename_i _ _ x r y hx
    cases ha
    exact lv_istore C.1 C.2.1 hd L.has (L.lt hx) rfl (fun sl' hl' => kk p e s m args below meth c H locs ad ad0 d0 sl' C R E (F.st1 i) Fr (L.st1 hl'))
  · cases ha
theorem sd_as_n {Y : Mth} {pc : Nat} {i : Fin 4} {j : Nat} (hd : decode Y.2.1 pc = .ok (.astore_n i, 1)) (hj : (i : Nat) = j) : Snd Y pc (pc + 1) (ac_as j) := by
  intro Γ l d mc ms Q k n σ σ' ha kk p e s m args below meth c H locs ad ad0 d0 sl C R E F Fr L
  obtain ⟨ls, st, h⟩ := σ
  simp only [ac_as] at ha
  split at ha
  · rename_i _ _ x r y hx
    cases ha
    cases x with
    | none => exact lv_astore_nN C.1 C.2.1 hd hj L.has (L.lt hx) rfl (fun sl' hl' => kk p e s m args below meth c H locs ad ad0 d0 sl' C R E (F.st1 j) Fr (L.st1 hl'))
    | some z => exact lv_astore_n C.1 C.2.1 hd hj L.has (L.lt hx) rfl (fun sl' hl' => kk p e s m args below meth c H locs ad ad0 d0 sl' C R E (F.st1 j) Fr (L.st1 hl'))
  · cases ha
theorem sd_as {Y : Mth} {pc i : Nat} (hd : decode Y.2.1 pc = .ok (.astore i, 2)) : Snd Y pc (pc + 2) (ac_as i) := by
  intro Γ l d mc ms Q k n σ σ' ha kk p e s m args below meth c H locs ad ad0 d0 sl C R E F Fr L
  obtain ⟨ls, st, h⟩ := σ
  simp only [ac_as] at ha
  split at ha
  · rename_i _ _ x r y hx
    cases ha
    cases x with
    | none => exact lv_astoreN C.1 C.2.1 hd L.has (L.lt hx) rfl (fun sl' hl' => kk p e s m args below meth c H locs ad ad0 d0 sl' C R E (F.st1 i) Fr (L.st1 hl'))
    | some z => exact lv_astore C.1 C.2.1 hd L.has (L.lt hx) rfl (fun sl' hl' => kk p e s m args below meth c H locs ad ad0 d0 sl' C R E (F.st1 i) Fr (L.st1 hl'))
  · cases ha
theorem sd_ls {Y : Mth} {pc i : Nat} (hd : decode Y.2.1 pc = .ok (.lstore i, 2)) : Snd Y pc (pc + 2) (ac_ls i) := by
  intro Γ l d mc ms Q k n σ σ' ha kk p e s m args below meth c H locs ad ad0 d0 sl C R E F Fr L
  obtain ⟨ls, st, h⟩ := σ
  simp only [ac_ls] at ha
  split at ha
  · rename_i _ _ x r y hx
    cases ha
    exact lv_lstore C.1 C.2.1 hd L.has (L.lt hx) rfl (fun sl' hl' => kk p e s m args below meth c H locs ad ad0 d0 sl' C R E (F.st2 i) Fr (L.st2 hl'))
  · cases ha
def ac_inc (i : Nat) (x : Int32) : PT → Option PT := fun (ls, st, h) => match ls[i]? with
  | some (some (.inl y)) => some (ls_st1 ls i (.inl (y + x)), st, h)
  | _ => none
theorem sd_inc {Y : Mth} {pc i : Nat} {n : Int} {x : Int32} (hd : decode Y.2.1 pc = .ok (.iinc i n, 3)) (hx : Int32.ofInt n = x) : Snd Y pc (pc + 3) (ac_inc i x) := by
  intro Γ l d mc ms Q k n σ σ' ha kk p e s m args below meth c H locs ad ad0 d0 sl C R E F Fr L
  obtain ⟨ls, st, h⟩ := σ
  simp only [ac_inc] at ha
  split at ha
  · rename_i y hy
    cases ha
    obtain ⟨j, hj⟩ := List.getElem?_of_mem (gv_lv_mem.mpr ⟨_, hy, rfl⟩ : (i, gv_cv ad (.inl y)) ∈ gv_lv ad ls)
    exact lv_iinc C.1 C.2.1 hd L.has hj (by rw [hx]) (L.lt hy) rfl (fun sl' hl' => kk p e s m args below meth c H locs ad ad0 d0 sl' C R E ((F.push (gv_wv_i (y + x))).st1 i) Fr (L.st1 hl'))
  · cases ha
def ac_dup : PT → Option PT := fun (ls, st, h) => match st with
  | .inl x :: r => some (ls, .inl x :: .inl x :: r, h)
  | .inr (.inr x) :: r => some (ls, .inr (.inr x) :: .inr (.inr x) :: r, h)
  | _ => none
theorem sd_dup {Y : Mth} {pc : Nat} (hd : decode Y.2.1 pc = .ok (.dup, 1)) : Snd Y pc (pc + 1) ac_dup := by
  intro Γ l d mc ms Q k n σ σ' ha kk p e s m args below meth c H locs ad ad0 d0 sl C R E F Fr L
  obtain ⟨ls, st, h⟩ := σ
  simp only [ac_dup] at ha
  split at ha
  · rename_i _ x r
    cases ha
    exact lv_dup C.1 C.2.1 hd rfl (kk p e s m args below meth c H locs ad ad0 d0 sl C R E (F.push F.head) Fr L)
  · rename_i _ x r
    cases ha
    exact lv_dup C.1 C.2.1 hd (gv_cat_cv ad (.inr (.inr x))) (kk p e s m args below meth c H locs ad ad0 d0 sl C R E (F.push F.head) Fr L)
  · cases ha
def ac_pop : PT → Option PT := fun (ls, st, h) => match st with
  | .inl x :: r => some (ls, r, h)
  | .inr (.inr x) :: r => some (ls, r, h)
  | _ => none
theorem sd_pop {Y : Mth} {pc : Nat} (hd : decode Y.2.1 pc = .ok (.pop, 1)) : Snd Y pc (pc + 1) ac_pop := by
  intro Γ l d mc ms Q k n σ σ' ha kk p e s m args below meth c H locs ad ad0 d0 sl C R E F Fr L
  obtain ⟨ls, st, h⟩ := σ
  simp only [ac_pop] at ha
  split at ha
  · rename_i _ x r
    cases ha
    exact lv_pop C.1 C.2.1 hd rfl (kk p e s m args below meth c H locs ad ad0 d0 sl C R E F.tail Fr L)
  · rename_i _ x r
    cases ha
    exact lv_pop C.1 C.2.1 hd (gv_cat_cv ad (.inr (.inr x))) (kk p e s m args below meth c H locs ad ad0 d0 sl C R E F.tail Fr L)
  · cases ha
def ac_go : PT → Option PT := fun (ls, st, h) => some (ls, st, h)
theorem sd_go {Y : Mth} {pc tgt : Nat} {off : Int} (hd : decode Y.2.1 pc = .ok (.goto off, 3)) (ht : (pc : Int) + off = (tgt : Int)) : Snd Y pc tgt ac_go := by
  intro Γ l d mc ms Q k n σ σ' ha kk p e s m args below meth c H locs ad ad0 d0 sl C R E F Fr L
  cases ha
  exact lv_goto C.1 C.2.1 hd ht (kk p e s m args below meth c H locs ad ad0 d0 sl C R E F Fr L)
theorem sd_iconst {Y : Mth} {pc : Nat} {n : Int} {v : Int32} (hd : decode Y.2.1 pc = .ok (.iconst n, 1)) (hv : Int32.ofInt n = v) : Snd Y pc (pc + 1) (ac_c (.inl v)) := sd_ci (fun _ => fun hx hb k => lv_iconst hx hb hd hv k)
theorem sd_bipush {Y : Mth} {pc : Nat} {n : Int} {v : Int32} (hd : decode Y.2.1 pc = .ok (.bipush n, 2)) (hv : (Int8.ofInt n).toInt32 = v) : Snd Y pc (pc + 2) (ac_c (.inl v)) := sd_ci (fun _ => fun hx hb k => lv_bipush hx hb hd hv k)
theorem sd_sipush {Y : Mth} {pc : Nat} {n : Int} {v : Int32} (hd : decode Y.2.1 pc = .ok (.sipush n, 3)) (hv : (Int16.ofInt n).toInt32 = v) : Snd Y pc (pc + 3) (ac_c (.inl v)) := sd_ci (fun _ => fun hx hb k => lv_sipush hx hb hd hv k)
theorem sd_lconst {Y : Mth} {pc : Nat} {n : Fin 2} {v : Int64} (hd : decode Y.2.1 pc = .ok (.lconst n, 1)) (hv : Int64.ofNat (n : Nat) = v) : Snd Y pc (pc + 1) (ac_c (.inr (.inl v))) := sd_cl (fun _ => fun hx hb k => lv_lconst hx hb hd hv k)
theorem sd_iadd {Y : Mth} {pc : Nat} (hd : decode Y.2.1 pc = .ok (.iadd, 1)) : Snd Y pc (pc + 1) (ac_ii (· + ·)) := sd_ii (fun _ _ _ => fun hx hb k => lv_iadd hx hb hd k)
theorem sd_isub {Y : Mth} {pc : Nat} (hd : decode Y.2.1 pc = .ok (.isub, 1)) : Snd Y pc (pc + 1) (ac_ii (· - ·)) := sd_ii (fun _ _ _ => fun hx hb k => lv_isub hx hb hd k)
theorem sd_imul {Y : Mth} {pc : Nat} (hd : decode Y.2.1 pc = .ok (.imul, 1)) : Snd Y pc (pc + 1) (ac_ii (· * ·)) := sd_ii (fun _ _ _ => fun hx hb k => lv_imul hx hb hd k)
theorem sd_iand {Y : Mth} {pc : Nat} (hd : decode Y.2.1 pc = .ok (.iand, 1)) : Snd Y pc (pc + 1) (ac_ii (· &&& ·)) := sd_ii (fun _ _ _ => fun hx hb k => lv_iand hx hb hd k)
theorem sd_ior {Y : Mth} {pc : Nat} (hd : decode Y.2.1 pc = .ok (.ior, 1)) : Snd Y pc (pc + 1) (ac_ii (· ||| ·)) := sd_ii (fun _ _ _ => fun hx hb k => lv_ior hx hb hd k)
theorem sd_ixor {Y : Mth} {pc : Nat} (hd : decode Y.2.1 pc = .ok (.ixor, 1)) : Snd Y pc (pc + 1) (ac_ii (· ^^^ ·)) := sd_ii (fun _ _ _ => fun hx hb k => lv_ixor hx hb hd k)
theorem sd_ishl {Y : Mth} {pc : Nat} (hd : decode Y.2.1 pc = .ok (.ishl, 1)) : Snd Y pc (pc + 1) (ac_ii (fun x y => x <<< (y &&& 31))) := sd_ii (fun _ _ _ => fun hx hb k => lv_ishl hx hb hd k)
theorem sd_ishr {Y : Mth} {pc : Nat} (hd : decode Y.2.1 pc = .ok (.ishr, 1)) : Snd Y pc (pc + 1) (ac_ii (fun x y => x >>> (y &&& 31))) := sd_ii (fun _ _ _ => fun hx hb k => lv_ishr hx hb hd k)
theorem sd_iushr {Y : Mth} {pc : Nat} (hd : decode Y.2.1 pc = .ok (.iushr, 1)) : Snd Y pc (pc + 1) (ac_ii (fun x y => (x.toUInt32 >>> (y.toUInt32 &&& Int32.toUInt32 31)).toInt32)) := sd_ii (fun _ _ _ => fun hx hb k => lv_iushr hx hb hd rfl k)
theorem sd_ineg {Y : Mth} {pc : Nat} (hd : decode Y.2.1 pc = .ok (.ineg, 1)) : Snd Y pc (pc + 1) (ac_i (fun x => -x)) := sd_i (fun _ _ => fun hx hb k => lv_ineg hx hb hd k)
theorem sd_i2b {Y : Mth} {pc : Nat} (hd : decode Y.2.1 pc = .ok (.i2b, 1)) : Snd Y pc (pc + 1) (ac_i (fun x => x.toInt8.toInt32)) := sd_i (fun _ _ => fun hx hb k => lv_i2b hx hb hd rfl k)
theorem sd_i2s {Y : Mth} {pc : Nat} (hd : decode Y.2.1 pc = .ok (.i2s, 1)) : Snd Y pc (pc + 1) (ac_i (fun x => x.toInt16.toInt32)) := sd_i (fun _ _ => fun hx hb k => lv_i2s hx hb hd rfl k)
theorem sd_i2c {Y : Mth} {pc : Nat} (hd : decode Y.2.1 pc = .ok (.i2c, 1)) : Snd Y pc (pc + 1) (ac_i (fun x => (x.toUInt32 % 65536).toInt32)) := sd_i (fun _ _ => fun hx hb k => lv_i2c hx hb hd rfl k)
theorem sd_ladd {Y : Mth} {pc : Nat} (hd : decode Y.2.1 pc = .ok (.ladd, 1)) : Snd Y pc (pc + 1) (ac_ll (· + ·)) := sd_ll (fun _ _ _ => fun hx hb k => lv_ladd hx hb hd k)
theorem sd_lsub {Y : Mth} {pc : Nat} (hd : decode Y.2.1 pc = .ok (.lsub, 1)) : Snd Y pc (pc + 1) (ac_ll (· - ·)) := sd_ll (fun _ _ _ => fun hx hb k => lv_lsub hx hb hd k)
theorem sd_lmul {Y : Mth} {pc : Nat} (hd : decode Y.2.1 pc = .ok (.lmul, 1)) : Snd Y pc (pc + 1) (ac_ll (· * ·)) := sd_ll (fun _ _ _ => fun hx hb k => lv_lmul hx hb hd k)
