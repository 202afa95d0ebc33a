/-! THE FLOOR, 9: casts, constants, statics, calls that may throw -/
set_option maxRecDepth 100000
section R5
variable {Γ : Gm} {l : Launch} {Y : Mth} {d mc ms : Nat} {Q : PO → PH → Prop} {k0 n0 pc : Nat} {ls : PLs} {st stk : List PV} {h : PH}
theorem G.castN {idx : Nat} (hd : decode Y.2.1 pc = .ok (.checkcast idx, 3)) (kk : G Γ l Y d mc ms Q k0 n0 (pc + 3) ls (.inr (.inr none) :: st) h) : G Γ l Y d mc ms Q k0 n0 pc ls (.inr (.inr none) :: st) h := by
  intro p e s m args below meth c H locs ad ad0 d0 sl C R E Z Fr L
  exact lv_castN C.1 C.2.1 hd (kk p e s m args below meth c H locs ad ad0 d0 sl C R E Z Fr L)
theorem G.instN {idx : Nat} (hd : decode Y.2.1 pc = .ok (.instanceof idx, 3)) (kk : G Γ l Y d mc ms Q k0 n0 (pc + 3) ls (.inl 0 :: st) h) : G Γ l Y d mc ms Q k0 n0 pc ls (.inr (.inr none) :: st) h := by
  intro p e s m args below meth c H locs ad ad0 d0 sl C R E Z Fr L
  exact lv_instN C.1 C.2.1 hd (kk p e s m args below meth c H locs ad ad0 d0 sl C R E (Z.tail.push (gv_wv_i _)) Fr L)
/-- the class that a cell says, by its name -/
def nmOf (sp : Shp) : Option String := match sp with
  | .inl ci => (clL[ci]?).map (·.1)
  | .inr (τ, _) => match τ with
    | 0 => some "[I"
    | 1 => some "[B"
    | 2 => some "[S"
    | _ => none
theorem gv_cls {s : State} {H : Heap} {ad : Nm → Nat} (K : gv_K Γ s) (R : gv_Rel Γ ad h H) {n : Nm} {sp : Shp} (hn : h.1 n = some sp) (ht : n.1 < 100) {nm : String} (hc : nmOf sp = some nm) : ∃ cell : Cell, H[ad n]? = some cell ∧ cell.vm.isStatics = false ∧ s.vm.findClass nm = some cell.cls := by
  rcases sp with ci | ⟨τ, len⟩
  · obtain ⟨q, hq, cell, c1, c2, c3, c4, c5, c6⟩ := R.1 n _ hn
    have : nm = q.1 := by
      simp only [nmOf, hq, Option.map_some] at hc
      exact (Option.some.inj hc).symm
    subst this
    exact ⟨cell, c1, c5, by rw [c2]; exact (K.1.1 ci q hq).2.1⟩
  · have c1 := gv_arrW R hn ht
    refine ⟨_, c1, rfl, ?_⟩
    match τ, hc, hn with
    | 0, hc, _ => cases hc; exact (K.1.2 0 _ rfl).2
    | 1, hc, _ => cases hc; exact (K.1.2 1 _ rfl).2
    | 2, hc, _ => cases hc; exact (K.1.2 2 _ rfl).2
    | τ + 3, hc, _ => cases hc
/-- checkcast and instanceof that hold: the class itself, or one above it -/
theorem gv_cast {s : State} {args : Array Value} {H : Heap} {ad : Nm → Nat} (K : gv_K Γ s) (R : gv_Rel Γ ad h H) {n : Nm} {sp : Shp} (hn : h.1 n = some sp) (ht : n.1 < 100) {nm T : String} (hc : nmOf sp = some nm) (hT : nm = T ∨ (nm, T) ∈ nwC) : ∃ (cell : Cell) (t : ClassId), H[ad n]? = some cell ∧ cell.vm.isStatics = false ∧ s.vm.findClass T = some t ∧ s.vm.assignable cell.cls t = true := by
  obtain ⟨cell, c1, c2, c3⟩ := gv_cls K R hn ht hc
  rcases hT with e | e
  · subst e
    exact ⟨cell, _, c1, c2, c3, va_asg _ _⟩
  · obtain ⟨c0, t0, f1, f2, f3⟩ := Cond.castable_spec (va_Nw.use (A := args) rfl (K.2.2.2.1 _ e))
    cases c3.symm.trans f1
    exact ⟨cell, t0, c1, c2, f2, f3⟩
theorem G.castY {n : Nm} {idx : Nat} {sp : Shp} {nm T : String} (hn : h.1 n = some sp) (hc : nmOf sp = some nm) (hT : nm = T ∨ (nm, T) ∈ nwC) (hl : Cond.classLink Y.1.cls idx T ∈ lw_all) (hd : decode Y.2.1 pc = .ok (.checkcast idx, 3)) (kk : G Γ l Y d mc ms Q k0 n0 (pc + 3) ls (.inr (.inr (some n)) :: st) h) (ht : n.1 < 100 := by exact Nat.le_of_ble_eq_true rfl) : G Γ l Y d mc ms Q k0 n0 pc ls (.inr (.inr (some n)) :: st) h := by
  intro p e s m args below meth c H locs ad ad0 d0 sl C R E Z Fr L T0 hT0 X
  have hts := C.2.2.2.2.2.2.2.1
  obtain ⟨cell, t, c1, c2, c3, c4⟩ := gv_cast (args := args) C.2.2.2.2.2.2.2.2.2 R hn ht hc hT
  obtain ⟨vm', X', stp⟩ := X.checkcastYes C.1 C.2.2.2.2.2.2.1 (hts _ hl) (by rw [hT0]; exact c1) c2 c3 c4 (g := F0 m pc sl ((Sum.inr (Sum.inr (some n)) :: st).map (gv_cv ad))) rfl rfl (by rw [C.2.1]; exact hd)
  obtain ⟨t2, a1, b1⟩ := kk p e s m args below meth c H locs ad ad0 d0 sl C R E Z Fr L (T0.setVm vm') hT0 X'
  exact ⟨t2, stp t2 a1, b1⟩
theorem G.instY {n : Nm} {idx : Nat} {sp : Shp} {nm T : String} (hn : h.1 n = some sp) (hc : nmOf sp = some nm) (hT : nm = T ∨ (nm, T) ∈ nwC) (hl : Cond.classLink Y.1.cls idx T ∈ lw_all) (hd : decode Y.2.1 pc = .ok (.instanceof idx, 3)) (kk : G Γ l Y d mc ms Q k0 n0 (pc + 3) ls (.inl 1 :: st) h) (ht : n.1 < 100 := by exact Nat.le_of_ble_eq_true rfl) : G Γ l Y d mc ms Q k0 n0 pc ls (.inr (.inr (some n)) :: st) h := by
  intro p e s m args below meth c H locs ad ad0 d0 sl C R E Z Fr L T0 hT0 X
  have hts := C.2.2.2.2.2.2.2.1
  obtain ⟨cell, t, c1, c2, c3, c4⟩ := gv_cast (args := args) C.2.2.2.2.2.2.2.2.2 R hn ht hc hT
  obtain ⟨vm', X', stp⟩ := X.instanceofYes C.1 C.2.2.2.2.2.2.1 (hts _ hl) (by rw [hT0]; exact c1) c2 c3 c4 (g := F0 m pc sl ((Sum.inr (Sum.inr (some n)) :: st).map (gv_cv ad))) rfl rfl (by rw [C.2.1]; exact hd)
  obtain ⟨t2, a1, b1⟩ := kk p e s m args below meth c H locs ad ad0 d0 sl C R E (Z.tail.push (gv_wv_i _)) Fr L (T0.setVm vm') hT0 X'
  exact ⟨t2, stp t2 a1, b1⟩
theorem G.instNo {n : Nm} {idx : Nat} {sp : Shp} {nm T : String} (hn : h.1 n = some sp) (hc : nmOf sp = some nm) (hT : (nm, T) ∈ nwN) (hl : Cond.classLink Y.1.cls idx T ∈ lw_all) (hd : decode Y.2.1 pc = .ok (.instanceof idx, 3)) (kk : G Γ l Y d mc ms Q k0 n0 (pc + 3) ls (.inl 0 :: st) h) (ht : n.1 < 100 := by exact Nat.le_of_ble_eq_true rfl) : G Γ l Y d mc ms Q k0 n0 pc ls (.inr (.inr (some n)) :: st) h := by
  intro p e s m args below meth c H locs ad ad0 d0 sl C R E Z Fr L
  have hts := C.2.2.2.2.2.2.2.1
  have K := C.2.2.2.2.2.2.2.2.2
  exact va_instNo C.1 C.2.1 C.2.2.2.2.2.2.1 (hts _ hl) (K.2.2.2.2.2.1 _ hT) (gv_cls K R hn ht hc) hd (kk p e s m args below meth c H locs ad ad0 d0 sl C R E (Z.tail.push (gv_wv_i _)) Fr L)
/-- a String constant of the class -/
theorem G.ldcS {idx k : Nat} {tx : String} (hY : Y.1.cls = "TandemKeepsAPlace") (hs : (idx, tx, k) ∈ nwS) (hn : h.1 (100, k) ≠ none) (hd : decode Y.2.1 pc = .ok (.ldc idx, 2)) (kk : G Γ l Y d mc ms Q k0 n0 (pc + 2) ls (.inr (.inr (some (100, k))) :: st) h) : G Γ l Y d mc ms Q k0 n0 pc ls st h := by
  intro p e s m args below meth c H locs ad ad0 d0 sl C R E Z Fr L
  have K := C.2.2.2.2.2.2.2.2.2
  have hk := K.2.2.2.2.2.2.1 _ hs
  have ha : ad (100, k) = Γ.2.2.2 (100, k) := (R.2.2.2.1 (100, k) (by show 100 ≤ 100; decide)).1
  refine va_ldcS C.1 C.2.1 C.2.2.2.2.2.2.1 (by rw [hY]; exact hk) hd ?_
  rw [← ha]
  exact kk p e s m args below meth c H locs ad ad0 d0 sl C R E (Z.push (fun n hn' => by cases hn'; exact hn)) Fr L
theorem gv_Fr.va {s : State} {H : Heap} {locs : List Loc} (F : gv_Fr Γ s H locs) : va_S (fun q => Γ.1 ≤ q) s.heap H locs := ⟨F.2.1, fun q _ h2 => F.2.2.1 q (Nat.lt_of_not_le h2), F.2.2.2⟩
/-- String.COMPACT_STRINGS -/
theorem G.getsC {idx : Nat} (hl : Cond.fieldLink Y.1.cls idx "java/lang/String" "COMPACT_STRINGS" "Z" ∈ lw_all) (hd : decode Y.2.1 pc = .ok (.getstatic idx, 3)) (kk : G Γ l Y d mc ms Q k0 n0 (pc + 3) ls (.inl 1 :: st) h) : G Γ l Y d mc ms Q k0 n0 pc ls st h := by
  intro p e s m args below meth c H locs ad ad0 d0 sl C R E Z Fr L
  have K := C.2.2.2.2.2.2.2.2.2
  exact va_gets C.1 C.2.1 K.2.2.2.2.2.2.2.1 Fr.va C.2.2.2.2.2.2.1 (C.2.2.2.2.2.2.2.1 _ hl) (fun x hx => hx) hd (kk p e s m args below meth c H locs ad ad0 d0 sl C R E (Z.push (gv_wv_i _)) Fr L)
/-- a static of which it is known that it holds a reference or null -/
theorem G.getsR {idx k : Nat} {cn nm ds : String} (hz : (cn, nm, ds, k) ∈ nwZ) (hn : h.1 (102, k) ≠ none) (hl : Cond.fieldLink Y.1.cls idx cn nm ds ∈ lw_all) (hd : decode Y.2.1 pc = .ok (.getstatic idx, 3)) (kk : ∀ r : Option Nm, (r = none ∨ r = some (102, k)) → G Γ l Y d mc ms Q k0 n0 (pc + 3) ls (.inr (.inr r) :: st) h) : G Γ l Y d mc ms Q k0 n0 pc ls st h := by
  intro p e s m args below meth c H locs ad ad0 d0 sl C R E Z Fr L
  have K := C.2.2.2.2.2.2.2.2.2
  obtain ⟨r, hr, hzz⟩ := K.2.2.2.2.2.2.2.2.1 _ hz
  have ha : ad (102, k) = Γ.2.2.2 (102, k) := (R.2.2.2.1 (102, k) (by show 100 ≤ 102; decide)).1
  refine va_gets C.1 C.2.1 hzz Fr.va C.2.2.2.2.2.2.1 (C.2.2.2.2.2.2.2.1 _ hl) (fun x hx => hx) hd ?_
  have K2 := kk r hr p e s m args below meth c H locs ad ad0 d0 sl C R E (Z.push (fun n hn' => by
    rcases hr with e1 | e1
    · rw [e1] at hn'; cases hn'
    · rw [e1] at hn'; cases hn'; exact hn)) Fr L
  have e3 : gv_cv ad (.inr (.inr r)) = va_rf (r.map Γ.2.2.2) := by
    rcases hr with e1 | e1
    · rw [e1]; rfl
    · rw [e1]; show Value.ref (ad (102, k)) = Value.ref (Γ.2.2.2 (102, k)); rw [ha]
  rw [List.map_cons, e3] at K2
  exact K2
theorem G.callT {Y' : Mth} {len d' mc' ms' np : Nat} {vs : List PV} {Q' : PO → PH → Prop} (hI : InvOk Γ l Y d mc ms pc ls vs st h Y'.1 len) (M : MOk Y' np) (hE : GE Γ l Y' d' mc' ms' vs h Q') (hst : stk = vs.reverse ++ st) (kr : ∀ v h', Q' (.inl v) h' → G Γ l Y d mc ms Q (k0 + mc') (n0 + ms') (pc + len) ls (v.toList ++ st) h') (kt : ∀ x h', Q' (.inr x) h' → GT Γ l Y d mc ms Q (k0 + mc') (n0 + ms') pc ls h' x)
    (hel : Nat.ble (gv_el vs).length Y'.2.2.1 = true := by rfl) (hw : Nat.ble ((st.map gv_cat).sum + Y'.2.2.1) 35 = true := by rfl) (hd : d' + 1 ≤ d := by omega) (hcl : k0 + mc' ≤ mc := by omega) (hsl : n0 + ms' ≤ ms := by omega) : G Γ l Y d mc ms Q k0 n0 pc ls stk h := by
  subst hst
  exact G.callG hI M.1 M.2.1 hE (Nat.le_of_ble_eq_true hel) hd (Nat.le_of_ble_eq_true hw) hcl hsl kr kt
end R5
def opShl (x y : Int32) : Int32 := x <<< (y &&& 31)
def opShr (x y : Int32) : Int32 := x >>> (y &&& 31)
def opUsh (x y : Int32) : Int32 := (x.toUInt32 >>> (y.toUInt32 &&& Int32.toUInt32 31)).toInt32
def opB (x : Int32) : Int32 := x.toInt8.toInt32
def opS (x : Int32) : Int32 := x.toInt16.toInt32
def opC (x : Int32) : Int32 := (x.toUInt32 % 65536).toInt32
