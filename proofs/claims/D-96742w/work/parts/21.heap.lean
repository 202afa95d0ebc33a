/-! THE FLOOR, 2: the tables' facts move along; fields; arrays -/
set_option maxRecDepth 100000
theorem gv_hts {args a' : Array Value} {s U : State} (h : ∀ w ∈ lw_all, w.before args s = true) (hW : s.WarmedH U.vm) : ∀ w ∈ lw_all, w.before a' U = true := fun w hw => word_at hW (lw_self w hw).2 (h w hw)
theorem gv_K.moved {Γ : Gm} {s U : State} (h : gv_K Γ s) (hW : s.WarmedH U.vm) (hb : Γ.1 ≤ s.heap.size) (hq : ∀ q : Nat, q < Γ.1 → U.heap[q]? = s.heap[q]?) : gv_K Γ U := by
  obtain ⟨h1, h2, h3, h4, h5, h6, h7, h8, h9, h10, h11, ⟨k7, k6, a1, a2, a3, a4⟩, h13⟩ := h
  have kp : ∀ a : Nat, a < s.heap.size → ¬ Γ.1 ≤ a → U.heap[a]? = s.heap[a]? := fun a _ ha => hq a (Nat.lt_of_not_le ha)
  refine ⟨va_K.moved hW.alike h1, fun q hq => va_Nw.warmF hW (h2 q hq), fun q hq => va_Nw.warmM hW (h3 q hq), fun q hq => va_Nw.warmC hW (h4 q hq), fun q hq => va_Nw.warmD hW (h5 q hq), fun q hq => va_Nc.moved hW.alike (h6 q hq), fun q hq => vk_R.warm hW (h7 q hq), (h8.kept kp).moved hW.alike, fun q hq => ?_, fun k hk => ?_, ?_, ?_, ?_⟩
  · obtain ⟨r, a, b⟩ := h9 q hq
    exact ⟨r, a, (b.kept kp).moved hW.alike⟩
  · obtain ⟨a, b⟩ := h10 k hk
    refine ⟨a, fun cell hc => ?_⟩
    rw [hq _ a] at hc
    exact ⟨State.isArrayOf_alike hW.alike (b cell hc).1, (b cell hc).2⟩
  · refine ⟨h11.1, fun cell hc => ?_⟩
    rw [hq _ h11.1] at hc
    exact ⟨State.isArrayOf_alike hW.alike (h11.2 cell hc).1, (h11.2 cell hc).2⟩
  · obtain ⟨k7', b1, b2⟩ := hW.alike.2.2 _ _ a1
    obtain ⟨k6', b3, b4⟩ := hW.alike.2.2 _ _ a3
    exact ⟨k7', k6', b1, by rw [b2]; exact a2, b3, by rw [hW.alike.assignable]; exact a4⟩
  · unfold modulesRight_1 at h13 ⊢
    have e : U.vm.modules = _ := congrArg Vm.modules hW.alike.1
    rw [e]
    exact h13
/-- the entry idx of own's pool is field k of the class number ci -/
def FldOk (own : String) (idx k ci : Nat) : Prop := ∃ (ref : String) (q : vw_C), clL[ci]? = some q ∧ k < q.2.2 ∧ (ref = (q.2.1 k).1 ∨ Cond.sameField ref (q.2.1 k).1 (q.2.1 k).2.1 (q.2.1 k).2.2.1 ∈ lw_all) ∧
  (Cond.fieldLink own idx ref (q.2.1 k).2.1 (q.2.1 k).2.2.1 ∈ lw_all ∨ (own, idx, ref, (q.2.1 k).2.1, (q.2.1 k).2.2.1) ∈ nwF)
section GF
variable {Γ : Gm} {l : Launch} {Y : Mth} {p : Program} {e : Env} {R : Room} {s : State} {m : MethodId} {args : Array Value} {below : List Frame} {meth : Method} {c : Code} {H : Heap} {locs : List Loc} {cells slots : Nat} {Q : State → Prop} {ad : Nm → Nat} {h : PH} {sl : Array Slot} {rest : List Value} {pc : Nat}
theorem gv_getf (C : gv_Cx Γ Y p s m args meth c) (Rl : gv_Rel Γ ad h H) {n : Nm} {ci k idx : Nat} (hn : h.1 n = some (.inl ci)) (F : FldOk Y.1.cls idx k ci) (hd : decode Y.2.1 pc = .ok (.getfield idx, 3))
    (kk : W p l e R s m args below meth c H locs cells slots Q (F0 m (pc + 3) sl (gv_fv ad h n (fkd ci k) k :: rest))) : W p l e R s m args below meth c H locs cells slots Q (F0 m pc sl (.ref (ad n) :: rest)) := by
  obtain ⟨hx, hb, -, -, -, -, hown, hts, -, hK, hk2, -⟩ := C
  obtain ⟨ref, q, hq, hkq, hsame, hlink⟩ := F
  obtain ⟨q', hq', cell, c1, c2, c3, c4, c5, c6⟩ := Rl.1 n _ hn
  cases hq.symm.trans hq'
  have cf := cl_ok hq
  obtain ⟨hS, hfc, kC, hkC, hkind⟩ := hK.1 ci _ hq
  obtain ⟨cf', kf, fi, f, hi, hsl⟩ := hS k hkq
  have hst := (u_facts hfc hkC (u_lays hts cf.1 hkq) hi).1
  have hi2 : s.fieldFound? ref (q.2.1 k).2.1 (q.2.1 k).2.2.1 = some (cf', kf, fi, f) := by
    rcases hsame with e1 | e1
    · rw [e1]; exact hi
    · exact u_same (hts _ e1) _ hi
  have hv : cell.slots[f.slot]? = some (gv_fv ad h n (fkd ci k) k) := by rw [hsl]; exact c6 k hkq
  rcases hlink with e2 | e2
  · exact W.getf hx hb hown (hts _ e2) hi2 hst c1 c4 hv rfl rfl hd kk
  · exact va_Wgetf hx hb hown (va_Nw.use rfl (hk2 _ e2)) hi2 hst c1 c4 hv rfl rfl hd kk
end GF
def upI (I : Nm → Nat → Int32) (n : Nm) (k : Nat) (x : Int32) : Nm → Nat → Int32 := fun a b => if a = n ∧ b = k then x else I a b
def upJ (I : Nm → Nat → Int64) (n : Nm) (k : Nat) (x : Int64) : Nm → Nat → Int64 := fun a b => if a = n ∧ b = k then x else I a b
def upR (I : Nm → Nat → Option Nm) (n : Nm) (k : Nat) (x : Option Nm) : Nm → Nat → Option Nm := fun a b => if a = n ∧ b = k then x else I a b
def hI (h : PH) (n : Nm) (k : Nat) (x : Int32) : PH := (h.1, fun a b => if a = n ∧ b = k then x else h.2.1 a b, h.2.2)
def hJ (h : PH) (n : Nm) (k : Nat) (x : Int64) : PH := (h.1, h.2.1, fun a b => if a = n ∧ b = k then x else h.2.2.1 a b, h.2.2.2)
def hR (h : PH) (n : Nm) (k : Nat) (x : Option Nm) : PH := (h.1, h.2.1, h.2.2.1, fun a b => if a = n ∧ b = k then x else h.2.2.2 a b)
theorem gv_fv_congr {ad : Nm → Nat} {h h' : PH} {n : Nm} (e1 : h'.2.1 n = h.2.1 n) (e2 : h'.2.2.1 n = h.2.2.1 n) (e3 : h'.2.2.2 n = h.2.2.2 n) (kd k : Nat) : gv_fv ad h' n kd k = gv_fv ad h n kd k := by
  unfold gv_fv
  split <;> simp [e1, e2, e3]
theorem gv_av_congr {ad : Nm → Nat} {h h' : PH} {n : Nm} (e1 : h'.2.1 n = h.2.1 n) (e3 : h'.2.2.2 n = h.2.2.2 n) (kd k : Nat) : gv_av ad h' n kd k = gv_av ad h n kd k := by
  unfold gv_av
  split <;> simp [e1, e3]
theorem gv_ok.kept {Γ : Gm} {ad : Nm → Nat} {h h' : PH} {a : Nm} {sp : Shp} {H H1 : Heap} (k0 : gv_ok Γ ad h a sp H) (e1 : h'.2.1 a = h.2.1 a) (e2 : h'.2.2.1 a = h.2.2.1 a) (e3 : h'.2.2.2 a = h.2.2.2 a) (hq : H1[ad a]? = H[ad a]?) : gv_ok Γ ad h' a sp H1 := by
  rcases sp with ci | ⟨τ, len⟩
  · obtain ⟨q, hq1, cell, c1, c2⟩ := k0
    refine ⟨q, hq1, cell, by rw [hq]; exact c1, ?_⟩
    simp only [gv_fv_congr e1 e2 e3]
    exact c2
  · unfold gv_ok at k0 ⊢
    simp only [gv_av_congr e1 e3] at k0 ⊢
    split
    · rename_i ht
      rw [if_pos ht] at k0
      rw [hq]; exact k0
    · rename_i ht
      rw [if_neg ht] at k0
      intro hτ
      obtain ⟨cell, c1, c2⟩ := k0 hτ
      exact ⟨cell, by rw [hq]; exact c1, c2⟩
theorem gv_Rel.put {Γ : Gm} {ad : Nm → Nat} {h h' : PH} {H H1 : Heap} (Rl : gv_Rel Γ ad h H) {n : Nm} {sp : Shp} (hn : h.1 n = some sp) (ht : n.1 < 100) (e0 : h'.1 = h.1) (e1 : ∀ a, a ≠ n → h'.2.1 a = h.2.1 a) (e2 : ∀ a, a ≠ n → h'.2.2.1 a = h.2.2.1 a) (e3 : ∀ a, a ≠ n → h'.2.2.2 a = h.2.2.2 a)
    (hq : ∀ q, q ≠ ad n → H1[q]? = H[q]?) (hk : gv_ok Γ ad h' n sp H1) (hw : ∀ k r, h'.2.2.2 n k = some r → h.1 r ≠ none) : gv_Rel Γ ad h' H1 := by
  obtain ⟨r1, r2, r3, r4, r5⟩ := Rl
  have hnn : h.1 n ≠ none := by rw [hn]; simp
  refine ⟨fun a sa ha => ?_, by rw [e0]; exact r2, by rw [e0]; exact r3, r4, fun a k r ha hr => ?_⟩
  · rw [e0] at ha
    by_cases e : a = n
    · subst e
      cases hn.symm.trans ha
      exact hk
    · refine (r1 a sa ha).kept (e1 a e) (e2 a e) (e3 a e) (hq _ fun z => ?_)
      have haa : h.1 a ≠ none := by rw [ha]; simp
      rcases Nat.lt_or_ge a.1 100 with t | t
      · exact e (r2 a n haa hnn t ht z)
      · have h1 := r4 a t
        have h2 := r3 n hnn ht
        rw [← z, h1.1] at h2
        omega
  · rw [e0] at ha ⊢
    by_cases e : a = n
    · subst e
      exact hw k r hr
    · rw [e3 a e] at hr
      exact r5 a k r ha hr
theorem gv_Wf.same {h h' : PH} {ls : PLs} {st : List PV} (w : gv_Wf h ls st) (e : h'.1 = h.1) : gv_Wf h' ls st := ⟨fun v hv n hn => by rw [e]; exact w.1 v hv n hn, fun i v hv n hn => by rw [e]; exact w.2 i v hv n hn⟩
theorem gv_Ex.same {d0 : Nm → Option Shp} {ad0 ad : Nm → Nat} {h h' : PH} (w : gv_Ex d0 ad0 h ad) (e : h'.1 = h.1) : gv_Ex d0 ad0 h' ad := fun n hn => by rw [e]; exact w n hn
theorem gv_Fr.put {Γ : Gm} {s : State} {H H1 : Heap} {locs : List Loc} (F : gv_Fr Γ s H locs) {a i : Nat} (ha : Γ.1 ≤ a) (z : H1.size = H.size) (hq : ∀ q, q ≠ a → H1[q]? = H[q]?) : gv_Fr Γ s H1 (locs ++ [⟨a, i⟩]) := by
  obtain ⟨f1, f2, f3, f4⟩ := F
  refine ⟨f1, by rw [z]; exact f2, fun q h => by rw [hq q (by omega)]; exact f3 q h, fun x hx => ?_⟩
  rcases List.mem_append.mp hx with h1 | h1
  · exact f4 x h1
  · rw [List.mem_singleton.mp h1]; exact ha
/-- the field may be written here: it isn't final, or this is its class's own constructor -/
def FinOk (Y : Mth) (idx k ci : Nat) : Prop := ∀ q, clL[ci]? = some q → (q.2.1 k).2.2.2 = false ∨ ((q.2.1 k).1 = Y.1.cls ∧ Y.1.name = "<init>" ∧ Cond.fieldLink Y.1.cls idx (q.2.1 k).1 (q.2.1 k).2.1 (q.2.1 k).2.2.1 ∈ lw_all)
section GP
variable {Γ : Gm} {l : Launch} {Y : Mth} {p : Program} {e : Env} {R : Room} {s : State} {m : MethodId} {args : Array Value} {below : List Frame} {meth : Method} {c : Code} {H : Heap} {locs : List Loc} {cells slots : Nat} {Q : State → Prop} {ad : Nm → Nat} {h : PH} {sl : Array Slot} {rest : List Value} {pc : Nat}
/-- a field written: the cell has the new value there -/
theorem gv_putf (C : gv_Cx Γ Y p s m args meth c) (Rl : gv_Rel Γ ad h H) {n : Nm} {ci k idx : Nat} (hn : h.1 n = some (.inl ci)) (ht : n.1 < 100) (F : FldOk Y.1.cls idx k ci) (hfin : FinOk Y idx k ci) {v : Value} (hnv : narrow (fty ci k) v = v) (hfit : fits (fty ci k) v = true) (hd : decode Y.2.1 pc = .ok (.putfield idx, 3))
    (kk : ∀ (H1 : Heap) (i : Nat), H1.size = H.size → (∀ q, q ≠ ad n → H1[q]? = H[q]?) → (∃ q : vw_C, clL[ci]? = some q ∧ gv_ob true (ad n) (Γ.2.1.1 ci) q.2.2 (Γ.2.1.2 ci) H1 (updV (fun j => gv_fv ad h n (fkd ci j) j) k v)) → W p l e R s m args below meth c H1 (locs ++ [⟨ad n, i⟩]) cells slots Q (F0 m (pc + 3) sl rest)) : W p l e R s m args below meth c H locs cells slots Q (F0 m pc sl (v :: .ref (ad n) :: rest)) := by
  obtain ⟨hx, hb, -, -, -, hnm, hown, hts, -, hK, hk2, -⟩ := C
  obtain ⟨ref, q, hq, hkq, hsame, hlink⟩ := F
  obtain ⟨q', hq', cell, c1, c2, c3, c4, c5, c6⟩ := Rl.1 n _ hn
  cases hq.symm.trans hq'
  have cf := cl_ok hq
  have hvm : cell.vm = .none := c3 (decide_eq_true ht)
  have hap := va_apart (own := Y.1.cls) hts cf.1 (fty ci) cf.2.1 cf.2.2 hK hq
  obtain ⟨hS, hfc, kC, hkC, hkind⟩ := hK.1 ci _ hq
  obtain ⟨cf', kf, fi, f, hi, hsl⟩ := hS k hkq
  have hst := (u_facts hfc hkC (u_lays hts cf.1 hkq) hi).1
  have hi2 : s.fieldFound? ref (q.2.1 k).2.1 (q.2.1 k).2.2.1 = some (cf', kf, fi, f) := by
    rcases hsame with e1 | e1
    · rw [e1]; exact hi
    · exact u_same (hts _ e1) _ hi
  have hlt : f.slot < cell.slots.size := by rw [hsl]; exact k2_hasslot (c6 k hkq)
  have hlay := hts _ (cf.1 _ (u_in_lay hkq))
  have fin : ∀ H1 : Heap, H1[ad n]? = some (cell.setSlot f.slot v) → H1.size = H.size → (∀ q, q ≠ ad n → H1[q]? = H[q]?) → W p l e R s m args below meth c H1 (locs ++ [⟨ad n, f.slot⟩]) cells slots Q (F0 m (pc + 3) sl rest) := by
    intro H1 g1 g2 g3
    refine kk H1 _ g2 g3 ⟨q, hq, cell.setSlot f.slot v, g1, c2, fun _ => hvm, c4, c5, ?_⟩
    rw [hsl]
    exact t_set c6 hap hkq v
  cases hfb : (q.2.1 k).2.2.2 with
  | false =>
    unfold u_lay at hlay
    rw [if_neg (by rw [hfb]; decide)] at hlay
    have h6 := u_store hfc hkC hkind hlay hi (cf.2.1 k hkq) hnv hfit
    rcases hlink with e2 | e2
    · exact W.putK hx hb (f := f) ⟨hown, hts _ e2, ⟨_, _, _, hi2⟩, hst⟩ (by rw [c2]; exact h6) c1 hvm hlt rfl rfl hd fin
    · exact va_WputK hx hb hown (va_Nw.use rfl (hk2 _ e2)) hi2 hst (by rw [c2]; exact h6) c1 hvm hlt rfl rfl hd fin
  | true =>
    unfold u_lay at hlay
    rw [if_pos hfb] at hlay
    rcases hfin q hq with z | ⟨z1, z2, z3⟩
    · rw [hfb] at z; cases z
    · have hcf : m.cls = cf' := by
        obtain ⟨_, _, c', _, _, _, -, -, hf', -, -, -, hown2, -⟩ := Cond.laysFinal_spec hlay
        have e1 : c' = cf' := by have := hi.symm.trans hf'; simp at this; exact this.1.symm
        rw [z1] at hown2
        rw [← e1]; exact Option.some.inj (hown.symm.trans hown2)
      have h6 := u_fits hfc hkC hkind (Or.inr hlay) hi (cf.2.1 k hkq) hnv hfit
      exact W.putFinK hx hb hown (hts _ z3) hi hst hcf (by rw [hnm]; exact z2) (by rw [c2]; exact h6) c1 hvm hlt rfl rfl hd fin
end GP
theorem hI_same {h : PH} {n : Nm} {k : Nat} {x : Int32} {a : Nm} (ha : a ≠ n) : (hI h n k x).2.1 a = h.2.1 a := by
  funext b
  show (if a = n ∧ b = k then x else h.2.1 a b) = _
  rw [if_neg (fun z => ha z.1)]
theorem hJ_same {h : PH} {n : Nm} {k : Nat} {x : Int64} {a : Nm} (ha : a ≠ n) : (hJ h n k x).2.2.1 a = h.2.2.1 a := by
  funext b
  show (if a = n ∧ b = k then x else h.2.2.1 a b) = _
  rw [if_neg (fun z => ha z.1)]
theorem hR_same {h : PH} {n : Nm} {k : Nat} {x : Option Nm} {a : Nm} (ha : a ≠ n) : (hR h n k x).2.2.2 a = h.2.2.2 a := by
  funext b
  show (if a = n ∧ b = k then x else h.2.2.2 a b) = _
  rw [if_neg (fun z => ha z.1)]
theorem hI_fv {ad : Nm → Nat} {h : PH} {n : Nm} {k : Nat} {x : Int32} {kd : Nat → Nat} (hk : kd k = 0) : updV (fun j => gv_fv ad h n (kd j) j) k (.int x) = fun j => gv_fv ad (hI h n k x) n (kd j) j := by
  funext j
  unfold updV
  by_cases e : j = k
  · subst e
    rw [if_pos rfl, hk]
    show _ = Value.int (if n = n ∧ j = j then x else h.2.1 n j)
    rw [if_pos ⟨rfl, rfl⟩]
  · rw [if_neg e]
    show gv_fv ad h n (kd j) j = gv_fv ad (hI h n k x) n (kd j) j
    generalize kd j = z
    unfold gv_fv
    split
    · show _ = Value.int (if n = n ∧ j = k then x else h.2.1 n j)
      rw [if_neg (fun z => e z.2)]
    · rfl
    · rfl
theorem hJ_fv {ad : Nm → Nat} {h : PH} {n : Nm} {k : Nat} {x : Int64} {kd : Nat → Nat} (hk : kd k = 1) : updV (fun j => gv_fv ad h n (kd j) j) k (.long x) = fun j => gv_fv ad (hJ h n k x) n (kd j) j := by
  funext j
  unfold updV
  by_cases e : j = k
  · subst e
    rw [if_pos rfl, hk]
    show _ = Value.long (if n = n ∧ j = j then x else h.2.2.1 n j)
    rw [if_pos ⟨rfl, rfl⟩]
  · rw [if_neg e]
    show gv_fv ad h n (kd j) j = gv_fv ad (hJ h n k x) n (kd j) j
    generalize kd j = z
    unfold gv_fv
    split
    · rfl
    · show _ = Value.long (if n = n ∧ j = k then x else h.2.2.1 n j)
      rw [if_neg (fun z => e z.2)]
    · rfl
theorem hR_fv {ad : Nm → Nat} {h : PH} {n : Nm} {k : Nat} {x : Option Nm} {kd : Nat → Nat} (hk : kd k = 2) : updV (fun j => gv_fv ad h n (kd j) j) k (va_rf (x.map ad)) = fun j => gv_fv ad (hR h n k x) n (kd j) j := by
  funext j
  unfold updV
  by_cases e : j = k
  · subst e
    rw [if_pos rfl, hk]
    show _ = va_rf (Option.map ad (if n = n ∧ j = j then x else h.2.2.2 n j))
    rw [if_pos ⟨rfl, rfl⟩]
  · rw [if_neg e]
    show gv_fv ad h n (kd j) j = gv_fv ad (hR h n k x) n (kd j) j
    generalize kd j = z
    unfold gv_fv
    split
    · rfl
    · rfl
    · show _ = va_rf (Option.map ad (if n = n ∧ j = k then x else h.2.2.2 n j))
      rw [if_neg (fun z => e z.2)]
theorem hR_wf {Γ : Gm} {ad : Nm → Nat} {h : PH} {H : Heap} (Rl : gv_Rel Γ ad h H) {n : Nm} {sp : Shp} (hn : h.1 n = some sp) {k : Nat} {x : Option Nm} (hx : gv_wv h (.inr (.inr x))) : ∀ j r, (hR h n k x).2.2.2 n j = some r → h.1 r ≠ none := by
  intro j r hr
  have e : (if n = n ∧ j = k then x else h.2.2.2 n j) = some r := hr
  split at e
  · exact hx r (by rw [e])
  · exact Rl.2.2.2.2 n j r (by rw [hn]; simp) e
section GG
variable {Γ : Gm} {l : Launch} {Y : Mth} {d mc ms : Nat} {Q : PO → PH → Prop} {k0 n0 pc : Nat} {ls : PLs} {st : List PV} {h : PH}
theorem G.getI {n : Nm} {ci k idx : Nat} (hn : h.1 n = some (.inl ci)) (hk : fkd ci k = 0) (F : FldOk Y.1.cls idx k ci) (hd : decode Y.2.1 pc = .ok (.getfield idx, 3)) (kk : G Γ l Y d mc ms Q k0 n0 (pc + 3) ls (.inl (h.2.1 n k) :: st) h) : G Γ l Y d mc ms Q k0 n0 pc ls (.inr (.inr (some n)) :: st) h := by
  intro p e s m args below meth c H locs ad ad0 d0 sl C R E W Fr L
  refine gv_getf C R hn F hd ?_
  rw [hk]
  exact kk p e s m args below meth c H locs ad ad0 d0 sl C R E (W.tail.push (gv_wv_i _)) Fr L
theorem G.getL {n : Nm} {ci k idx : Nat} (hn : h.1 n = some (.inl ci)) (hk : fkd ci k = 1) (F : FldOk Y.1.cls idx k ci) (hd : decode Y.2.1 pc = .ok (.getfield idx, 3)) (kk : G Γ l Y d mc ms Q k0 n0 (pc + 3) ls (.inr (.inl (h.2.2.1 n k)) :: st) h) : G Γ l Y d mc ms Q k0 n0 pc ls (.inr (.inr (some n)) :: st) h := by
  intro p e s m args below meth c H locs ad ad0 d0 sl C R E W Fr L
  refine gv_getf C R hn F hd ?_
  rw [hk]
  exact kk p e s m args below meth c H locs ad ad0 d0 sl C R E (W.tail.push (gv_wv_l _)) Fr L
theorem G.getR {n : Nm} {ci k idx : Nat} (hn : h.1 n = some (.inl ci)) (hk : fkd ci k = 2) (F : FldOk Y.1.cls idx k ci) (hd : decode Y.2.1 pc = .ok (.getfield idx, 3)) (kk : G Γ l Y d mc ms Q k0 n0 (pc + 3) ls (.inr (.inr (h.2.2.2 n k)) :: st) h) : G Γ l Y d mc ms Q k0 n0 pc ls (.inr (.inr (some n)) :: st) h := by
  intro p e s m args below meth c H locs ad ad0 d0 sl C R E W Fr L
  refine gv_getf C R hn F hd ?_
  rw [hk]
  exact kk p e s m args below meth c H locs ad ad0 d0 sl C R E (W.tail.push (fun r hr => by
    cases hr' : h.2.2.2 n k with
    | none => rw [hr'] at hr; cases hr
    | some z =>
      rw [hr'] at hr
      cases hr
      exact R.2.2.2.2 n k r (by rw [hn]; simp) hr')) Fr L
theorem G.putI {n : Nm} {ci k idx : Nat} {x : Int32} (hn : h.1 n = some (.inl ci)) (ht : n.1 < 100) (hk : fkd ci k = 0) (hx : narrow (fty ci k) (.int x) = .int x ∧ fits (fty ci k) (.int x) = true) (F : FldOk Y.1.cls idx k ci) (hfin : FinOk Y idx k ci) (hd : decode Y.2.1 pc = .ok (.putfield idx, 3)) (kk : G Γ l Y d mc ms Q k0 n0 (pc + 3) ls st (hI h n k x)) : G Γ l Y d mc ms Q k0 n0 pc ls (.inl x :: .inr (.inr (some n)) :: st) h := by
  intro p e s m args below meth c H locs ad ad0 d0 sl C R E W Fr L
  refine gv_putf C R hn ht F hfin hx.1 hx.2 hd fun H1 i z hq hc => ?_
  obtain ⟨q, hq1, hc⟩ := hc
  have ha := R.2.2.1 n (by rw [hn]; simp) ht
  refine kk p e s m args below meth c H1 _ ad ad0 d0 sl C (R.put hn ht rfl (fun a ha => hI_same ha) (fun _ _ => rfl) (fun _ _ => rfl) hq ⟨q, hq1, ?_⟩ (fun j r hr => R.2.2.2.2 n j r (by rw [hn]; simp) hr)) (E.same rfl) (W.tail.tail.same rfl) (Fr.put ha z hq) L
  rw [decide_eq_true ht, ← hI_fv (kd := fkd ci) hk]
  exact hc
theorem G.putL {n : Nm} {ci k idx : Nat} {x : Int64} (hn : h.1 n = some (.inl ci)) (ht : n.1 < 100) (hk : fty ci k = .long) (F : FldOk Y.1.cls idx k ci) (hfin : FinOk Y idx k ci) (hd : decode Y.2.1 pc = .ok (.putfield idx, 3)) (kk : G Γ l Y d mc ms Q k0 n0 (pc + 3) ls st (hJ h n k x)) : G Γ l Y d mc ms Q k0 n0 pc ls (.inr (.inl x) :: .inr (.inr (some n)) :: st) h := by
  intro p e s m args below meth c H locs ad ad0 d0 sl C R E W Fr L
  refine gv_putf C R hn ht F hfin (by rw [hk]; rfl) (by rw [hk]; rfl) hd fun H1 i z hq hc => ?_
  obtain ⟨q, hq1, hc⟩ := hc
  have ha := R.2.2.1 n (by rw [hn]; simp) ht
  refine kk p e s m args below meth c H1 _ ad ad0 d0 sl C (R.put hn ht rfl (fun _ _ => rfl) (fun a ha => hJ_same ha) (fun _ _ => rfl) hq ⟨q, hq1, ?_⟩ (fun j r hr => R.2.2.2.2 n j r (by rw [hn]; simp) hr)) (E.same rfl) (W.tail.tail.same rfl) (Fr.put ha z hq) L
  rw [decide_eq_true ht, ← hJ_fv (kd := fkd ci) (by show fkT (fty ci k) = 1; rw [hk]; rfl)]
  exact hc
/-- a type that holds references -/
def refT (t : FieldType) : Prop := (∃ n, t = .object n) ∨ ∃ u, t = .array u
theorem refT_kd {t : FieldType} (h : refT t) : fkT t = 2 := by
  rcases h with ⟨n, rfl⟩ | ⟨u, rfl⟩ <;> rfl
theorem refT_nar {t : FieldType} (h : refT t) (r : Option Nat) : narrow t (va_rf r) = va_rf r ∧ fits t (va_rf r) = true := by
  rcases h with ⟨n, rfl⟩ | ⟨u, rfl⟩ <;> cases r <;> exact ⟨rfl, rfl⟩
theorem G.putR {n : Nm} {ci k idx : Nat} {x : Option Nm} (hn : h.1 n = some (.inl ci)) (ht : n.1 < 100) (hk : refT (fty ci k)) (F : FldOk Y.1.cls idx k ci) (hfin : FinOk Y idx k ci) (hd : decode Y.2.1 pc = .ok (.putfield idx, 3)) (kk : G Γ l Y d mc ms Q k0 n0 (pc + 3) ls st (hR h n k x)) : G Γ l Y d mc ms Q k0 n0 pc ls (.inr (.inr x) :: .inr (.inr (some n)) :: st) h := by
  intro p e s m args below meth c H locs ad ad0 d0 sl C R E W Fr L
  refine gv_putf C R hn ht F hfin (refT_nar hk _).1 (refT_nar hk _).2 hd fun H1 i z hq hc => ?_
  obtain ⟨q, hq1, hc⟩ := hc
  have ha := R.2.2.1 n (by rw [hn]; simp) ht
  refine kk p e s m args below meth c H1 _ ad ad0 d0 sl C (R.put hn ht rfl (fun _ _ => rfl) (fun _ _ => rfl) (fun a ha => hR_same ha) hq ⟨q, hq1, ?_⟩ (hR_wf R hn W.head)) (E.same rfl) (W.tail.tail.same rfl) (Fr.put ha z hq) L
  rw [decide_eq_true ht, ← hR_fv (kd := fkd ci) (refT_kd hk)]
  exact hc
end GG
