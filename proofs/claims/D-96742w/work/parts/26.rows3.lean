/-! THE FLOOR, 7: dispatch, new cells, references stored, throws -/
set_option maxRecDepth 100000
section R3
variable {Γ : Gm} {l : Launch} {Y : Mth} {d mc ms : Nat} {Q : PO → PH → Prop} {k0 n0 pc : Nat} {ls : PLs} {st stk : List PV} {h : PH}
theorem G.objInit {n : Nm} {idx : Nat} (hlk : Cond.methodLink Y.1.cls idx Lib.objectInit ∈ lw_all) (hi : Cond.instanceMethod Lib.objectInit ∈ lw_all) (hc : Cond.code Lib.objectInit ⟨#[0xb1]⟩ 1 none ∈ lw_all) (hd : decode Y.2.1 pc = .ok (.invokespecial idx, 3)) (kk : G Γ l Y d mc ms Q k0 n0 (pc + 3) ls st h) (hw : Nat.ble ((st.map gv_cat).sum) 34 = true := by rfl) (hdd : 1 ≤ d := by omega) : G Γ l Y d mc ms Q k0 n0 pc ls (.inr (.inr (some n)) :: st) h := by
  intro p e s m args below meth c H locs ad ad0 d0 sl C R E Z Fr L
  have hts := C.2.2.2.2.2.2.2.1
  have hw' := Nat.le_of_ble_eq_true hw
  refine W.objInit C.1 C.2.1 C.2.2.2.2.2.2.1 (hts _ hlk) (hts _ hi) (hts _ hc) rfl (by rw [C.2.2.1]; exact L.1) rfl hd hdd ?_ (kk p e s m args below meth c H locs ad ad0 d0 sl C R E Z.tail Fr L)
  show 2 * 0 + ((st.map (gv_cv ad)).map fun v => v.category).sum + 12 ≤ 46 * d
  rw [gv_sum]
  omega
/-- invokevirtual by a reference to x, the receiver's class selects Y' -/
theorem inv_U {Y' : Mth} {x : MethodName} {owner : String} {idx ci n : Nat} {b : Nm} {As : List PV} (M : MOk Y' n) (hi : Cond.instanceMethod Y'.1 ∈ lw_all) (hlk : Cond.methodLink Y.1.cls idx x ∈ lw_all) (hsm : Cond.sameMethod x.cls owner x.name x.desc ∈ lw_all) (hde : (∃ bb mm rr, Cond.instanceMethod ⟨owner, x.name, x.desc⟩ ∈ lw_all ∧ Cond.code ⟨owner, x.name, x.desc⟩ bb mm rr ∈ lw_all) ∨ (⟨owner, x.name, x.desc⟩ : MethodName) ∈ nwD) (how : owner ≠ "java/lang/invoke/MethodHandle" ∧ owner ≠ "java/lang/invoke/VarHandle") (hxd : x.desc = Y'.1.desc) {q : vw_C} (hb : h.1 b = some (.inl ci)) (hq : clL[ci]? = some q) (hse : Cond.selects q.1 x Y'.1 ∈ lw_all) (hn : As.length = n) (hd : decode Y.2.1 pc = .ok (.invokevirtual idx, 3)) :
    InvOk Γ l Y d mc ms pc ls (.inr (.inr (some b)) :: As) st h Y'.1 3 := by
  intro p e s m args below meth c locs k n ad sl T C R X
  refine ⟨⟨_, hd⟩, ?_⟩
  obtain ⟨hx, hbb, -, -, -, -, hown, hts, -, hK, -, -, -, hk5, -⟩ := C
  obtain ⟨r0, r, hn0, hrm, hstR, hsigR⟩ : va_Decl s ⟨owner, x.name, x.desc⟩ := by
    rcases hde with ⟨bb, mm, rr, z1, z2⟩ | z
    · exact va_Decl.of (hts _ z1) (hts _ z2)
    · exact va_Decl.abs (hk5 _ z)
  obtain ⟨cn, ck, r1, hcn, hck, hni, hf, hn1⟩ := Cond.sameMethod_found (hts _ hsm)
  cases hn0.symm.trans hn1
  obtain ⟨mk, methM, hnamed, hmethM, -, habM⟩ := Cond.instanceMethod_spec (hts _ hi)
  obtain ⟨c2, r2, m2, q1, q2, q3, q4, kP, hkP, hkPi⟩ := Cond.selects_spec (hts _ hse)
  obtain ⟨q', hq', cell, c1, c2', c3, c4, c5, c6⟩ := R.1 b _ hb
  cases hq.symm.trans hq'
  have hcls : s.vm.findClass q.1 = some cell.cls := by rw [c2']; exact (hK.1 ci _ hq).2.1
  cases hcls.symm.trans q1
  cases hf.symm.trans q2
  cases hnamed.symm.trans q3
  have hselP : selectMethod e.platform s.vm cell.cls r0 = .method mk := by rw [Launch.admits_selectMethod X.admits]; exact q4
  obtain ⟨vm₁, X₁, hstep₁⟩ := X.invokevirtualUp hx hown (hts _ hlk) (hts _ hsm) how hn0 hrm hstR (a := ad b) (cell := cell) c1
    (fun z hz => by rw [hz] at c5; cases c5) hselP hmethM habM hkP hkPi (g := F0 m pc sl (((Sum.inr (Sum.inr (some b)) :: As).reverse ++ st).map (gv_cv ad))) rfl (argsL := As.map (gv_cv ad)) (rest := st.map (gv_cv ad)) (by rw [List.length_map, hn]; exact M.len (by rw [← hxd]; exact hsigR)) (by simp [gv_cv_r]) (by rw [hbb]; exact hd)
  exact ⟨mk, vm₁, hnamed, X₁, fun target ht => hstep₁ target ht⟩
/-- super.m(..) -/
theorem inv_SU {Y' : Mth} {x : MethodName} {idx n ci : Nat} {b : Nm} {As : List PV} (M : MOk Y' n) (hi : Cond.instanceMethod Y'.1 ∈ lw_all) (hlk : Cond.methodLink Y.1.cls idx x ∈ lw_all) (hsm : Cond.sameMethod x.cls Y'.1.cls x.name x.desc ∈ lw_all) (hsu : Cond.superclass Y.1.cls x.cls ∈ lw_all) (hup : x.cls = Y'.1.cls ∨ Cond.superclass x.cls Y'.1.cls ∈ lw_all) (hno : x.name ≠ "<init>") (hxn : x.name = Y'.1.name) (hxd : x.desc = Y'.1.desc) (hb : h.1 b = some (.inl ci)) (hn : As.length = n) (hd : decode Y.2.1 pc = .ok (.invokespecial idx, 3)) :
    InvOk Γ l Y d mc ms pc ls (.inr (.inr (some b)) :: As) st h Y'.1 3 := by
  intro p e s m args below meth c locs k n ad sl T C R X
  refine ⟨⟨_, hd⟩, ?_⟩
  obtain ⟨hx, hbb, -, -, -, -, hown, hts, -, hK, -⟩ := C
  obtain ⟨mk', methk, ckk, h0, h1, h2, h3, h4, h5, h6, h7, h8⟩ := cd_spec M.1 hts
  obtain ⟨mk, methM, hnamed, hmethM, hstM, habM⟩ := Cond.instanceMethod_spec (hts _ hi)
  cases h0.symm.trans hnamed
  cases h1.symm.trans hmethM
  obtain ⟨ps, dk, kp, hps, hdk, hkp, hsuper, -, -, hnid⟩ := Cond.superclass_spec hown (hts _ hsu)
  have hn' : s.methodNamed? ⟨Y'.1.cls, x.name, x.desc⟩ = some mk' := by rw [hxn, hxd]; exact hnamed
  have hfc := findClass_of_methodNamed hnamed
  have hsub : s.vm.isSubclass ps mk'.cls = true := by
    rcases hup with z | z
    · rw [z] at hps
      cases hps.symm.trans hfc
      simp [Vm.isSubclass, Vm.isSubclassAux]
    · obtain ⟨ps2, dk2, kp2, hps2, hdk2, hkp2, hsuper2, -, -, -⟩ := Cond.superclass_spec hps (hts _ z)
      cases hps2.symm.trans hfc
      have hsz : ps < s.vm.classes.size := (Array.getElem?_eq_some_iff.mp hdk2).1
      have hsz2 : mk'.cls < s.vm.classes.size := (Array.getElem?_eq_some_iff.mp hkp2).1
      unfold Vm.isSubclass
      cases hsz3 : s.vm.classes.size with
      | zero => exact absurd hsz (by rw [hsz3]; exact Nat.not_lt_zero _)
      | succ sz => simp [Vm.isSubclassAux, hdk2, hsuper2]
  obtain ⟨q', hq', cell, c1, c2', c3, c4, c5, c6⟩ := R.1 b _ hb
  obtain ⟨-, hfcc, kC, hkC, -⟩ := hK.1 ci _ hq'
  obtain ⟨vm₁, X₁, hstep₁⟩ := X.invokespecialUp hx hown (hts _ hlk) (hts _ hsm) hn' hmethM hstM habM hno hdk hnid hps hsuper hsub (a := ad b) (cell := cell) c1
    (fun z hz => by rw [hz] at c5; cases c5) (by rw [c2']; exact hkC) (g := F0 m pc sl (((Sum.inr (Sum.inr (some b)) :: As).reverse ++ st).map (gv_cv ad))) rfl (argsL := As.map (gv_cv ad)) (rest := st.map (gv_cv ad)) (by rw [List.length_map, hn]; exact M.len h8) (by simp [gv_cv_r]) (by rw [hbb]; exact hd)
  exact ⟨mk', vm₁, hnamed, X₁, fun target ht => hstep₁ target (by have := ht []; exact this)⟩
/-! new cells -/
def hN (h : PH) (n : Nm) (sp : Shp) : PH := (fun a => if a = n then some sp else h.1 a, fun a b => if a = n then 0 else h.2.1 a b, fun a b => if a = n then 0 else h.2.2.1 a b, fun a b => if a = n then none else h.2.2.2 a b)
theorem gv_ok.lt {ad : Nm → Nat} {a : Nm} {sp : Shp} {H : Heap} (k : gv_ok Γ ad h a sp H) (ht : a.1 < 100) : ad a < H.size := by
  rcases sp with ci | ⟨τ, len⟩
  · obtain ⟨q, hq1, cell, c1, c2⟩ := k
    exact (Array.getElem?_eq_some_iff.mp c1).1
  · unfold gv_ok at k
    simp only at k
    rw [if_pos ht] at k
    exact (Array.getElem?_eq_some_iff.mp k).1
theorem gv_rf_ad {ad ad' : Nm → Nat} {r : Option Nm} (hr : ∀ n, r = some n → ad' n = ad n) : va_rf (r.map ad') = va_rf (r.map ad) := by
  cases r with
  | none => rfl
  | some n => show Value.ref (ad' n) = Value.ref (ad n); rw [hr n rfl]
theorem gv_fv_ad {ad ad' : Nm → Nat} {n : Nm} (hr : ∀ k r, h.2.2.2 n k = some r → ad' r = ad r) (kd k : Nat) : gv_fv ad' h n kd k = gv_fv ad h n kd k := by
  unfold gv_fv
  split
  · rfl
  · rfl
  · exact gv_rf_ad (hr k)
theorem gv_av_ad {ad ad' : Nm → Nat} {n : Nm} (hr : ∀ k r, h.2.2.2 n k = some r → ad' r = ad r) (kd k : Nat) : gv_av ad' h n kd k = gv_av ad h n kd k := by
  unfold gv_av
  split
  · rfl
  · rfl
  · rfl
  · rfl
  · exact gv_rf_ad (hr k)
theorem gv_ok.ad {ad ad' : Nm → Nat} {a : Nm} {sp : Shp} {H : Heap} (k : gv_ok Γ ad h a sp H) (hr : ∀ k r, h.2.2.2 a k = some r → ad' r = ad r) (ha : ad' a = ad a) : gv_ok Γ ad' h a sp H := by
  rcases sp with ci | ⟨τ, len⟩
  · obtain ⟨q, hq1, c2⟩ := k
    refine ⟨q, hq1, ?_⟩
    simp only [gv_fv_ad hr, ha]
    exact c2
  · unfold gv_ok at k ⊢
    simp only [gv_av_ad hr, ha] at k ⊢
    exact k
theorem gv_Rel.new {ad : Nm → Nat} {H H1 : Heap} (Rl : gv_Rel Γ ad h H) {n : Nm} {sp : Shp} (hn : h.1 n = none) (ht : n.1 < 100) (hb : Γ.1 ≤ H.size) (z : H1.size = H.size + 1) (hq : ∀ q, q < H.size → H1[q]? = H[q]?) (hk : gv_ok Γ (fun a => if a = n then H.size else ad a) (hN h n sp) n sp H1) : gv_Rel Γ (fun a => if a = n then H.size else ad a) (hN h n sp) H1 := by
  obtain ⟨r1, r2, r3, r4, r5⟩ := Rl
  have e1 : ∀ a, a ≠ n → (hN h n sp).1 a = h.1 a := fun a ha => if_neg ha
  have e2 : ∀ a, h.1 a ≠ none → a ≠ n := fun a ha e => ha (by rw [e]; exact hn)
  refine ⟨fun a sa ha => ?_, fun a b ha hb' ta tb hab => ?_, fun a ha ta => ?_, fun a ta => ?_, fun a k r ha hr => ?_⟩
  · by_cases e : a = n
    · subst e
      rw [show (hN h a sp).1 a = some sp from if_pos rfl] at ha
      cases ha
      exact hk
    · rw [e1 a e] at ha
      have hlt : ad a < H.size := by
        rcases Nat.lt_or_ge a.1 100 with t | t
        · exact (r1 a sa ha).lt t
        · have := r4 a t
          omega
      have k1 := (r1 a sa ha).ad (ad' := fun a => if a = n then H.size else ad a) (fun k r hr => if_neg (e2 r (r5 a k r (by rw [ha]; simp) hr))) (if_neg e)
      refine k1.kept (h' := hN h n sp) ?_ ?_ ?_ ?_
      · funext b; exact if_neg e
      · funext b; exact if_neg e
      · funext b; exact if_neg e
      · show H1[if a = n then H.size else ad a]? = H[if a = n then H.size else ad a]?
        rw [if_neg e]
        exact hq _ hlt
  · simp only at hab
    by_cases ea : a = n
    · by_cases eb : b = n
      · rw [ea, eb]
      · rw [if_pos ea, if_neg eb] at hab
        rw [e1 b eb] at hb'
        cases hs : h.1 b with
        | none => exact absurd hs hb'
        | some sb =>
          have := (r1 b sb hs).lt tb
          omega
    · by_cases eb : b = n
      · rw [if_neg ea, if_pos eb] at hab
        rw [e1 a ea] at ha
        cases hs : h.1 a with
        | none => exact absurd hs ha
        | some sa =>
          have := (r1 a sa hs).lt ta
          omega
      · rw [if_neg ea, if_neg eb] at hab
        rw [e1 a ea] at ha
        rw [e1 b eb] at hb'
        exact r2 a b ha hb' ta tb hab
  · simp only
    by_cases e : a = n
    · rw [if_pos e]; exact hb
    · rw [if_neg e]
      rw [e1 a e] at ha
      exact r3 a ha ta
  · simp only
    rw [if_neg (fun e => by rw [e] at ta; omega)]
    exact r4 a ta
  · by_cases e : a = n
    · have : (if a = n then none else h.2.2.2 a k) = some r := hr
      rw [if_pos e] at this
      cases this
    · have h9 : (if a = n then none else h.2.2.2 a k) = some r := hr
      rw [if_neg e] at h9
      rw [e1 a e] at ha
      have := r5 a k r ha h9
      rw [e1 r (e2 r this)]
      exact this
theorem gv_Ex.new {d0 : Nm → Option Shp} {ad0 ad : Nm → Nat} {n : Nm} {sp : Shp} {z : Nat} (E : gv_Ex d0 ad0 h ad) (hn : h.1 n = none) : gv_Ex d0 ad0 (hN h n sp) (fun a => if a = n then z else ad a) := by
  intro a ha
  have e : a ≠ n := fun e => (E a ha).1 (by rw [e]; exact hn)
  refine ⟨?_, ?_⟩
  · rw [show (hN h n sp).1 a = h.1 a from if_neg e]; exact (E a ha).1
  · show (if a = n then z else ad a) = ad0 a
    rw [if_neg e]; exact (E a ha).2
theorem gv_wv.new {n : Nm} {sp : Shp} {v : PV} (w : gv_wv h v) (hn : h.1 n = none) : gv_wv (hN h n sp) v := by
  intro a ha
  have e : a ≠ n := fun e => w a ha (by rw [e]; exact hn)
  rw [show (hN h n sp).1 a = h.1 a from if_neg e]; exact w a ha
theorem gv_cv_new {ad : Nm → Nat} {n : Nm} {z : Nat} {v : PV} (w : gv_wv h v) (hn : h.1 n = none) : gv_cv (fun a => if a = n then z else ad a) v = gv_cv ad v := by
  rcases v with x | x | x
  · rfl
  · rfl
  · exact gv_rf_ad (fun m hm => if_neg (fun e => w m (by rw [hm]) (by rw [e]; exact hn)))
theorem gv_Fr.new {s : State} {H H1 : Heap} {locs : List Loc} (F : gv_Fr Γ s H locs) (z : H1.size = H.size + 1) (hq : ∀ q, q < H.size → H1[q]? = H[q]?) : gv_Fr Γ s H1 locs := by
  obtain ⟨f1, f2, f3, f4⟩ := F
  exact ⟨f1, by omega, fun q h => by rw [hq q (by omega)]; exact f3 q h, f4⟩
/-- the walk goes on over the heap with a new cell -/
theorem gv_goNew {p : Program} {e : Env} {s : State} {m : MethodId} {args : Array Value} {below : List Frame} {meth : Method} {c : Code} {H H1 : Heap} {locs : List Loc} {ad ad0 : Nm → Nat} {d0 : Nm → Option Shp} {sl : Array Slot} {n : Nm} {sp : Shp} {k1 n1 pc' : Nat} (C : gv_Cx Γ Y p s m args meth c) (R : gv_Rel Γ ad h H) (E : gv_Ex d0 ad0 h ad) (Z : gv_Wf h ls st) (Fr : gv_Fr Γ s H locs) (L : gv_Lo ad Y.2.2.1 ls sl) (hn : h.1 n = none) (ht : n.1 < 100) (z : H1.size = H.size + 1) (hq : ∀ q, q < H.size → H1[q]? = H[q]?) (hk : gv_ok Γ (fun a => if a = n then H.size else ad a) (hN h n sp) n sp H1)
    (kk : G Γ l Y d mc ms Q k1 n1 pc' ls (.inr (.inr (some n)) :: st) (hN h n sp)) : W p l e (gv_rm d mc ms) s m args below meth c H1 locs k1 n1 (gv_E Γ below s mc ms (gv_Q Γ s d0 ad0 Q)) (F0 m pc' sl (.ref H.size :: st.map (gv_cv ad))) := by
  have K := kk p e s m args below meth c H1 locs (fun a => if a = n then H.size else ad a) ad0 d0 sl C (R.new hn ht (Nat.le_trans Fr.1 Fr.2.1) z hq hk) (E.new hn) ⟨fun v hv => ?_, fun i v hv => (Z.2 i v hv).new hn⟩ (Fr.new z hq) ⟨L.1, L.2.1, L.2.2.1, fun i v hv => by rw [gv_cv_new (Z.2 i v hv) hn]; exact L.2.2.2 i v hv⟩
  · have e1 : (st.map (gv_cv fun a => if a = n then H.size else ad a)) = st.map (gv_cv ad) := List.map_congr_left fun v hv => gv_cv_new (Z.1 v hv) hn
    have e2 : gv_cv (fun a => if a = n then H.size else ad a) (.inr (.inr (some n))) = .ref H.size := by show Value.ref (if n = n then H.size else ad n) = _; rw [if_pos rfl]
    rw [List.map_cons, e1, e2] at K
    exact K
  · rcases List.mem_cons.mp hv with e | e
    · intro a ha
      rw [e] at ha
      cases ha
      rw [show (hN h n sp).1 n = some sp from if_pos rfl]
      simp
    · exact (Z.1 v e).new hn
def fkOk (t : FieldType) : Bool := match t with
  | .char => false
  | .short => false
  | .float => false
  | .double => false
  | _ => true
theorem fty_ok (ci k : Nat) : fkOk (fty ci k) = true := by
  unfold fty
  split
  · unfold tyX0; split <;> rfl
  · unfold tyX8; split <;> rfl
  · unfold tyX9; split <;> rfl
  · unfold tyX10; split <;> rfl
  · unfold tyX11; split <;> rfl
  · unfold tyX12; split <;> rfl
  · unfold tyX13; split <;> rfl
  · unfold tyX14; split <;> rfl
  · rfl
  · unfold tyX6; split <;> rfl
  · unfold tyX4; split <;> rfl
  · unfold tyX7; split <;> rfl
  · rfl
  · unfold tyX1; split <;> rfl
  · unfold tyJ3; split <;> rfl
  · unfold tyJ10; split <;> rfl
  · unfold tyJ11; split <;> rfl
  · unfold tyJ12; split <;> rfl
  · unfold tyJ14; split <;> rfl
theorem G.new (n : Nm) {ci idx : Nat} {q : vw_C} (hn : h.1 n = none) (hq : clL[ci]? = some q) (hcl : Cond.classLink Y.1.cls idx q.1 ∈ lw_all) (hin : Cond.instantiable q.1 q.2.2 ∈ lw_all) (hini : Cond.initialized q.1 ∈ lw_all) (hd : decode Y.2.1 pc = .ok (.new idx, 3)) (kk : G Γ l Y d mc ms Q (k0 + 1) (n0 + q.2.2) (pc + 3) ls (.inr (.inr (some n)) :: st) (hN h n (.inl ci))) (ht : n.1 < 100 := by exact Nat.le_of_ble_eq_true rfl) (hk : k0 + 1 ≤ mc := by omega) (hs : n0 + q.2.2 ≤ ms := by first | omega | (show _ ≤ _; simp only; omega)) : G Γ l Y d mc ms Q k0 n0 pc ls st h := by
  intro p e s m args below meth c H locs ad ad0 d0 sl C R E Z Fr L
  have hts := C.2.2.2.2.2.2.2.1
  have hKn := C.2.2.2.2.2.2.2.2.2.1.1 ci q hq
  have cf := cl_ok hq
  refine W.newcK C.1 C.2.1 C.2.2.2.2.2.2.1 (hts _ hcl) (hts _ hin) (hts _ hini) rfl hd hk hs hKn.2.1 rfl fun H1 kC hkC e1 z1 o1 => ?_
  refine gv_goNew (sp := .inl ci) C R E Z Fr L hn ht z1 o1 ⟨q, hq, ?_⟩ kk
  obtain ⟨cell, c1, c2, c3, c4⟩ := u_born (fty ci) hts cf.1 hKn hkC e1 cf.2.1
  have e9 : (fun a => if a = n then H.size else ad a) n = H.size := if_pos rfl
  refine ⟨cell, by rw [e9]; exact c1, c2, fun _ => c3, (by rw [c3]; exact (fun z => by cases z)), (by rw [c3]; rfl), fun k hk' => ?_⟩
  rw [c4 k hk']
  congr 1
  show defaultValue (fty ci k) = gv_fv _ (hN h n (.inl ci)) n (fkT (fty ci k)) k
  have i1 : (hN h n (.inl ci)).2.1 n k = 0 := if_pos rfl
  have i2 : (hN h n (.inl ci)).2.2.1 n k = 0 := if_pos rfl
  have i3 : (hN h n (.inl ci)).2.2.2 n k = none := if_pos rfl
  have hfk := fty_ok ci k
  cases hf : fty ci k <;> rw [hf] at hfk <;> simp only [fkT, gv_fv, defaultValue, i1, i2, i3] <;> first | rfl | (cases hfk)
end R3
