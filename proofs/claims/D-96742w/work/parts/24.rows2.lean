/-! THE FLOOR, 5: branches, ends, arrays, new cells -/
set_option maxRecDepth 100000
section RB
variable {Γ : Gm} {l : Launch} {Y : Mth} {d mc ms : Nat} {Q : PO → PH → Prop} {k0 n0 pc : Nat} {ls : PLs} {st : List PV} {h : PH}
theorem G.if_eq {x : Int32} {off : Int} {tgt : Nat} (hd : decode Y.2.1 pc = .ok (.ifCond .eq off, 3)) (ht : (pc : Int) + off = (tgt : Int)) (kt : x = 0 → G Γ l Y d mc ms Q k0 n0 tgt ls st h) (kf : ¬ x = 0 → G Γ l Y d mc ms Q k0 n0 (pc + 3) ls st h) : G Γ l Y d mc ms Q k0 n0 pc ls (.inl x :: st) h := by
  intro p e s m args below meth c H locs ad ad0 d0 sl C R E Z Fr L
  exact lv_if_eq C.1 C.2.1 hd ht (fun q => kt q p e s m args below meth c H locs ad ad0 d0 sl C R E Z.tail Fr L) (fun q => kf q p e s m args below meth c H locs ad ad0 d0 sl C R E Z.tail Fr L)
theorem G.icmp_eq {x y : Int32} {off : Int} {tgt : Nat} (hd : decode Y.2.1 pc = .ok (.if_icmp .eq off, 3)) (ht : (pc : Int) + off = (tgt : Int)) (kt : x = y → G Γ l Y d mc ms Q k0 n0 tgt ls st h) (kf : ¬ x = y → G Γ l Y d mc ms Q k0 n0 (pc + 3) ls st h) : G Γ l Y d mc ms Q k0 n0 pc ls (.inl y :: .inl x :: st) h := by
  intro p e s m args below meth c H locs ad ad0 d0 sl C R E Z Fr L
  exact lv_icmp_eq C.1 C.2.1 hd ht (fun q => kt q p e s m args below meth c H locs ad ad0 d0 sl C R E Z.tail.tail Fr L) (fun q => kf q p e s m args below meth c H locs ad ad0 d0 sl C R E Z.tail.tail Fr L)
theorem G.if_ne {x : Int32} {off : Int} {tgt : Nat} (hd : decode Y.2.1 pc = .ok (.ifCond .ne off, 3)) (ht : (pc : Int) + off = (tgt : Int)) (kt : ¬ x = 0 → G Γ l Y d mc ms Q k0 n0 tgt ls st h) (kf : x = 0 → G Γ l Y d mc ms Q k0 n0 (pc + 3) ls st h) : G Γ l Y d mc ms Q k0 n0 pc ls (.inl x :: st) h := by
  intro p e s m args below meth c H locs ad ad0 d0 sl C R E Z Fr L
  exact lv_if_ne C.1 C.2.1 hd ht (fun q => kt q p e s m args below meth c H locs ad ad0 d0 sl C R E Z.tail Fr L) (fun q => kf q p e s m args below meth c H locs ad ad0 d0 sl C R E Z.tail Fr L)
theorem G.icmp_ne {x y : Int32} {off : Int} {tgt : Nat} (hd : decode Y.2.1 pc = .ok (.if_icmp .ne off, 3)) (ht : (pc : Int) + off = (tgt : Int)) (kt : ¬ x = y → G Γ l Y d mc ms Q k0 n0 tgt ls st h) (kf : x = y → G Γ l Y d mc ms Q k0 n0 (pc + 3) ls st h) : G Γ l Y d mc ms Q k0 n0 pc ls (.inl y :: .inl x :: st) h := by
  intro p e s m args below meth c H locs ad ad0 d0 sl C R E Z Fr L
  exact lv_icmp_ne C.1 C.2.1 hd ht (fun q => kt q p e s m args below meth c H locs ad ad0 d0 sl C R E Z.tail.tail Fr L) (fun q => kf q p e s m args below meth c H locs ad ad0 d0 sl C R E Z.tail.tail Fr L)
theorem G.if_lt {x : Int32} {off : Int} {tgt : Nat} (hd : decode Y.2.1 pc = .ok (.ifCond .lt off, 3)) (ht : (pc : Int) + off = (tgt : Int)) (kt : x < 0 → G Γ l Y d mc ms Q k0 n0 tgt ls st h) (kf : ¬ x < 0 → G Γ l Y d mc ms Q k0 n0 (pc + 3) ls st h) : G Γ l Y d mc ms Q k0 n0 pc ls (.inl x :: st) h := by
  intro p e s m args below meth c H locs ad ad0 d0 sl C R E Z Fr L
  exact lv_if_lt C.1 C.2.1 hd ht (fun q => kt q p e s m args below meth c H locs ad ad0 d0 sl C R E Z.tail Fr L) (fun q => kf q p e s m args below meth c H locs ad ad0 d0 sl C R E Z.tail Fr L)
theorem G.icmp_lt {x y : Int32} {off : Int} {tgt : Nat} (hd : decode Y.2.1 pc = .ok (.if_icmp .lt off, 3)) (ht : (pc : Int) + off = (tgt : Int)) (kt : x < y → G Γ l Y d mc ms Q k0 n0 tgt ls st h) (kf : ¬ x < y → G Γ l Y d mc ms Q k0 n0 (pc + 3) ls st h) : G Γ l Y d mc ms Q k0 n0 pc ls (.inl y :: .inl x :: st) h := by
  intro p e s m args below meth c H locs ad ad0 d0 sl C R E Z Fr L
  exact lv_icmp_lt C.1 C.2.1 hd ht (fun q => kt q p e s m args below meth c H locs ad ad0 d0 sl C R E Z.tail.tail Fr L) (fun q => kf q p e s m args below meth c H locs ad ad0 d0 sl C R E Z.tail.tail Fr L)
theorem G.if_ge {x : Int32} {off : Int} {tgt : Nat} (hd : decode Y.2.1 pc = .ok (.ifCond .ge off, 3)) (ht : (pc : Int) + off = (tgt : Int)) (kt : 0 ≤ x → G Γ l Y d mc ms Q k0 n0 tgt ls st h) (kf : ¬ 0 ≤ x → G Γ l Y d mc ms Q k0 n0 (pc + 3) ls st h) : G Γ l Y d mc ms Q k0 n0 pc ls (.inl x :: st) h := by
  intro p e s m args below meth c H locs ad ad0 d0 sl C R E Z Fr L
  exact lv_if_ge C.1 C.2.1 hd ht (fun q => kt q p e s m args below meth c H locs ad ad0 d0 sl C R E Z.tail Fr L) (fun q => kf q p e s m args below meth c H locs ad ad0 d0 sl C R E Z.tail Fr L)
theorem G.icmp_ge {x y : Int32} {off : Int} {tgt : Nat} (hd : decode Y.2.1 pc = .ok (.if_icmp .ge off, 3)) (ht : (pc : Int) + off = (tgt : Int)) (kt : y ≤ x → G Γ l Y d mc ms Q k0 n0 tgt ls st h) (kf : ¬ y ≤ x → G Γ l Y d mc ms Q k0 n0 (pc + 3) ls st h) : G Γ l Y d mc ms Q k0 n0 pc ls (.inl y :: .inl x :: st) h := by
  intro p e s m args below meth c H locs ad ad0 d0 sl C R E Z Fr L
  exact lv_icmp_ge C.1 C.2.1 hd ht (fun q => kt q p e s m args below meth c H locs ad ad0 d0 sl C R E Z.tail.tail Fr L) (fun q => kf q p e s m args below meth c H locs ad ad0 d0 sl C R E Z.tail.tail Fr L)
theorem G.if_gt {x : Int32} {off : Int} {tgt : Nat} (hd : decode Y.2.1 pc = .ok (.ifCond .gt off, 3)) (ht : (pc : Int) + off = (tgt : Int)) (kt : 0 < x → G Γ l Y d mc ms Q k0 n0 tgt ls st h) (kf : ¬ 0 < x → G Γ l Y d mc ms Q k0 n0 (pc + 3) ls st h) : G Γ l Y d mc ms Q k0 n0 pc ls (.inl x :: st) h := by
  intro p e s m args below meth c H locs ad ad0 d0 sl C R E Z Fr L
  exact lv_if_gt C.1 C.2.1 hd ht (fun q => kt q p e s m args below meth c H locs ad ad0 d0 sl C R E Z.tail Fr L) (fun q => kf q p e s m args below meth c H locs ad ad0 d0 sl C R E Z.tail Fr L)
theorem G.icmp_gt {x y : Int32} {off : Int} {tgt : Nat} (hd : decode Y.2.1 pc = .ok (.if_icmp .gt off, 3)) (ht : (pc : Int) + off = (tgt : Int)) (kt : y < x → G Γ l Y d mc ms Q k0 n0 tgt ls st h) (kf : ¬ y < x → G Γ l Y d mc ms Q k0 n0 (pc + 3) ls st h) : G Γ l Y d mc ms Q k0 n0 pc ls (.inl y :: .inl x :: st) h := by
  intro p e s m args below meth c H locs ad ad0 d0 sl C R E Z Fr L
  exact lv_icmp_gt C.1 C.2.1 hd ht (fun q => kt q p e s m args below meth c H locs ad ad0 d0 sl C R E Z.tail.tail Fr L) (fun q => kf q p e s m args below meth c H locs ad ad0 d0 sl C R E Z.tail.tail Fr L)
theorem G.if_le {x : Int32} {off : Int} {tgt : Nat} (hd : decode Y.2.1 pc = .ok (.ifCond .le off, 3)) (ht : (pc : Int) + off = (tgt : Int)) (kt : x ≤ 0 → G Γ l Y d mc ms Q k0 n0 tgt ls st h) (kf : ¬ x ≤ 0 → G Γ l Y d mc ms Q k0 n0 (pc + 3) ls st h) : G Γ l Y d mc ms Q k0 n0 pc ls (.inl x :: st) h := by
  intro p e s m args below meth c H locs ad ad0 d0 sl C R E Z Fr L
  exact lv_if_le C.1 C.2.1 hd ht (fun q => kt q p e s m args below meth c H locs ad ad0 d0 sl C R E Z.tail Fr L) (fun q => kf q p e s m args below meth c H locs ad ad0 d0 sl C R E Z.tail Fr L)
theorem G.icmp_le {x y : Int32} {off : Int} {tgt : Nat} (hd : decode Y.2.1 pc = .ok (.if_icmp .le off, 3)) (ht : (pc : Int) + off = (tgt : Int)) (kt : x ≤ y → G Γ l Y d mc ms Q k0 n0 tgt ls st h) (kf : ¬ x ≤ y → G Γ l Y d mc ms Q k0 n0 (pc + 3) ls st h) : G Γ l Y d mc ms Q k0 n0 pc ls (.inl y :: .inl x :: st) h := by
  intro p e s m args below meth c H locs ad ad0 d0 sl C R E Z Fr L
  exact lv_icmp_le C.1 C.2.1 hd ht (fun q => kt q p e s m args below meth c H locs ad ad0 d0 sl C R E Z.tail.tail Fr L) (fun q => kf q p e s m args below meth c H locs ad ad0 d0 sl C R E Z.tail.tail Fr L)
theorem G.ifnull {r : Option Nm} {off : Int} {tgt : Nat} (hd : decode Y.2.1 pc = .ok (.ifnull off, 3)) (ht : (pc : Int) + off = (tgt : Int)) (kt : r = none → G Γ l Y d mc ms Q k0 n0 tgt ls st h) (kf : ∀ n, r = some n → G Γ l Y d mc ms Q k0 n0 (pc + 3) ls st h) : G Γ l Y d mc ms Q k0 n0 pc ls (.inr (.inr r) :: st) h := by
  intro p e s m args below meth c H locs ad ad0 d0 sl C R E Z Fr L
  cases r with
  | none => exact lv_ifnullN C.1 C.2.1 hd ht (kt rfl p e s m args below meth c H locs ad ad0 d0 sl C R E Z.tail Fr L)
  | some n => exact lv_ifnull C.1 C.2.1 hd (kf n rfl p e s m args below meth c H locs ad ad0 d0 sl C R E Z.tail Fr L)
theorem G.ifnonnull {r : Option Nm} {off : Int} {tgt : Nat} (hd : decode Y.2.1 pc = .ok (.ifnonnull off, 3)) (ht : (pc : Int) + off = (tgt : Int)) (kt : ∀ n, r = some n → G Γ l Y d mc ms Q k0 n0 tgt ls st h) (kf : r = none → G Γ l Y d mc ms Q k0 n0 (pc + 3) ls st h) : G Γ l Y d mc ms Q k0 n0 pc ls (.inr (.inr r) :: st) h := by
  intro p e s m args below meth c H locs ad ad0 d0 sl C R E Z Fr L
  cases r with
  | none => exact lv_ifnonnullN C.1 C.2.1 hd (kf rfl p e s m args below meth c H locs ad ad0 d0 sl C R E Z.tail Fr L)
  | some n => exact lv_ifnonnull C.1 C.2.1 hd ht (kt n rfl p e s m args below meth c H locs ad ad0 d0 sl C R E Z.tail Fr L)
theorem G.idiv {x y : Int32} (hy : ¬ y = 0) (hd : decode Y.2.1 pc = .ok (.idiv, 1)) (kk : G Γ l Y d mc ms Q k0 n0 (pc + 1) ls (.inl (x / y) :: st) h) : G Γ l Y d mc ms Q k0 n0 pc ls (.inl y :: .inl x :: st) h := by
  intro p e s m args below meth c H locs ad ad0 d0 sl C R E Z Fr L
  exact lv_idiv C.1 C.2.1 hd hy (kk p e s m args below meth c H locs ad ad0 d0 sl C R E (Z.tail.tail.push (gv_wv_i _)) Fr L)
theorem G.irem {x y : Int32} (hy : ¬ y = 0) (hd : decode Y.2.1 pc = .ok (.irem, 1)) (kk : G Γ l Y d mc ms Q k0 n0 (pc + 1) ls (.inl (x - x / y * y) :: st) h) : G Γ l Y d mc ms Q k0 n0 pc ls (.inl y :: .inl x :: st) h := by
  intro p e s m args below meth c H locs ad ad0 d0 sl C R E Z Fr L
  exact lv_irem C.1 C.2.1 hd hy (kk p e s m args below meth c H locs ad ad0 d0 sl C R E (Z.tail.tail.push (gv_wv_i _)) Fr L)
theorem G.ldiv {x y : Int64} (hy : ¬ y = 0) (hd : decode Y.2.1 pc = .ok (.ldiv, 1)) (kk : G Γ l Y d mc ms Q k0 n0 (pc + 1) ls (.inr (.inl (x / y)) :: st) h) : G Γ l Y d mc ms Q k0 n0 pc ls (.inr (.inl y) :: .inr (.inl x) :: st) h := by
  intro p e s m args below meth c H locs ad ad0 d0 sl C R E Z Fr L
  exact lv_ldiv C.1 C.2.1 hd hy (kk p e s m args below meth c H locs ad ad0 d0 sl C R E (Z.tail.tail.push (gv_wv_l _)) Fr L)
theorem G.lrem {x y : Int64} (hy : ¬ y = 0) (hd : decode Y.2.1 pc = .ok (.lrem, 1)) (kk : G Γ l Y d mc ms Q k0 n0 (pc + 1) ls (.inr (.inl (x - x / y * y)) :: st) h) : G Γ l Y d mc ms Q k0 n0 pc ls (.inr (.inl y) :: .inr (.inl x) :: st) h := by
  intro p e s m args below meth c H locs ad ad0 d0 sl C R E Z Fr L
  exact lv_lrem C.1 C.2.1 hd hy (kk p e s m args below meth c H locs ad ad0 d0 sl C R E (Z.tail.tail.push (gv_wv_l _)) Fr L)
theorem G.lsw {x : Int32} {df : Int} {ps : Array (Int × Int)} {len : Nat} {off : Int} {tgt : Nat} (hd : decode Y.2.1 pc = .ok (.lookupswitch df ps, len)) (hp : (ps.toList.zip (ps.toList.drop 1)).all (fun (a, next) => a.1 < next.1) = true) (ho : Op.lookupswitch.offset ps.toList df x.toInt = off) (ht : (pc : Int) + off = (tgt : Int)) (kk : G Γ l Y d mc ms Q k0 n0 tgt ls st h) : G Γ l Y d mc ms Q k0 n0 pc ls (.inl x :: st) h := by
  intro p e s m args below meth c H locs ad ad0 d0 sl C R E Z Fr L
  exact lv_lookup C.1 C.2.1 hd hp ho ht (kk p e s m args below meth c H locs ad ad0 d0 sl C R E Z.tail Fr L)
theorem G.tswI {x : Int32} {df lo hi : Int} {offs : Array Int} {len : Nat} {off : Int} {tgt : Nat} (hd : decode Y.2.1 pc = .ok (.tableswitch df lo hi offs, len)) (h1 : ¬ x.toInt < lo) (h2 : ¬ hi < x.toInt) (ho : offs[(x.toInt - lo).toNat]? = some off) (ht : (pc : Int) + off = (tgt : Int)) (kk : G Γ l Y d mc ms Q k0 n0 tgt ls st h) : G Γ l Y d mc ms Q k0 n0 pc ls (.inl x :: st) h := by
  intro p e s m args below meth c H locs ad ad0 d0 sl C R E Z Fr L
  exact lv_tableIn C.1 C.2.1 hd h1 h2 ho ht (kk p e s m args below meth c H locs ad ad0 d0 sl C R E Z.tail Fr L)
theorem G.tswO {x : Int32} {df lo hi : Int} {offs : Array Int} {len : Nat} {tgt : Nat} (hd : decode Y.2.1 pc = .ok (.tableswitch df lo hi offs, len)) (h1 : x.toInt < lo ∨ hi < x.toInt) (ht : (pc : Int) + df = (tgt : Int)) (kk : G Γ l Y d mc ms Q k0 n0 tgt ls st h) : G Γ l Y d mc ms Q k0 n0 pc ls (.inl x :: st) h := by
  intro p e s m args below meth c H locs ad ad0 d0 sl C R E Z Fr L
  exact lv_tableOut C.1 C.2.1 hd h1 ht (kk p e s m args below meth c H locs ad ad0 d0 sl C R E Z.tail Fr L)
/-- fewer locals are known -/
theorem G.forget {ls' : PLs} (hl : ls'.length = ls.length) (hs : ∀ (i : Nat) (v : PV), ls'[i]? = some (some v) → ls[i]? = some (some v)) (kk : G Γ l Y d mc ms Q k0 n0 pc ls' st h) : G Γ l Y d mc ms Q k0 n0 pc ls st h := by
  intro p e s m args below meth c H locs ad ad0 d0 sl C R E Z Fr L
  exact kk p e s m args below meth c H locs ad ad0 d0 sl C R E ⟨Z.1, fun i v hv => Z.2 i v (hs i v hv)⟩ Fr ⟨L.1, L.2.1, hl.trans L.2.2.1, fun i v hv => L.2.2.2 i v (hs i v hv)⟩
def ls_mask (ls : PLs) (b : List Bool) : PLs := match ls, b with
  | [], _ => []
  | x :: r, [] => x :: r
  | _ :: r, false :: b => none :: ls_mask r b
  | x :: r, true :: b => x :: ls_mask r b
theorem ls_mask_len (ls : PLs) (b : List Bool) : (ls_mask ls b).length = ls.length := by
  induction ls generalizing b with
  | nil => cases b <;> rfl
  | cons x r ih =>
    match b with
    | [] => rfl
    | false :: b => simp [ls_mask, ih]
    | true :: b => simp [ls_mask, ih]
theorem ls_mask_get (ls : PLs) (b : List Bool) (i : Nat) (v : PV) (hv : (ls_mask ls b)[i]? = some (some v)) : ls[i]? = some (some v) := by
  induction ls generalizing b i with
  | nil => cases b <;> exact hv
  | cons x r ih =>
    match b, i, hv with
    | [], i, hv => exact hv
    | false :: b, 0, hv => cases hv
    | false :: b, i + 1, hv => exact ih b i hv
    | true :: b, 0, hv => exact hv
    | true :: b, i + 1, hv => exact ih b i hv
theorem G.mask (b : List Bool) (kk : G Γ l Y d mc ms Q k0 n0 pc (ls_mask ls b) st h) : G Γ l Y d mc ms Q k0 n0 pc ls st h := G.forget (ls_mask_len ls b) (ls_mask_get ls b) kk
theorem G.widen {k1 n1 : Nat} (hk : k0 ≤ k1) (hn : n0 ≤ n1) (kk : G Γ l Y d mc ms Q k1 n1 pc ls st h) : G Γ l Y d mc ms Q k0 n0 pc ls st h := by
  intro p e s m args below meth c H locs ad ad0 d0 sl C R E Z Fr L
  exact W.widen hk hn (kk p e s m args below meth c H locs ad ad0 d0 sl C R E Z Fr L)
theorem G.post {Q' : PO → PH → Prop} (hq : ∀ r h', Q r h' → Q' r h') (kk : G Γ l Y d mc ms Q k0 n0 pc ls st h) : G Γ l Y d mc ms Q' k0 n0 pc ls st h := by
  intro p e s m args below meth c H locs ad ad0 d0 sl C R E Z Fr L
  refine W.mono (fun t ht => ?_) (kk p e s m args below meth c H locs ad ad0 d0 sl C R E Z Fr L)
  obtain ⟨o, a1, a2, a3, a4, r, h', ad', b1, b2⟩ := ht
  exact ⟨o, a1, a2, a3, a4, r, h', ad', hq r h' b1, b2⟩
theorem gv_ret {p : Program} {e : Env} {s : State} {m : MethodId} {args : Array Value} {below : List Frame} {meth : Method} {c : Code} {H : Heap} {locs : List Loc} {ad ad0 : Nm → Nat} {d0 : Nm → Option Shp} {g : JFrame} {v : Option PV} (R : gv_Rel Γ ad h H) (E : gv_Ex d0 ad0 h ad) (Fr : gv_Fr Γ s H locs) (hv : ∀ x, v = some x → gv_wv h x) (hq : Q (.inl v) h) (hk : k0 ≤ mc) (hn : n0 ≤ ms)
    (kk : (∀ t : State, t.heap = H → s.WarmedH t.vm → (fun (_ : Array Value) (s : State) o t => gv_Q Γ s d0 ad0 Q o t) args s (.returned (v.map (gv_cv ad))) t) → (∀ q ∈ locs, (fun a => Γ.1 ≤ a) q.base) → W p l e (gv_rm d mc ms) s m args below meth c H locs mc ms (MQ below (fun _ s o t => gv_Q Γ s d0 ad0 Q o t) args s mc ms (fun a => Γ.1 ≤ a)) g) :
    W p l e (gv_rm d mc ms) s m args below meth c H locs k0 n0 (gv_E Γ below s mc ms (gv_Q Γ s d0 ad0 Q)) g := by
  refine W.widen hk hn (W.mono (fun t ht => ?_) (kk (fun t ht hw => ⟨.inl v, h, ad, hq, rfl, ?_, by rw [ht]; exact R, E, fun q hq => by rw [ht]; exact Fr.2.2.1 q hq⟩) Fr.2.2.2))
  · obtain ⟨o, a1, a2, a3, L, ⟨a4, a5, a6⟩, a7⟩ := ht
    exact ⟨o, a1, a2, a5, ⟨L, a6, a7⟩, a3⟩
  · cases v with
    | none => exact trivial
    | some x => exact hv x rfl
theorem G.iret {x : Int32} {ty : FieldType} (hr : Y.2.2.2.1 = some ty) (hx : narrow ty (.int x) = .int x) (hd : decode Y.2.1 pc = .ok (.ireturn, 1)) (hq : Q (.inl (some (.inl x))) h) (hk : k0 ≤ mc := by omega) (hn : n0 ≤ ms := by omega) : G Γ l Y d mc ms Q k0 n0 pc ls [.inl x] h := by
  intro p e s m args below meth c H locs ad ad0 d0 sl C R E Z Fr L
  have hlocks := C.2.2.2.2.1
  exact gv_ret R E Fr (fun z hz => by cases hz; exact gv_wv_i x) hq hk hn (fun a b => W.zret C.1 C.2.1 (C.2.2.2.1.trans hr) hx a b hd)
theorem G.lret {x : Int64} (hr : Y.2.2.2.1 = some .long) (hd : decode Y.2.1 pc = .ok (.lreturn, 1)) (hq : Q (.inl (some (.inr (.inl x)))) h) (hk : k0 ≤ mc := by omega) (hn : n0 ≤ ms := by omega) : G Γ l Y d mc ms Q k0 n0 pc ls [.inr (.inl x)] h := by
  intro p e s m args below meth c H locs ad ad0 d0 sl C R E Z Fr L
  have hlocks := C.2.2.2.2.1
  exact gv_ret R E Fr (fun z hz => by cases hz; exact gv_wv_l x) hq hk hn (fun a b => W.lret C.1 C.2.1 (C.2.2.2.1.trans hr) a b hd)
theorem G.aret {r : Option Nm} {ty : FieldType} (hr : Y.2.2.2.1 = some ty) (hty : refT ty) (hd : decode Y.2.1 pc = .ok (.areturn, 1)) (hq : Q (.inl (some (.inr (.inr r)))) h) (hk : k0 ≤ mc := by omega) (hn : n0 ≤ ms := by omega) : G Γ l Y d mc ms Q k0 n0 pc ls [.inr (.inr r)] h := by
  intro p e s m args below meth c H locs ad ad0 d0 sl C R E Z Fr L
  have hlocks := C.2.2.2.2.1
  exact gv_ret R E Fr (fun z hz => by cases hz; exact Z.head) hq hk hn (fun a b => W.aret C.1 C.2.1 (C.2.2.2.1.trans hr) hty (by cases r with
    | none => exact Or.inl rfl
    | some n => exact Or.inr ⟨_, rfl⟩) a b hd)
theorem G.vret (hr : Y.2.2.2.1 = none) (hd : decode Y.2.1 pc = .ok (.return_, 1)) (hq : Q (.inl none) h) (hk : k0 ≤ mc := by omega) (hn : n0 ≤ ms := by omega) : G Γ l Y d mc ms Q k0 n0 pc ls [] h := by
  intro p e s m args below meth c H locs ad ad0 d0 sl C R E Z Fr L
  have hlocks := C.2.2.2.2.1
  exact gv_ret R E Fr (fun z hz => by cases hz) hq hk hn (fun a b => W.vret C.1 C.2.1 (C.2.2.2.1.trans hr) a b hd)
/-- fields as plain acts -/
def ac_gf (ci k kd : Nat) : PT → Option PT := fun (ls, st, h) => match st with
  | .inr (.inr (some n)) :: r => match h.1 n with
    | some (.inl c) => match Nat.beq c ci with
      | true => match kd with
        | 0 => some (ls, .inl (h.2.1 n k) :: r, h)
        | 1 => some (ls, .inr (.inl (h.2.2.1 n k)) :: r, h)
        | _ => some (ls, .inr (.inr (h.2.2.2 n k)) :: r, h)
      | false => none
    | _ => none
  | _ => none
theorem sd_gf {ci k kd idx : Nat} (F : FldOk Y.1.cls idx k ci) (hk : fkd ci k = kd) (h2 : kd < 3) (hd : decode Y.2.1 pc = .ok (.getfield idx, 3)) : Snd Y pc (pc + 3) (ac_gf ci k kd) := by
  intro Γ l d mc ms Q k0 n0 σ σ' ha kk
  obtain ⟨ls, st, h⟩ := σ
  simp only [ac_gf] at ha
  split at ha
  · rename_i _ n r
    split at ha
    · rename_i c hc
      split at ha
      · rename_i hb
        have e : c = ci := Nat.eq_of_beq_eq_true hb
        subst e
        rcases (show kd = 0 ∨ kd = 1 ∨ kd = 2 by omega) with e | e | e
        · subst e
          cases ha
          exact G.getI hc hk F hd kk
        · subst e
          cases ha
          exact G.getL hc hk F hd kk
        · subst e
          cases ha
          exact G.getR hc hk F hd kk
      · cases ha
    · cases ha
  · cases ha
def ac_pi (ci k : Nat) : PT → Option PT := fun (ls, st, sh, I, J, rf) => match st with
  | .inl x :: .inr (.inr (some n)) :: r => match sh n, Nat.blt n.1 100 with
    | some (.inl c), true => match Nat.beq c ci with
      | true => some (ls, r, (sh, upI I n k x, J, rf))
      | false => none
    | _, _ => none
  | _ => none
theorem sd_pi {ci k idx : Nat} (F : FldOk Y.1.cls idx k ci) (hfin : FinOk Y idx k ci) (hk : fty ci k = .int) (hd : decode Y.2.1 pc = .ok (.putfield idx, 3)) : Snd Y pc (pc + 3) (ac_pi ci k) := by
  intro Γ l d mc ms Q k0 n0 σ σ' ha kk
  obtain ⟨ls, st, sh, I, J, rf⟩ := σ
  simp only [ac_pi] at ha
  split at ha
  · rename_i _ x n r
    split at ha
    · rename_i c hc ht
      split at ha
      · rename_i hb
        have e : c = ci := Nat.eq_of_beq_eq_true hb
        subst e
        cases ha
        exact G.putI hc (Nat.le_of_ble_eq_true ht) (by show fkT (fty c k) = 0; rw [hk]; rfl) (by rw [hk]; exact ⟨rfl, rfl⟩) F hfin hd kk
      · cases ha
    · cases ha
  · cases ha
def ac_pl (ci k : Nat) : PT → Option PT := fun (ls, st, sh, I, J, rf) => match st with
  | .inr (.inl x) :: .inr (.inr (some n)) :: r => match sh n, Nat.blt n.1 100 with
    | some (.inl c), true => match Nat.beq c ci with
      | true => some (ls, r, (sh, I, upJ J n k x, rf))
      | false => none
    | _, _ => none
  | _ => none
theorem sd_pl {ci k idx : Nat} (F : FldOk Y.1.cls idx k ci) (hfin : FinOk Y idx k ci) (hk : fty ci k = .long) (hd : decode Y.2.1 pc = .ok (.putfield idx, 3)) : Snd Y pc (pc + 3) (ac_pl ci k) := by
  intro Γ l d mc ms Q k0 n0 σ σ' ha kk
  obtain ⟨ls, st, sh, I, J, rf⟩ := σ
  simp only [ac_pl] at ha
  split at ha
  · rename_i _ x n r
    split at ha
    · rename_i c hc ht
      split at ha
      · rename_i hb
        have e : c = ci := Nat.eq_of_beq_eq_true hb
        subst e
        cases ha
        exact G.putL hc (Nat.le_of_ble_eq_true ht) hk F hfin hd kk
      · cases ha
    · cases ha
  · cases ha
def ac_pr (ci k : Nat) : PT → Option PT := fun (ls, st, sh, I, J, rf) => match st with
  | .inr (.inr x) :: .inr (.inr (some n)) :: r => match sh n, Nat.blt n.1 100 with
    | some (.inl c), true => match Nat.beq c ci with
      | true => some (ls, r, (sh, I, J, upR rf n k x))
      | false => none
    | _, _ => none
  | _ => none
theorem sd_pr {ci k idx : Nat} (F : FldOk Y.1.cls idx k ci) (hfin : FinOk Y idx k ci) (hk : refT (fty ci k)) (hd : decode Y.2.1 pc = .ok (.putfield idx, 3)) : Snd Y pc (pc + 3) (ac_pr ci k) := by
  intro Γ l d mc ms Q k0 n0 σ σ' ha kk
  obtain ⟨ls, st, sh, I, J, rf⟩ := σ
  simp only [ac_pr] at ha
  split at ha
  · rename_i _ x n r
    split at ha
    · rename_i c hc ht
      split at ha
      · rename_i hb
        have e : c = ci := Nat.eq_of_beq_eq_true hb
        subst e
        cases ha
        exact G.putR hc (Nat.le_of_ble_eq_true ht) hk F hfin hd kk
      · cases ha
    · cases ha
  · cases ha
end RB
