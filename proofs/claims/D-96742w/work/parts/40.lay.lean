/-! THE LAYOUT: the two objects with what they hold, by names; the heap by four functions -/
set_option maxRecDepth 100000
/-- how long a constant's text is -/
def slen (k : Nat) : Nat := match k with
  | 0 => 5
  | 1 => 5
  | 2 => 6
  | 3 => 2
  | 4 => 3
  | 5 => 3
  | 6 => 5
  | 7 => 6
  | 8 => 5
  | 9 => 4
  | 10 => 6
  | 11 => 6
  | 12 => 8
  | _ => 62
/-- what lies at a name; S: what is made as the calls go -/
def shp (S : Nm → Option Shp) (n : Nm) : Option Shp := match n.1 with
  | 0 => if n.2 = 0 then some (.inl 0) else none
  | 1 => if n.2 = 0 then some (.inr (4, 6)) else none
  | 2 => if n.2 = 0 then some (.inr (5, 8)) else none
  | 3 => if n.2 = 0 then some (.inr (5, 8)) else none
  | 4 => if n.2 = 0 then some (.inl 13) else none
  | 5 => if n.2 = 0 then some (.inr (7, 6)) else none
  | 6 => if n.2 = 0 then some (.inr (8, 6)) else none
  | 7 => if n.2 = 0 then some (.inr (8, 6)) else none
  | 8 => if n.2 = 0 then some (.inr (1, 160)) else none
  | 9 => if n.2 = 0 then some (.inr (0, 41)) else none
  | 10 => if n.2 = 0 then some (.inr (0, 6)) else none
  | 11 => if n.2 = 0 then some (.inr (5, 8)) else none
  | 12 => if n.2 = 0 then some (.inr (5, 3)) else none
  | 13 => if n.2 = 0 then some (.inr (0, 3)) else none
  | 14 => if n.2 = 0 then some (.inr (9, 4)) else none
  | 15 => if n.2 < 8 then some (.inr (0, 8)) else none
  | 16 => if n.2 < 8 then some (.inr (0, 8)) else none
  | 17 => if n.2 < 8 then some (.inr (0, 8)) else none
  | 18 => if n.2 < 3 then some (.inr (0, 6)) else none
  | 19 => if n.2 < 4 then some (.inl 12) else none
  | 50 => if n.2 = 0 then some (.inl 1) else none
  | 51 => if n.2 = 0 then some (.inr (0, 960)) else none
  | 52 => if n.2 = 0 then some (.inr (0, 6)) else none
  | 53 => if n.2 = 0 then some (.inr (0, 160)) else none
  | 54 => if n.2 = 0 then some (.inr (0, 64)) else none
  | 55 => if n.2 = 0 then some (.inr (0, 6)) else none
  | 56 => if n.2 = 0 then some (.inr (0, 18)) else none
  | 57 => if n.2 = 0 then some (.inr (0, 64)) else none
  | 58 => if n.2 = 0 then some (.inr (0, 41)) else none
  | 59 => if n.2 = 0 then some (.inr (0, 36)) else none
  | 60 => if n.2 = 0 then some (.inr (0, 6)) else none
  | 61 => if n.2 = 0 then some (.inr (0, 64)) else none
  | 62 => if n.2 = 0 then some (.inr (0, 18)) else none
  | 63 => if n.2 = 0 then some (.inr (3, 4)) else none
  | 64 => if n.2 = 0 then some (.inr (0, 4)) else none
  | 65 => if n.2 = 0 then some (.inr (0, 4)) else none
  | 66 => if n.2 = 0 then some (.inr (0, 160)) else none
  | 100 => if n.2 < 14 then some (.inl 14) else none
  | 101 => if n.2 < 14 then some (.inr (1, slen n.2)) else none
  | 102 => if n.2 < 3 then some (.inr (99, 0)) else none
  | _ => S n
/-- what a reference holds; D: what is written as the calls go -/
def rfs (D : Nm → Nat → Option Nm) (n : Nm) (k : Nat) : Option Nm := match n.1 with
  | 0 => match k with
    | 0 => some (1, 0)
    | 3 => some (2, 0)
    | 4 => some (3, 0)
    | 5 => some (4, 0)
    | 11 => some (5, 0)
    | 13 => some (6, 0)
    | 14 => some (7, 0)
    | 15 => some (8, 0)
    | 24 => some (9, 0)
    | 31 => some (10, 0)
    | 33 => some (11, 0)
    | 34 => some (12, 0)
    | 35 => some (13, 0)
    | 36 => some (14, 0)
    | _ => none
  | 2 => if k < 8 then some (15, k) else none
  | 3 => if k < 8 then some (16, k) else none
  | 4 => none
  | 6 => if k < 6 then some (100, k) else none
  | 7 => if k < 6 then some (100, 6 + k) else none
  | 11 => if k < 8 then some (17, k) else none
  | 12 => if k < 3 then some (18, k) else none
  | 14 => if k < 4 then some (19, k) else none
  | 50 => match k with
    | 1 => some (51, 0)
    | 2 => some (52, 0)
    | 5 => some (53, 0)
    | 8 => some (54, 0)
    | 9 => some (55, 0)
    | 10 => some (56, 0)
    | 12 => some (57, 0)
    | 28 => some (58, 0)
    | 32 => some (59, 0)
    | 35 => some (60, 0)
    | 36 => some (61, 0)
    | 37 => some (62, 0)
    | 41 => some (63, 0)
    | 42 => some (64, 0)
    | 43 => some (65, 0)
    | 44 => some (66, 0)
    | _ => none
  | 100 => if k = 0 ∧ n.2 < 14 then some (101, n.2) else none
  | _ => D n k
abbrev hC (S : Nm → Option Shp) (D : Nm → Nat → Option Nm) (I : Nm → Nat → Int32) (J : Nm → Nat → Int64) : PH := (shp S, I, J, rfs D)
theorem hI_eq (s : Nm → Option Shp) (I : Nm → Nat → Int32) (J : Nm → Nat → Int64) (r : Nm → Nat → Option Nm) (n : Nm) (k : Nat) (x : Int32) : hI (s, I, J, r) n k x = (s, upI I n k x, J, r) := rfl
theorem hJ_eq (s : Nm → Option Shp) (I : Nm → Nat → Int32) (J : Nm → Nat → Int64) (r : Nm → Nat → Option Nm) (n : Nm) (k : Nat) (x : Int64) : hJ (s, I, J, r) n k x = (s, I, upJ J n k x, r) := rfl
theorem upI_at (I : Nm → Nat → Int32) (n : Nm) (k : Nat) (x : Int32) (a : Nm) (b : Nat) : upI I n k x a b = if a = n ∧ b = k then x else I a b := rfl
theorem upI_self (I : Nm → Nat → Int32) (n : Nm) (k : Nat) (x : Int32) : upI I n k x n k = x := if_pos ⟨rfl, rfl⟩
theorem upI_nm {I : Nm → Nat → Int32} {n : Nm} {k : Nat} {x : Int32} {a : Nm} {b : Nat} (h : a ≠ n) : upI I n k x a b = I a b := if_neg fun z => h z.1
theorem upI_k {I : Nm → Nat → Int32} {n : Nm} {k : Nat} {x : Int32} {a : Nm} {b : Nat} (h : b ≠ k) : upI I n k x a b = I a b := if_neg fun z => h z.2
theorem sp_15 (S : Nm → Option Shp) {i : Nat} (h : i < 8) : shp S (15, i) = some (.inr (0, 8)) := if_pos h
theorem sp_16 (S : Nm → Option Shp) {i : Nat} (h : i < 8) : shp S (16, i) = some (.inr (0, 8)) := if_pos h
theorem sp_17 (S : Nm → Option Shp) {i : Nat} (h : i < 8) : shp S (17, i) = some (.inr (0, 8)) := if_pos h
theorem sp_18 (S : Nm → Option Shp) {i : Nat} (h : i < 3) : shp S (18, i) = some (.inr (0, 6)) := if_pos h
theorem sp_19 (S : Nm → Option Shp) {i : Nat} (h : i < 4) : shp S (19, i) = some (.inl 12) := if_pos h
theorem rf_2 (D : Nm → Nat → Option Nm) {i : Nat} (h : i < 8) : rfs D (2, 0) i = some (15, i) := if_pos h
theorem rf_3 (D : Nm → Nat → Option Nm) {i : Nat} (h : i < 8) : rfs D (3, 0) i = some (16, i) := if_pos h
theorem rf_11 (D : Nm → Nat → Option Nm) {i : Nat} (h : i < 8) : rfs D (11, 0) i = some (17, i) := if_pos h
theorem rf_12 (D : Nm → Nat → Option Nm) {i : Nat} (h : i < 3) : rfs D (12, 0) i = some (18, i) := if_pos h
theorem rf_14 (D : Nm → Nat → Option Nm) {i : Nat} (h : i < 4) : rfs D (14, 0) i = some (19, i) := if_pos h
/-- yes or no as the machine has it -/
def bi (p : Prop) [Decidable p] : Int32 := if p then 1 else 0
theorem bi_t {p : Prop} [Decidable p] (h : p) : bi p = 1 := if_pos h
theorem bi_f {p : Prop} [Decidable p] (h : ¬ p) : bi p = 0 := if_neg h
theorem bi_0 {p : Prop} [Decidable p] : bi p = 0 ↔ ¬ p := by
  unfold bi
  split <;> rename_i q
  · exact ⟨fun h => absurd h (by decide), fun h => absurd q h⟩
  · exact ⟨fun _ => q, fun _ => rfl⟩
theorem bi_1 {p : Prop} [Decidable p] : bi p = 1 ↔ p := by
  unfold bi
  split <;> rename_i q
  · exact ⟨fun _ => q, fun _ => rfl⟩
  · exact ⟨fun h => absurd h (by decide), fun h => absurd h q⟩
theorem bi_n {p : Prop} [Decidable p] : narrow .boolean (.int (bi p)) = .int (bi p) := by
  unfold bi
  split <;> rfl
section RN
variable {Γ : Gm} {l : Launch} {Y : Mth} {d mc ms : Nat} {Q : PO → PH → Prop} {k0 n0 pc : Nat} {ls : PLs} {st stk : List PV} {h : PH}
/-- arrays by a small index -/
theorem G.ialdN {n : Nm} {len j : Nat} {i x : Int32} (hn : h.1 n = some (.inr (0, len))) (hd : decode Y.2.1 pc = .ok (.iaload, 1)) (hi : i = nI j) (hj : j < len) (hv : h.2.1 n j = x) (kk : G Γ l Y d mc ms Q k0 n0 (pc + 1) ls (.inl x :: st) h) (ho : roA n 0 := by exact Or.inl (Nat.le_of_ble_eq_true rfl)) (hl : len < 2 ^ 31 := by decide) : G Γ l Y d mc ms Q k0 n0 pc ls (.inl i :: .inr (.inr (some n)) :: st) h := by
  subst hi
  subst hv
  refine G.iald hn hd ho (vp_in_nI hj hl) ?_
  rw [nI_clamp (by omega)]
  exact kk
theorem G.aaldN {n : Nm} {τ len j : Nat} {i : Int32} {r : Option Nm} (hn : h.1 n = some (.inr (τ, len))) (hd : decode Y.2.1 pc = .ok (.aaload, 1)) (hi : i = nI j) (hj : j < len) (hv : h.2.2.2 n j = r) (kk : G Γ l Y d mc ms Q k0 n0 (pc + 1) ls (.inr (.inr r) :: st) h) (ho : roA n τ := by exact Or.inl (Nat.le_of_ble_eq_true rfl)) (hτ : 4 ≤ τ ∧ τ < 10 := by decide) (hl : len < 2 ^ 31 := by decide) : G Γ l Y d mc ms Q k0 n0 pc ls (.inl i :: .inr (.inr (some n)) :: st) h := by
  subst hi
  subst hv
  refine G.aald hn hd hτ ho (vp_in_nI hj hl) ?_
  rw [nI_clamp (by omega)]
  exact kk
theorem G.iastN {sh : Nm → Option Shp} {I : Nm → Nat → Int32} {J : Nm → Nat → Int64} {rf : Nm → Nat → Option Nm} {n : Nm} {len j : Nat} {i x : Int32} (hn : sh n = some (.inr (0, len))) (hd : decode Y.2.1 pc = .ok (.iastore, 1)) (hi : i = nI j) (hj : j < len) (kk : G Γ l Y d mc ms Q k0 n0 (pc + 1) ls st (sh, upI I n j x, J, rf)) (ht : n.1 < 100 := by exact Nat.le_of_ble_eq_true rfl) (hl : len < 2 ^ 31 := by decide) : G Γ l Y d mc ms Q k0 n0 pc ls (.inl x :: .inl i :: .inr (.inr (some n)) :: st) (sh, I, J, rf) := by
  subst hi
  refine G.iast hn hd ht (vp_in_nI hj hl) ?_
  rw [nI_clamp (by omega)]
  exact kk
end RN
