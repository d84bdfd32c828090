theorem ofN_int {n : Nat} (h : n < 2 ^ 31) : (Int32.ofNat n).toInt = n := Int32.toInt_ofNat_of_lt h
theorem ofN_ix {n : Nat} (h : n < 2 ^ 31) : ix (Int32.ofNat n) = n := by
  show (Int32.ofNat n).toInt.toNat = n
  rw [ofN_int h]; rfl
theorem ofN_lt {a b : Nat} (ha : a < 2 ^ 31) (hb : b < 2 ^ 31) : Int32.ofNat a < Int32.ofNat b ↔ a < b := by
  rw [Int32.lt_iff_toInt_lt, ofN_int ha, ofN_int hb]; omega
theorem ofN_le {a b : Nat} (ha : a < 2 ^ 31) (hb : b < 2 ^ 31) : Int32.ofNat a ≤ Int32.ofNat b ↔ a ≤ b := by
  rw [Int32.le_iff_toInt_le, ofN_int ha, ofN_int hb]; omega
theorem ofN_eq {a b : Nat} (ha : a < 2 ^ 31) (hb : b < 2 ^ 31) : Int32.ofNat a = Int32.ofNat b ↔ a = b := by
  constructor
  · intro h
    have := congrArg Int32.toInt h
    rw [ofN_int ha, ofN_int hb] at this; omega
  · intro h; rw [h]
theorem ofN_inb {k n : Nat} (hk : k < 2 ^ 31) : inb (Int32.ofNat k) n ↔ k < n := by
  have h1 : ¬ Int32.ofNat k < 0 := by
    have := ofN_lt hk (b := 0) (by decide)
    intro h; exact absurd (this.mp h) (by omega)
  show ¬ (_ ∨ n ≤ ix (Int32.ofNat k)) ↔ _
  rw [ofN_ix hk]
  constructor
  · intro h; omega
  · intro h h2; cases h2 with
    | inl h2 => exact h1 h2
    | inr h2 => omega
theorem ofN_succ (n : Nat) : Int32.ofNat n + 1 = Int32.ofNat (n + 1) := (Int32.ofNat_add n 1).symm
theorem ofN_pred {n : Nat} (h : 1 ≤ n) : Int32.ofNat n - 1 = Int32.ofNat (n - 1) := by
  obtain ⟨m, rfl⟩ : ∃ m, n = m + 1 := ⟨n - 1, by omega⟩
  rw [← ofN_succ, Int32.add_sub_cancel]; rfl
/-- an int that is an index -/
theorem inb_nat {i : Int32} {n : Nat} (h : inb i n) : ∃ k, k < n ∧ i = Int32.ofNat k ∧ k < 2 ^ 31 := by
  have h1 : ¬ i < 0 := fun q => h (Or.inl q)
  have h2 : ¬ n ≤ i.toNatClampNeg := fun q => h (Or.inr q)
  refine ⟨i.toNatClampNeg, by omega, ?_, ?_⟩
  · apply Int32.toInt_inj.mp
    have h3 : 0 ≤ i.toInt := by
      rw [Int32.lt_iff_toInt_lt] at h1
      have : (0 : Int32).toInt = 0 := rfl
      omega
    have h4 := i.toInt_lt
    rw [ofN_int (by show i.toInt.toNat < _; omega)]
    show _ = ((i.toInt.toNat : Nat) : Int)
    omega
  · show i.toInt.toNat < _
    have h4 := i.toInt_lt
    omega
/-! LEVEL V: the abstract heap whose rows of ints (class Row) are lists -/
abbrev HS0 : Type := HS
abbrev V.Core : Type := (Nat → Nat → Int32) × (Nat → Nat → Int64) × (Nat → Nat → Nat) × (Nat → List Int32)
abbrev V.Core.I (c : Core) : Nat → Nat → Int32 := c.1
abbrev V.Core.J (c : Core) : Nat → Nat → Int64 := c.2.1
abbrev V.Core.R (c : Core) : Nat → Nat → Nat := c.2.2.1
abbrev V.Core.W (c : Core) : Nat → List Int32 := c.2.2.2
/-- kinds, lengths; of a row its capacity, its cell of ints, what lies behind its end there; of such a cell its row; cells, slots; of these without the rows' growth: cells, slots; rows -/
abbrev V.Mem : Type := (Nat → Nat) × (Nat → Nat) × (Nat → Nat) × (Nat → Nat) × (Nat → Nat → Int32) × (Nat → Nat) × Nat × Nat × Nat × Nat × Nat
abbrev V.Mem.T (m : Mem) : Nat → Nat := m.1
abbrev V.Mem.N (m : Mem) : Nat → Nat := m.2.1
abbrev V.Mem.C (m : Mem) : Nat → Nat := m.2.2.1
abbrev V.Mem.H (m : Mem) : Nat → Nat := m.2.2.2.1
abbrev V.Mem.G (m : Mem) : Nat → Nat → Int32 := m.2.2.2.2.1
abbrev V.Mem.O (m : Mem) : Nat → Nat := m.2.2.2.2.2.1
abbrev V.Mem.cnt (m : Mem) : Nat := m.2.2.2.2.2.2.1
abbrev V.Mem.slt (m : Mem) : Nat := m.2.2.2.2.2.2.2.1
abbrev V.Mem.fc (m : Mem) : Nat := m.2.2.2.2.2.2.2.2.1
abbrev V.Mem.fx (m : Mem) : Nat := m.2.2.2.2.2.2.2.2.2.1
abbrev V.Mem.rows (m : Mem) : Nat := m.2.2.2.2.2.2.2.2.2.2
abbrev V.HS : Type := Core × Mem
abbrev V.HS.c (v : HS) : Core := v.1
abbrev V.HS.m (v : HS) : Mem := v.2
def V.tg (v : HS) (x : Nat) : Nat := v.m.T x
def V.ln (v : HS) (x : Nat) : Nat := v.m.N x
def V.gI (v : HS) (x k : Nat) : Int32 := v.c.I x k
def V.gJ (v : HS) (x k : Nat) : Int64 := v.c.J x k
def V.gR (v : HS) (x k : Nat) : Nat := v.c.R x k
def V.gW (v : HS) (x : Nat) : List Int32 := v.c.W x
def V.cnt (v : HS) : Nat := v.m.cnt
def V.slt (v : HS) : Nat := v.m.slt
def V.sI (v : HS) (x k : Nat) (a : Int32) : HS := ((up2 v.c.I x k a, v.c.J, v.c.R, v.c.W), v.m)
def V.sJ (v : HS) (x k : Nat) (a : Int64) : HS := ((v.c.I, up2 v.c.J x k a, v.c.R, v.c.W), v.m)
def V.sR (v : HS) (x k : Nat) (a : Nat) : HS := ((v.c.I, v.c.J, up2 v.c.R x k a, v.c.W), v.m)
/-- the row's values are others -/
def V.setW (v : HS) (r : Nat) (l : List Int32) : HS := ((v.c.I, v.c.J, v.c.R, up1 v.c.W r l), v.m)
def V.nwM (m : Mem) (t n s : Nat) : Mem := (up1 m.T (m.cnt + 1) t, up1 m.N (m.cnt + 1) n, m.C, m.H, m.G, m.O, m.cnt + 1, m.slt + s, m.fc + 1, m.fx + s, m.rows)
def V.nw (v : HS) (t n s : Nat) : HS := (v.c, nwM v.m t n s)
def V.rowC (v : HS) (r k : Nat) : Int32 := if k < (v.c.W r).length then (v.c.W r).getD k 0 else v.m.G r k
def V.exT (T O : Nat → Nat) (x : Nat) : Nat := if T x = 0 then (if O x = 0 then 0 else 100) else T x
def V.exN (N C O : Nat → Nat) (x : Nat) : Nat := if O x = 0 then N x else C (O x)
def V.exI (T O : Nat → Nat) (W : Nat → List Int32) (G : Nat → Nat → Int32) (I : Nat → Nat → Int32) (x k : Nat) : Int32 := if T x = 4 then (if k = 1 then Int32.ofNat (W x).length else 0) else if O x = 0 then I x k else if k < (W (O x)).length then (W (O x)).getD k 0 else G (O x) k
def V.exR (T H : Nat → Nat) (R : Nat → Nat → Nat) (x k : Nat) : Nat := if T x = 4 then (if k = 0 then H x else 0) else R x k
/-- what it stands for -/
def V.ex (v : HS) : HS0 := (exT v.m.T v.m.O, exN v.m.N v.m.C v.m.O, exI v.m.T v.m.O v.c.W v.m.G v.c.I, v.c.J, exR v.m.T v.m.H v.c.R, v.m.cnt, v.m.slt)
/-- what the rows can still grow -/
def V.pot (m : Mem) (x : Nat) : Nat := if m.T x = 4 then 4096 - m.C x else 0
def V.sumTo (f : Nat → Nat) : Nat → Nat
  | 0 => 0
  | n + 1 => sumTo f n + f n
theorem V.sumTo_congr {f g : Nat → Nat} : ∀ {n : Nat}, (∀ x, x < n → f x = g x) → sumTo f n = sumTo g n
  | 0, _ => rfl
  | n + 1, h => by rw [sumTo, sumTo, sumTo_congr (fun x hx => h x (Nat.lt_succ_of_lt hx)), h n (Nat.lt_succ_self n)]
theorem V.sumTo_at {f g : Nat → Nat} {r : Nat} : ∀ {n : Nat}, r < n → (∀ x, x ≠ r → f x = g x) → sumTo f n + g r = sumTo g n + f r
  | n + 1, hr, h => by
    by_cases e : r = n
    · subst e
      rw [sumTo, sumTo, sumTo_congr (f := f) (g := g) (fun x hx => h x (by omega))]; omega
    · have := sumTo_at (n := n) (by omega) h
      rw [sumTo, sumTo, h n (fun q => e q.symm)]; omega
def V.potS (m : Mem) : Nat := sumTo (pot m) (m.cnt + 1)
abbrev V.WF (v : HS) : Prop := (∀ x, v.m.T x ≠ 0 → 1 ≤ x ∧ x ≤ v.m.cnt) ∧ (∀ r, v.m.T r = 4 → v.m.O (v.m.H r) = r ∧ (v.c.W r).length ≤ v.m.C r ∧ ∃ j, j ≤ 9 ∧ v.m.C r = 8 * 2 ^ j) ∧ (∀ x, v.m.O x ≠ 0 → v.m.T (v.m.O x) = 4 ∧ v.m.H (v.m.O x) = x ∧ v.m.T x = 0 ∧ x ≤ v.m.cnt) ∧
  (∀ x, v.m.cnt < x → (∀ k, v.c.I x k = 0) ∧ (∀ k, v.c.J x k = 0) ∧ (∀ k, v.c.R x k = 0) ∧ v.c.W x = [] ∧ ∀ k, v.m.G x k = 0) ∧ v.m.slt + 2 * potS v.m ≤ v.m.fx + 8176 * v.m.rows ∧ 8 * v.m.cnt + potS v.m ≤ 8 * v.m.fc + 4088 * v.m.rows
theorem V.WF.in_ {v : HS} (w : WF v) : ∀ x, v.m.T x ≠ 0 → 1 ≤ x ∧ x ≤ v.m.cnt := w.1
theorem V.WF.row {v : HS} (w : WF v) : ∀ r, v.m.T r = 4 → v.m.O (v.m.H r) = r ∧ (v.c.W r).length ≤ v.m.C r ∧ ∃ j, j ≤ 9 ∧ v.m.C r = 8 * 2 ^ j := w.2.1
theorem V.WF.own {v : HS} (w : WF v) : ∀ x, v.m.O x ≠ 0 → v.m.T (v.m.O x) = 4 ∧ v.m.H (v.m.O x) = x ∧ v.m.T x = 0 ∧ x ≤ v.m.cnt := w.2.2.1
theorem V.WF.zero {v : HS} (w : WF v) : ∀ x, v.m.cnt < x → (∀ k, v.c.I x k = 0) ∧ (∀ k, v.c.J x k = 0) ∧ (∀ k, v.c.R x k = 0) ∧ v.c.W x = [] ∧ ∀ k, v.m.G x k = 0 := w.2.2.2.1
theorem V.WF.bal1 {v : HS} (w : WF v) : v.m.slt + 2 * potS v.m ≤ v.m.fx + 8176 * v.m.rows := w.2.2.2.2.1
theorem V.WF.bal2 {v : HS} (w : WF v) : 8 * v.m.cnt + potS v.m ≤ 8 * v.m.fc + 4088 * v.m.rows := w.2.2.2.2.2
theorem V.WF.vis {v : HS} (w : WF v) {x : Nat} (h : v.m.T x ≠ 0) : v.m.O x = 0 := by
  by_cases h0 : v.m.O x = 0
  · exact h0
  · exact absurd (w.own x h0).2.2.1 h
theorem V.WF.out {v : HS} (w : WF v) {x : Nat} (h : v.m.cnt < x) : v.m.T x = 0 ∧ v.m.O x = 0 := by
  refine ⟨?_, ?_⟩
  · by_cases h0 : v.m.T x = 0
    · exact h0
    · exact absurd (w.in_ x h0).2 (by omega)
  · by_cases h0 : v.m.O x = 0
    · exact h0
    · exact absurd (w.own x h0).2.2.2 (by omega)
theorem V.ex_tg {v : HS} {x : Nat} (h : tg v x ≠ 0) : Jvm.Pilot.CModuleEngineLaw_law_r1006_a0bf7e.tg (ex v) x = tg v x := if_neg h
theorem V.ex_gI {v : HS} (w : WF v) {x : Nat} (h : tg v x ≠ 0) (h4 : tg v x ≠ 4) (k : Nat) : Jvm.Pilot.CModuleEngineLaw_law_r1006_a0bf7e.gI (ex v) x k = gI v x k := by
  show (if v.m.T x = 4 then _ else if v.m.O x = 0 then v.c.I x k else _) = v.c.I x k
  have h4' : v.m.T x ≠ 4 := h4
  rw [if_neg h4', if_pos (w.vis h)]
theorem V.ex_gJ {v : HS} {x k : Nat} : Jvm.Pilot.CModuleEngineLaw_law_r1006_a0bf7e.gJ (ex v) x k = gJ v x k := rfl
theorem V.ex_gR {v : HS} {x : Nat} (h4 : tg v x ≠ 4) (k : Nat) : Jvm.Pilot.CModuleEngineLaw_law_r1006_a0bf7e.gR (ex v) x k = gR v x k := if_neg h4
theorem V.ex_ln {v : HS} (w : WF v) {x : Nat} (h : tg v x ≠ 0) : Jvm.Pilot.CModuleEngineLaw_law_r1006_a0bf7e.ln (ex v) x = ln v x := if_pos (w.vis h)
theorem V.up2_eq {α : Type} (f : Nat → Nat → α) (x k : Nat) (a : α) (y j : Nat) : up2 f x k a y j = if y = x ∧ j = k then a else f y j := rfl
theorem V.exI_up {T O : Nat → Nat} {W : Nat → List Int32} {G I : Nat → Nat → Int32} {x : Nat} (h4 : T x ≠ 4) (h0 : O x = 0) (k : Nat) (a : Int32) : exI T O W G (up2 I x k a) = up2 (exI T O W G I) x k a := by
  funext y j
  simp only [exI, up2_eq]
  by_cases hy : y = x
  · subst hy
    simp only [h4, h0, if_false, if_true]
  · simp only [hy, false_and, if_false]
theorem V.exR_up {T H : Nat → Nat} {R : Nat → Nat → Nat} {x : Nat} (h4 : T x ≠ 4) (k a : Nat) : exR T H (up2 R x k a) = up2 (exR T H R) x k a := by
  funext y j
  simp only [exR, up2_eq]
  by_cases hy : y = x
  · subst hy
    simp only [h4, if_false]
  · simp only [hy, false_and, if_false]
theorem V.ex_sI {v : HS} (w : WF v) {x : Nat} (h : tg v x ≠ 0) (h4 : tg v x ≠ 4) (k : Nat) (a : Int32) : ex (sI v x k a) = Jvm.Pilot.CModuleEngineLaw_law_r1006_a0bf7e.sI (ex v) x k a := by
  have h0 := w.vis h
  show (_, _, exI v.m.T v.m.O v.c.W v.m.G (up2 v.c.I x k a), _) = (_, _, up2 (exI v.m.T v.m.O v.c.W v.m.G v.c.I) x k a, _)
  rw [exI_up (T := v.m.T) h4 h0]; rfl
theorem V.ex_sJ {v : HS} (x k : Nat) (a : Int64) : ex (sJ v x k a) = Jvm.Pilot.CModuleEngineLaw_law_r1006_a0bf7e.sJ (ex v) x k a := rfl
theorem V.ex_sR {v : HS} {x : Nat} (h4 : tg v x ≠ 4) (k a : Nat) : ex (sR v x k a) = Jvm.Pilot.CModuleEngineLaw_law_r1006_a0bf7e.sR (ex v) x k a := by
  show (_, _, _, _, exR v.m.T v.m.H (up2 v.c.R x k a), _) = (_, _, _, _, up2 (exR v.m.T v.m.H v.c.R) x k a, _)
  rw [exR_up (T := v.m.T) h4]; rfl
theorem V.ex_nw {v : HS} (w : WF v) {t n s : Nat} (ht : t ≠ 0) (ht4 : t ≠ 4) : ex (nw v t n s) = Jvm.Pilot.CModuleEngineLaw_law_r1006_a0bf7e.nw (ex v) t n s := by
  obtain ⟨z1, z2⟩ := w.out (x := v.m.cnt + 1) (by omega)
  obtain ⟨y1, y2, y3, y4, y5⟩ := w.zero (v.m.cnt + 1) (by omega)
  show (exT (up1 v.m.T (v.m.cnt + 1) t) v.m.O, exN (up1 v.m.N (v.m.cnt + 1) n) v.m.C v.m.O, exI (up1 v.m.T (v.m.cnt + 1) t) v.m.O v.c.W v.m.G v.c.I, v.c.J, exR (up1 v.m.T (v.m.cnt + 1) t) v.m.H v.c.R, v.m.cnt + 1, v.m.slt + s) = (up1 (exT v.m.T v.m.O) (v.m.cnt + 1) t, up1 (exN v.m.N v.m.C v.m.O) (v.m.cnt + 1) n, up1 (exI v.m.T v.m.O v.c.W v.m.G v.c.I) (v.m.cnt + 1) (fun _ => 0), up1 v.c.J (v.m.cnt + 1) (fun _ => 0), up1 (exR v.m.T v.m.H v.c.R) (v.m.cnt + 1) (fun _ => 0), v.m.cnt + 1, v.m.slt + s)
  refine Prod.ext ?_ (Prod.ext ?_ (Prod.ext ?_ (Prod.ext ?_ (Prod.ext ?_ rfl))))
  · funext y
    show exT (up1 v.m.T (v.m.cnt + 1) t) v.m.O y = up1 (exT v.m.T v.m.O) (v.m.cnt + 1) t y
    by_cases hy : y = v.m.cnt + 1
    · subst hy; rw [exT, nw_at, nw_at, if_neg ht]
    · rw [exT, nw_ne hy, nw_ne hy]; rfl
  · funext y
    show exN (up1 v.m.N (v.m.cnt + 1) n) v.m.C v.m.O y = up1 (exN v.m.N v.m.C v.m.O) (v.m.cnt + 1) n y
    by_cases hy : y = v.m.cnt + 1
    · subst hy; rw [exN, nw_at, nw_at, if_pos z2]
    · rw [exN, nw_ne hy, nw_ne hy]; rfl
  · funext y j
    show exI (up1 v.m.T (v.m.cnt + 1) t) v.m.O v.c.W v.m.G v.c.I y j = up1 (exI v.m.T v.m.O v.c.W v.m.G v.c.I) (v.m.cnt + 1) (fun _ => 0) y j
    by_cases hy : y = v.m.cnt + 1
    · subst hy; rw [exI, nw_at, nw_at, if_neg ht4, if_pos z2]; exact y1 j
    · rw [exI, nw_ne hy, nw_ne hy]; rfl
  · funext y j
    show v.c.J y j = up1 v.c.J (v.m.cnt + 1) (fun _ => 0) y j
    by_cases hy : y = v.m.cnt + 1
    · subst hy; rw [nw_at]; exact y2 j
    · rw [nw_ne hy]
  · funext y j
    show exR (up1 v.m.T (v.m.cnt + 1) t) v.m.H v.c.R y j = up1 (exR v.m.T v.m.H v.c.R) (v.m.cnt + 1) (fun _ => 0) y j
    by_cases hy : y = v.m.cnt + 1
    · subst hy; rw [exR, nw_at, nw_at, if_neg ht4]; exact y3 j
    · rw [exR, nw_ne hy, nw_ne hy]; rfl
theorem V.WF.sI {v : HS} (w : WF v) {x : Nat} (h : tg v x ≠ 0) (k : Nat) (a : Int32) : WF (sI v x k a) := by
  refine ⟨w.in_, w.row, w.own, fun y hy => ?_, w.bal1, w.bal2⟩
  obtain ⟨z1, z2⟩ := w.zero y hy
  refine ⟨fun j => ?_, z2⟩
  have hne : y ≠ x := fun e => by subst e; exact h (w.out hy).1
  show up2 v.c.I x k a y j = 0
  rw [up2_eq, if_neg (fun q => hne q.1)]; exact z1 j
theorem V.WF.sJ {v : HS} (w : WF v) {x : Nat} (h : tg v x ≠ 0) (k : Nat) (a : Int64) : WF (sJ v x k a) := by
  refine ⟨w.in_, w.row, w.own, fun y hy => ?_, w.bal1, w.bal2⟩
  obtain ⟨z1, z2, z3⟩ := w.zero y hy
  refine ⟨z1, fun j => ?_, z3⟩
  have hne : y ≠ x := fun e => by subst e; exact h (w.out hy).1
  show up2 v.c.J x k a y j = 0
  rw [up2_eq, if_neg (fun q => hne q.1)]; exact z2 j
theorem V.WF.sR {v : HS} (w : WF v) {x : Nat} (h : tg v x ≠ 0) (k a : Nat) : WF (sR v x k a) := by
  refine ⟨w.in_, w.row, w.own, fun y hy => ?_, w.bal1, w.bal2⟩
  obtain ⟨z1, z2, z3, z4⟩ := w.zero y hy
  refine ⟨z1, z2, fun j => ?_, z4⟩
  have hne : y ≠ x := fun e => by subst e; exact h (w.out hy).1
  show up2 v.c.R x k a y j = 0
  rw [up2_eq, if_neg (fun q => hne q.1)]; exact z3 j
theorem V.WF.nw {v : HS} (w : WF v) {t n s : Nat} (ht4 : t ≠ 4) : WF (nw v t n s) := by
  have z0 := w.out (x := v.m.cnt + 1) (by omega)
  have hp : potS (V.nw v t n s).m = potS v.m := by
    show sumTo _ (v.m.cnt + 1 + 1) = sumTo _ (v.m.cnt + 1)
    rw [sumTo]
    have e1 : pot (V.nw v t n s).m (v.m.cnt + 1) = 0 := by
      show (if up1 v.m.T (v.m.cnt + 1) t (v.m.cnt + 1) = 4 then _ else 0) = 0
      rw [nw_at, if_neg ht4]
    rw [e1, Nat.add_zero]
    refine sumTo_congr (fun x hx => ?_)
    show (if up1 v.m.T (v.m.cnt + 1) t x = 4 then 4096 - v.m.C x else 0) = _
    rw [nw_ne (by omega)]; rfl
  refine ⟨fun x hx => ?_, fun r hr => ?_, fun x hx => ?_, fun x hx => w.zero x (Nat.lt_of_succ_lt hx), ?_, ?_⟩
  · by_cases e : x = v.m.cnt + 1
    · subst e; exact ⟨by omega, Nat.le_refl _⟩
    · have h1 : v.m.T x ≠ 0 := by
        intro h0; apply hx; show up1 v.m.T (v.m.cnt + 1) t x = 0; rw [nw_ne e]; exact h0
      obtain ⟨a1, a2⟩ := w.in_ x h1
      exact ⟨a1, Nat.le_succ_of_le a2⟩
  · have hr : up1 v.m.T (v.m.cnt + 1) t r = 4 := hr
    by_cases e : r = v.m.cnt + 1
    · subst e; rw [nw_at] at hr; exact absurd hr ht4
    · rw [nw_ne e] at hr; exact w.row r hr
  · obtain ⟨a1, a2, a3, a4⟩ := w.own x hx
    have e1 : x ≠ v.m.cnt + 1 := by omega
    have e2 : v.m.O x ≠ v.m.cnt + 1 := fun e => by rw [e, z0.1] at a1; cases a1
    refine ⟨by show up1 v.m.T (v.m.cnt + 1) t (v.m.O x) = 4; rw [nw_ne e2]; exact a1, a2, by show up1 v.m.T (v.m.cnt + 1) t x = 0; rw [nw_ne e1]; exact a3, Nat.le_succ_of_le a4⟩
  · rw [hp]; have := w.bal1; show v.m.slt + s + _ ≤ v.m.fx + s + 8176 * v.m.rows; omega
  · rw [hp]; have := w.bal2; show 8 * (v.m.cnt + 1) + _ ≤ 8 * (v.m.fc + 1) + 4088 * v.m.rows; omega
def V.exo {τ : Type} (o : Option (τ × HS)) : Option (τ × HS0) := match o with
  | none => none
  | some (r, v) => some (r, ex v)
/-- the judgement of a walk, at level V -/
def V.G (X : CX) (own nm : String) (cc : ByteArray) (nL : Nat) (ret : Option FieldType) (F L : Nat) {τ : Type} (en : τ → Outcome) (pc : Nat) (lv : List (Nat × AV)) (st : List AV) (v : HS) (o : Option (τ × HS)) : Prop :=
  WF v → (∀ r v', o = some (r, v') → WF v') ∧ Jvm.Pilot.CModuleEngineLaw_law_r1006_a0bf7e.G X own nm cc nL ret F L en pc lv st (ex v) (exo o)
section Lift
variable {X : CX} {own nm : String} {cc : ByteArray} {nL : Nat} {ret : Option FieldType} {F L : Nat} {τ : Type} {en : τ → Outcome} {pc pc' pc1 pc2 : Nat} {lv lv' : List (Nat × AV)} {st st' : List AV} {σ : V.HS} {o o1 o2 : Option (τ × V.HS)}
theorem V.lift (h : ∀ (σ : HS0) (o : Option (τ × HS0)), Jvm.Pilot.CModuleEngineLaw_law_r1006_a0bf7e.G X own nm cc nL ret F L en pc' lv' st' σ o → Jvm.Pilot.CModuleEngineLaw_law_r1006_a0bf7e.G X own nm cc nL ret F L en pc lv st σ o) (k : G X own nm cc nL ret F L en pc' lv' st' σ o) : G X own nm cc nL ret F L en pc lv st σ o :=
  fun wf => ⟨(k wf).1, h _ _ (k wf).2⟩
theorem V.G.nul : G X own nm cc nL ret F L en pc lv st σ none := fun _ => ⟨(fun _ _ h => by cases h), Jvm.Pilot.CModuleEngineLaw_law_r1006_a0bf7e.G.nul⟩
theorem V.exo_if {c : Prop} [Decidable c] : exo (if c then o1 else o2) = if c then exo o1 else exo o2 := by split <;> rfl
theorem V.G.chk {c : Prop} [Decidable c] (k : c → G X own nm cc nL ret F L en pc lv st σ o) : G X own nm cc nL ret F L en pc lv st σ (if c then o else none) := by
  by_cases hc : c
  · rw [if_pos hc]; exact k hc
  · rw [if_neg hc]; exact G.nul
theorem V.liftC {c : Prop} [Decidable c] (h : ∀ (σ : HS0) (o : Option (τ × HS0)), Jvm.Pilot.CModuleEngineLaw_law_r1006_a0bf7e.G X own nm cc nL ret F L en pc' lv' st' σ o → Jvm.Pilot.CModuleEngineLaw_law_r1006_a0bf7e.G X own nm cc nL ret F L en pc lv st σ (if c then o else none)) (k : G X own nm cc nL ret F L en pc' lv' st' σ o) : G X own nm cc nL ret F L en pc lv st σ (if c then o else none) :=
  G.chk fun hc wf => ⟨(k wf).1, by have := h _ _ (k wf).2; rw [if_pos hc] at this; exact this⟩
theorem V.lift2 {c : Prop} [Decidable c] (h : ∀ (σ : HS0) (o1 o2 : Option (τ × HS0)), Jvm.Pilot.CModuleEngineLaw_law_r1006_a0bf7e.G X own nm cc nL ret F L en pc1 lv st' σ o1 → Jvm.Pilot.CModuleEngineLaw_law_r1006_a0bf7e.G X own nm cc nL ret F L en pc2 lv st' σ o2 → Jvm.Pilot.CModuleEngineLaw_law_r1006_a0bf7e.G X own nm cc nL ret F L en pc lv st σ (if c then o1 else o2))
    (k1 : G X own nm cc nL ret F L en pc1 lv st' σ o1) (k2 : G X own nm cc nL ret F L en pc2 lv st' σ o2) : G X own nm cc nL ret F L en pc lv st σ (if c then o1 else o2) :=
  fun wf => ⟨fun r v' e => by
    by_cases hc : c
    · rw [if_pos hc] at e; exact (k1 wf).1 r v' e
    · rw [if_neg hc] at e; exact (k2 wf).1 r v' e, by rw [exo_if]; exact h _ _ _ (k1 wf).2 (k2 wf).2⟩
theorem V.lift2' {c : Prop} [Decidable c] (h : ∀ (σ : HS0) (o1 o2 : Option (τ × HS0)), Jvm.Pilot.CModuleEngineLaw_law_r1006_a0bf7e.G X own nm cc nL ret F L en pc1 lv st' σ o1 → Jvm.Pilot.CModuleEngineLaw_law_r1006_a0bf7e.G X own nm cc nL ret F L en pc2 lv st' σ o2 → Jvm.Pilot.CModuleEngineLaw_law_r1006_a0bf7e.G X own nm cc nL ret F L en pc lv st σ (if c then o2 else o1))
    (k1 : G X own nm cc nL ret F L en pc1 lv st' σ o1) (k2 : G X own nm cc nL ret F L en pc2 lv st' σ o2) : G X own nm cc nL ret F L en pc lv st σ (if c then o2 else o1) :=
  fun wf => ⟨fun r v' e => by
    by_cases hc : c
    · rw [if_pos hc] at e; exact (k2 wf).1 r v' e
    · rw [if_neg hc] at e; exact (k1 wf).1 r v' e, by rw [exo_if]; exact h _ _ _ (k1 wf).2 (k2 wf).2⟩
theorem V.G.sub (ks : List Nat) (hl : ks.filterMap (fun k => lv[k]?) = lv') (k : G X own nm cc nL ret F L en pc lv' st σ o) : G X own nm cc nL ret F L en pc lv st σ o := lift (fun σ o k => Jvm.Pilot.CModuleEngineLaw_law_r1006_a0bf7e.G.sub ks hl k) k
end Lift

section VOps
variable {X : CX} {own nm : String} {cc : ByteArray} {nL : Nat} {ret : Option FieldType} {F L : Nat} {τ : Type} {en : τ → Outcome} {pc : Nat} {lv lv' : List (Nat × AV)} {st : List AV} {σ : V.HS} {o o1 o2 : Option (τ × V.HS)}
theorem V.g_iconst {n : Int} {v : Int32} (hd : decode cc pc = .ok (.iconst n, 1)) (hv : Int32.ofInt n = v) (k : G X own nm cc nL ret F L en (pc + 1) lv (iv v :: st) σ o) : G X own nm cc nL ret F L en pc lv (st) σ o := lift (fun σ o k => Jvm.Pilot.CModuleEngineLaw_law_r1006_a0bf7e.g_iconst hd hv k) k
theorem V.g_bipush {n : Int} {v : Int32} (hd : decode cc pc = .ok (.bipush n, 2)) (hv : (Int8.ofInt n).toInt32 = v) (k : G X own nm cc nL ret F L en (pc + 2) lv (iv v :: st) σ o) : G X own nm cc nL ret F L en pc lv (st) σ o := lift (fun σ o k => Jvm.Pilot.CModuleEngineLaw_law_r1006_a0bf7e.g_bipush hd hv k) k
theorem V.g_sipush {n : Int} {v : Int32} (hd : decode cc pc = .ok (.sipush n, 3)) (hv : (Int16.ofInt n).toInt32 = v) (k : G X own nm cc nL ret F L en (pc + 3) lv (iv v :: st) σ o) : G X own nm cc nL ret F L en pc lv (st) σ o := lift (fun σ o k => Jvm.Pilot.CModuleEngineLaw_law_r1006_a0bf7e.g_sipush hd hv k) k
theorem V.g_lconst {n : Fin 2} {v : Int64} (hd : decode cc pc = .ok (.lconst n, 1)) (hv : Int64.ofNat (n : Nat) = v) (k : G X own nm cc nL ret F L en (pc + 1) lv (jv v :: st) σ o) : G X own nm cc nL ret F L en pc lv (st) σ o := lift (fun σ o k => Jvm.Pilot.CModuleEngineLaw_law_r1006_a0bf7e.g_lconst hd hv k) k
theorem V.g_null (hd : decode cc pc = .ok (.aconst_null, 1)) (k : G X own nm cc nL ret F L en (pc + 1) lv (av 0 :: st) σ o) : G X own nm cc nL ret F L en pc lv (st) σ o := lift (fun σ o k => Jvm.Pilot.CModuleEngineLaw_law_r1006_a0bf7e.g_null hd k) k
theorem V.g_iload_n {j : Fin 4} {x : Int32} (i q : Nat) (hd : decode cc pc = .ok (.iload_n j, 1)) (hi : (j : Nat) = i) (hq : lv[q]? = some (i, iv x)) (k : G X own nm cc nL ret F L en (pc + 1) lv (iv x :: st) σ o) : G X own nm cc nL ret F L en pc lv st σ o := lift (fun σ o k => Jvm.Pilot.CModuleEngineLaw_law_r1006_a0bf7e.g_iload_n i q hd hi hq k) k
theorem V.g_iload {x : Int32} {i : Nat} (q : Nat) (hd : decode cc pc = .ok (.iload i, 2)) (hq : lv[q]? = some (i, iv x)) (k : G X own nm cc nL ret F L en (pc + 2) lv (iv x :: st) σ o) : G X own nm cc nL ret F L en pc lv st σ o := lift (fun σ o k => Jvm.Pilot.CModuleEngineLaw_law_r1006_a0bf7e.g_iload q hd hq k) k
theorem V.g_lload_n {j : Fin 4} {x : Int64} (i q : Nat) (hd : decode cc pc = .ok (.lload_n j, 1)) (hi : (j : Nat) = i) (hq : lv[q]? = some (i, jv x)) (k : G X own nm cc nL ret F L en (pc + 1) lv (jv x :: st) σ o) : G X own nm cc nL ret F L en pc lv st σ o := lift (fun σ o k => Jvm.Pilot.CModuleEngineLaw_law_r1006_a0bf7e.g_lload_n i q hd hi hq k) k
theorem V.g_lload {x : Int64} {i : Nat} (q : Nat) (hd : decode cc pc = .ok (.lload i, 2)) (hq : lv[q]? = some (i, jv x)) (k : G X own nm cc nL ret F L en (pc + 2) lv (jv x :: st) σ o) : G X own nm cc nL ret F L en pc lv st σ o := lift (fun σ o k => Jvm.Pilot.CModuleEngineLaw_law_r1006_a0bf7e.g_lload q hd hq k) k
theorem V.g_aload_n {j : Fin 4} {x : Nat} (i q : Nat) (hd : decode cc pc = .ok (.aload_n j, 1)) (hi : (j : Nat) = i) (hq : lv[q]? = some (i, av x)) (k : G X own nm cc nL ret F L en (pc + 1) lv (av x :: st) σ o) : G X own nm cc nL ret F L en pc lv st σ o := lift (fun σ o k => Jvm.Pilot.CModuleEngineLaw_law_r1006_a0bf7e.g_aload_n i q hd hi hq k) k
theorem V.g_aload {x : Nat} {i : Nat} (q : Nat) (hd : decode cc pc = .ok (.aload i, 2)) (hq : lv[q]? = some (i, av x)) (k : G X own nm cc nL ret F L en (pc + 2) lv (av x :: st) σ o) : G X own nm cc nL ret F L en pc lv st σ o := lift (fun σ o k => Jvm.Pilot.CModuleEngineLaw_law_r1006_a0bf7e.g_aload q hd hq k) k
theorem V.g_istore_n {j : Fin 4} {x : Int32} (i : Nat) (hd : decode cc pc = .ok (.istore_n j, 1)) (hi : (j : Nat) = i) (hn : i < nL) (hl' : st1 i (iv x) lv = lv') (k : G X own nm cc nL ret F L en (pc + 1) lv' st σ o) : G X own nm cc nL ret F L en pc lv (iv x :: st) σ o := lift (fun σ o k => Jvm.Pilot.CModuleEngineLaw_law_r1006_a0bf7e.g_istore_n i hd hi hn hl' k) k
theorem V.g_istore {i : Nat} {x : Int32} (hd : decode cc pc = .ok (.istore i, 2)) (hn : i < nL) (hl' : st1 i (iv x) lv = lv') (k : G X own nm cc nL ret F L en (pc + 2) lv' st σ o) : G X own nm cc nL ret F L en pc lv (iv x :: st) σ o := lift (fun σ o k => Jvm.Pilot.CModuleEngineLaw_law_r1006_a0bf7e.g_istore hd hn hl' k) k
theorem V.g_lstore_n {j : Fin 4} {x : Int64} (i : Nat) (hd : decode cc pc = .ok (.lstore_n j, 1)) (hi : (j : Nat) = i) (hn : i + 1 < nL) (hl' : st2 i (jv x) lv = lv') (k : G X own nm cc nL ret F L en (pc + 1) lv' st σ o) : G X own nm cc nL ret F L en pc lv (jv x :: st) σ o := lift (fun σ o k => Jvm.Pilot.CModuleEngineLaw_law_r1006_a0bf7e.g_lstore_n i hd hi hn hl' k) k
theorem V.g_lstore {i : Nat} {x : Int64} (hd : decode cc pc = .ok (.lstore i, 2)) (hn : i + 1 < nL) (hl' : st2 i (jv x) lv = lv') (k : G X own nm cc nL ret F L en (pc + 2) lv' st σ o) : G X own nm cc nL ret F L en pc lv (jv x :: st) σ o := lift (fun σ o k => Jvm.Pilot.CModuleEngineLaw_law_r1006_a0bf7e.g_lstore hd hn hl' k) k
theorem V.g_astore_n {j : Fin 4} {x : Nat} (i : Nat) (hd : decode cc pc = .ok (.astore_n j, 1)) (hi : (j : Nat) = i) (hn : i < nL) (hl' : st1 i (av x) lv = lv') (k : G X own nm cc nL ret F L en (pc + 1) lv' st σ o) : G X own nm cc nL ret F L en pc lv (av x :: st) σ o := lift (fun σ o k => Jvm.Pilot.CModuleEngineLaw_law_r1006_a0bf7e.g_astore_n i hd hi hn hl' k) k
theorem V.g_astore {x : Nat} {i : Nat} (hd : decode cc pc = .ok (.astore i, 2)) (hn : i < nL) (hl' : st1 i (av x) lv = lv') (k : G X own nm cc nL ret F L en (pc + 2) lv' st σ o) : G X own nm cc nL ret F L en pc lv (av x :: st) σ o := lift (fun σ o k => Jvm.Pilot.CModuleEngineLaw_law_r1006_a0bf7e.g_astore hd hn hl' k) k
theorem V.g_iinc {i : Nat} {n : Int} {x v : Int32} (q : Nat) (hd : decode cc pc = .ok (.iinc i n, 3)) (hq : lv[q]? = some (i, iv x)) (hv : x + Int32.ofInt n = v) (hn : i < nL) (hl' : st1 i (iv v) lv = lv') (k : G X own nm cc nL ret F L en (pc + 3) lv' st σ o) : G X own nm cc nL ret F L en pc lv st σ o := lift (fun σ o k => Jvm.Pilot.CModuleEngineLaw_law_r1006_a0bf7e.g_iinc q hd hq hv hn hl' k) k
theorem V.g_iadd {x y : Int32} (hd : decode cc pc = .ok (.iadd, 1)) (k : G X own nm cc nL ret F L en (pc + 1) lv (iv (x + y) :: st) σ o) : G X own nm cc nL ret F L en pc lv (iv y :: iv x :: st) σ o := lift (fun σ o k => Jvm.Pilot.CModuleEngineLaw_law_r1006_a0bf7e.g_iadd hd k) k
theorem V.g_isub {x y : Int32} (hd : decode cc pc = .ok (.isub, 1)) (k : G X own nm cc nL ret F L en (pc + 1) lv (iv (x - y) :: st) σ o) : G X own nm cc nL ret F L en pc lv (iv y :: iv x :: st) σ o := lift (fun σ o k => Jvm.Pilot.CModuleEngineLaw_law_r1006_a0bf7e.g_isub hd k) k
theorem V.g_imul {x y : Int32} (hd : decode cc pc = .ok (.imul, 1)) (k : G X own nm cc nL ret F L en (pc + 1) lv (iv (x * y) :: st) σ o) : G X own nm cc nL ret F L en pc lv (iv y :: iv x :: st) σ o := lift (fun σ o k => Jvm.Pilot.CModuleEngineLaw_law_r1006_a0bf7e.g_imul hd k) k
theorem V.g_iand {x y : Int32} (hd : decode cc pc = .ok (.iand, 1)) (k : G X own nm cc nL ret F L en (pc + 1) lv (iv (x &&& y) :: st) σ o) : G X own nm cc nL ret F L en pc lv (iv y :: iv x :: st) σ o := lift (fun σ o k => Jvm.Pilot.CModuleEngineLaw_law_r1006_a0bf7e.g_iand hd k) k
theorem V.g_ior {x y : Int32} (hd : decode cc pc = .ok (.ior, 1)) (k : G X own nm cc nL ret F L en (pc + 1) lv (iv (x ||| y) :: st) σ o) : G X own nm cc nL ret F L en pc lv (iv y :: iv x :: st) σ o := lift (fun σ o k => Jvm.Pilot.CModuleEngineLaw_law_r1006_a0bf7e.g_ior hd k) k
theorem V.g_ixor {x y : Int32} (hd : decode cc pc = .ok (.ixor, 1)) (k : G X own nm cc nL ret F L en (pc + 1) lv (iv (x ^^^ y) :: st) σ o) : G X own nm cc nL ret F L en pc lv (iv y :: iv x :: st) σ o := lift (fun σ o k => Jvm.Pilot.CModuleEngineLaw_law_r1006_a0bf7e.g_ixor hd k) k
theorem V.g_ishl {x y : Int32} (hd : decode cc pc = .ok (.ishl, 1)) (k : G X own nm cc nL ret F L en (pc + 1) lv (iv (x <<< (y &&& 31)) :: st) σ o) : G X own nm cc nL ret F L en pc lv (iv y :: iv x :: st) σ o := lift (fun σ o k => Jvm.Pilot.CModuleEngineLaw_law_r1006_a0bf7e.g_ishl hd k) k
theorem V.g_ishr {x y : Int32} (hd : decode cc pc = .ok (.ishr, 1)) (k : G X own nm cc nL ret F L en (pc + 1) lv (iv (x >>> (y &&& 31)) :: st) σ o) : G X own nm cc nL ret F L en pc lv (iv y :: iv x :: st) σ o := lift (fun σ o k => Jvm.Pilot.CModuleEngineLaw_law_r1006_a0bf7e.g_ishr hd k) k
theorem V.g_ladd {x y : Int64} (hd : decode cc pc = .ok (.ladd, 1)) (k : G X own nm cc nL ret F L en (pc + 1) lv (jv (x + y) :: st) σ o) : G X own nm cc nL ret F L en pc lv (jv y :: jv x :: st) σ o := lift (fun σ o k => Jvm.Pilot.CModuleEngineLaw_law_r1006_a0bf7e.g_ladd hd k) k
theorem V.g_lsub {x y : Int64} (hd : decode cc pc = .ok (.lsub, 1)) (k : G X own nm cc nL ret F L en (pc + 1) lv (jv (x - y) :: st) σ o) : G X own nm cc nL ret F L en pc lv (jv y :: jv x :: st) σ o := lift (fun σ o k => Jvm.Pilot.CModuleEngineLaw_law_r1006_a0bf7e.g_lsub hd k) k
theorem V.g_lmul {x y : Int64} (hd : decode cc pc = .ok (.lmul, 1)) (k : G X own nm cc nL ret F L en (pc + 1) lv (jv (x * y) :: st) σ o) : G X own nm cc nL ret F L en pc lv (jv y :: jv x :: st) σ o := lift (fun σ o k => Jvm.Pilot.CModuleEngineLaw_law_r1006_a0bf7e.g_lmul hd k) k
theorem V.g_land {x y : Int64} (hd : decode cc pc = .ok (.land, 1)) (k : G X own nm cc nL ret F L en (pc + 1) lv (jv (x &&& y) :: st) σ o) : G X own nm cc nL ret F L en pc lv (jv y :: jv x :: st) σ o := lift (fun σ o k => Jvm.Pilot.CModuleEngineLaw_law_r1006_a0bf7e.g_land hd k) k
theorem V.g_lor {x y : Int64} (hd : decode cc pc = .ok (.lor, 1)) (k : G X own nm cc nL ret F L en (pc + 1) lv (jv (x ||| y) :: st) σ o) : G X own nm cc nL ret F L en pc lv (jv y :: jv x :: st) σ o := lift (fun σ o k => Jvm.Pilot.CModuleEngineLaw_law_r1006_a0bf7e.g_lor hd k) k
theorem V.g_lxor {x y : Int64} (hd : decode cc pc = .ok (.lxor, 1)) (k : G X own nm cc nL ret F L en (pc + 1) lv (jv (x ^^^ y) :: st) σ o) : G X own nm cc nL ret F L en pc lv (jv y :: jv x :: st) σ o := lift (fun σ o k => Jvm.Pilot.CModuleEngineLaw_law_r1006_a0bf7e.g_lxor hd k) k
theorem V.g_ineg {x : Int32} (hd : decode cc pc = .ok (.ineg, 1)) (k : G X own nm cc nL ret F L en (pc + 1) lv (iv (-x) :: st) σ o) : G X own nm cc nL ret F L en pc lv (iv x :: st) σ o := lift (fun σ o k => Jvm.Pilot.CModuleEngineLaw_law_r1006_a0bf7e.g_ineg hd k) k
theorem V.g_lneg {x : Int64} (hd : decode cc pc = .ok (.lneg, 1)) (k : G X own nm cc nL ret F L en (pc + 1) lv (jv (-x) :: st) σ o) : G X own nm cc nL ret F L en pc lv (jv x :: st) σ o := lift (fun σ o k => Jvm.Pilot.CModuleEngineLaw_law_r1006_a0bf7e.g_lneg hd k) k
theorem V.g_iushr {x y : Int32} (hd : decode cc pc = .ok (.iushr, 1)) (k : G X own nm cc nL ret F L en (pc + 1) lv (iv (iushr x y) :: st) σ o) : G X own nm cc nL ret F L en pc lv (iv y :: iv x :: st) σ o := lift (fun σ o k => Jvm.Pilot.CModuleEngineLaw_law_r1006_a0bf7e.g_iushr hd k) k
theorem V.g_lushr {x : Int64} {y : Int32} (hd : decode cc pc = .ok (.lushr, 1)) (k : G X own nm cc nL ret F L en (pc + 1) lv (jv (lushr x y) :: st) σ o) : G X own nm cc nL ret F L en pc lv (iv y :: jv x :: st) σ o := lift (fun σ o k => Jvm.Pilot.CModuleEngineLaw_law_r1006_a0bf7e.g_lushr hd k) k
theorem V.g_lshl {x : Int64} {y : Int32} (hd : decode cc pc = .ok (.lshl, 1)) (k : G X own nm cc nL ret F L en (pc + 1) lv (jv (lshl x y) :: st) σ o) : G X own nm cc nL ret F L en pc lv (iv y :: jv x :: st) σ o := lift (fun σ o k => Jvm.Pilot.CModuleEngineLaw_law_r1006_a0bf7e.g_lshl hd k) k
theorem V.g_lshr {x : Int64} {y : Int32} (hd : decode cc pc = .ok (.lshr, 1)) (k : G X own nm cc nL ret F L en (pc + 1) lv (jv (lshr x y) :: st) σ o) : G X own nm cc nL ret F L en pc lv (iv y :: jv x :: st) σ o := lift (fun σ o k => Jvm.Pilot.CModuleEngineLaw_law_r1006_a0bf7e.g_lshr hd k) k
theorem V.g_i2l {x : Int32} (hd : decode cc pc = .ok (.i2l, 1)) (k : G X own nm cc nL ret F L en (pc + 1) lv (jv x.toInt64 :: st) σ o) : G X own nm cc nL ret F L en pc lv (iv x :: st) σ o := lift (fun σ o k => Jvm.Pilot.CModuleEngineLaw_law_r1006_a0bf7e.g_i2l hd k) k
theorem V.g_l2i {x : Int64} (hd : decode cc pc = .ok (.l2i, 1)) (k : G X own nm cc nL ret F L en (pc + 1) lv (iv x.toInt32 :: st) σ o) : G X own nm cc nL ret F L en pc lv (jv x :: st) σ o := lift (fun σ o k => Jvm.Pilot.CModuleEngineLaw_law_r1006_a0bf7e.g_l2i hd k) k
theorem V.g_i2b {x : Int32} (hd : decode cc pc = .ok (.i2b, 1)) (k : G X own nm cc nL ret F L en (pc + 1) lv (iv (i2b x) :: st) σ o) : G X own nm cc nL ret F L en pc lv (iv x :: st) σ o := lift (fun σ o k => Jvm.Pilot.CModuleEngineLaw_law_r1006_a0bf7e.g_i2b hd k) k
theorem V.g_i2s {x : Int32} (hd : decode cc pc = .ok (.i2s, 1)) (k : G X own nm cc nL ret F L en (pc + 1) lv (iv (i2s x) :: st) σ o) : G X own nm cc nL ret F L en pc lv (iv x :: st) σ o := lift (fun σ o k => Jvm.Pilot.CModuleEngineLaw_law_r1006_a0bf7e.g_i2s hd k) k
theorem V.g_dup {a : AV} (hd : decode cc pc = .ok (.dup, 1)) (h : isJ a = false) (k : G X own nm cc nL ret F L en (pc + 1) lv (a :: a :: st) σ o) : G X own nm cc nL ret F L en pc lv (a :: st) σ o := lift (fun σ o k => Jvm.Pilot.CModuleEngineLaw_law_r1006_a0bf7e.g_dup hd h k) k
theorem V.g_pop {a : AV} (hd : decode cc pc = .ok (.pop, 1)) (h : isJ a = false) (k : G X own nm cc nL ret F L en (pc + 1) lv st σ o) : G X own nm cc nL ret F L en pc lv (a :: st) σ o := lift (fun σ o k => Jvm.Pilot.CModuleEngineLaw_law_r1006_a0bf7e.g_pop hd h k) k
theorem V.g_dup_x1 {a b : AV} (hd : decode cc pc = .ok (.dup_x1, 1)) (h : isJ a = false) (h2 : isJ b = false) (k : G X own nm cc nL ret F L en (pc + 1) lv (a :: b :: a :: st) σ o) : G X own nm cc nL ret F L en pc lv (a :: b :: st) σ o := lift (fun σ o k => Jvm.Pilot.CModuleEngineLaw_law_r1006_a0bf7e.g_dup_x1 hd h h2 k) k
theorem V.g_dup2_11 {a b : AV} (hd : decode cc pc = .ok (.dup2, 1)) (h : isJ a = false) (h2 : isJ b = false) (k : G X own nm cc nL ret F L en (pc + 1) lv (a :: b :: a :: b :: st) σ o) : G X own nm cc nL ret F L en pc lv (a :: b :: st) σ o := lift (fun σ o k => Jvm.Pilot.CModuleEngineLaw_law_r1006_a0bf7e.g_dup2_11 hd h h2 k) k
theorem V.g_dup2_2 {a : AV} (hd : decode cc pc = .ok (.dup2, 1)) (h : isJ a = true) (k : G X own nm cc nL ret F L en (pc + 1) lv (a :: a :: st) σ o) : G X own nm cc nL ret F L en pc lv (a :: st) σ o := lift (fun σ o k => Jvm.Pilot.CModuleEngineLaw_law_r1006_a0bf7e.g_dup2_2 hd h k) k
theorem V.g_pop2_2 {a : AV} (hd : decode cc pc = .ok (.pop2, 1)) (h : isJ a = true) (k : G X own nm cc nL ret F L en (pc + 1) lv st σ o) : G X own nm cc nL ret F L en pc lv (a :: st) σ o := lift (fun σ o k => Jvm.Pilot.CModuleEngineLaw_law_r1006_a0bf7e.g_pop2_2 hd h k) k
theorem V.g_goto {off : Int} (tgt : Nat) (hd : decode cc pc = .ok (.goto off, 3)) (ht : (pc : Int) + off = (tgt : Int)) (k : G X own nm cc nL ret F L en tgt lv st σ o) : G X own nm cc nL ret F L en pc lv st σ o := lift (fun σ o k => Jvm.Pilot.CModuleEngineLaw_law_r1006_a0bf7e.g_goto tgt hd ht k) k
theorem V.g_ldc {idx : Nat} {v : Int32} (hw : Cond.constant own idx v ∈ lw_all) (hd : decode cc pc = .ok (.ldc idx, 2)) (kk : G X own nm cc nL ret F L en (pc + 2) lv (iv v :: st) σ o) : G X own nm cc nL ret F L en pc lv st σ o := lift (fun σ o kk => Jvm.Pilot.CModuleEngineLaw_law_r1006_a0bf7e.g_ldc hw hd kk) kk
theorem V.g_ldcw {idx : Nat} {v : Int32} (hw : Cond.constant own idx v ∈ lw_all) (hd : decode cc pc = .ok (.ldc_w idx, 3)) (kk : G X own nm cc nL ret F L en (pc + 3) lv (iv v :: st) σ o) : G X own nm cc nL ret F L en pc lv st σ o := lift (fun σ o kk => Jvm.Pilot.CModuleEngineLaw_law_r1006_a0bf7e.g_ldcw hw hd kk) kk
theorem V.g_ldc2 {idx : Nat} {v : Int64} (hw : Cond.constantLong own idx v ∈ lw_all) (hd : decode cc pc = .ok (.ldc2_w idx, 3)) (kk : G X own nm cc nL ret F L en (pc + 3) lv (jv v :: st) σ o) : G X own nm cc nL ret F L en pc lv st σ o := lift (fun σ o kk => Jvm.Pilot.CModuleEngineLaw_law_r1006_a0bf7e.g_ldc2 hw hd kk) kk
theorem V.g_tsw {dflt lo hi : Int} {offs : Array Int} {len : Nat} {x : Int32} (hd : decode cc pc = .ok (.tableswitch dflt lo hi offs, len)) (hok : tswOk pc dflt lo hi offs = true) (k : G X own nm cc nL ret F L en (tswT pc dflt lo hi offs x) lv st σ o) : G X own nm cc nL ret F L en pc lv (iv x :: st) σ o := lift (fun σ o k => Jvm.Pilot.CModuleEngineLaw_law_r1006_a0bf7e.g_tsw hd hok k) k
theorem V.g_lsw {dflt : Int} {ps : Array (Int × Int)} {len : Nat} {x : Int32} (hd : decode cc pc = .ok (.lookupswitch dflt ps, len)) (hok : lswOk pc dflt ps = true) (k : G X own nm cc nL ret F L en (lswT pc dflt ps x) lv st σ o) : G X own nm cc nL ret F L en pc lv (iv x :: st) σ o := lift (fun σ o k => Jvm.Pilot.CModuleEngineLaw_law_r1006_a0bf7e.g_lsw hd hok k) k
theorem V.g_minI {idx : Nat} {x y : Int32} (hl : Cond.methodLink own idx ⟨"java/lang/Math", "min", "(II)I"⟩ ∈ lw_all) (hF : 1 ≤ F) (hL : wt st + 13 ≤ L) (hd : decode cc pc = .ok (.invokestatic idx, 3)) (k : G X own nm cc nL ret F L en (pc + 3) lv (iv (minI x y) :: st) σ o) : G X own nm cc nL ret F L en pc lv (iv y :: iv x :: st) σ o := lift (fun σ o k => Jvm.Pilot.CModuleEngineLaw_law_r1006_a0bf7e.g_minI hl hF hL hd k) k
theorem V.g_minJ {idx : Nat} {x y : Int64} (hl : Cond.methodLink own idx ⟨"java/lang/Math", "min", "(JJ)J"⟩ ∈ lw_all) (hF : 1 ≤ F) (hL : wt st + 15 ≤ L) (hd : decode cc pc = .ok (.invokestatic idx, 3)) (k : G X own nm cc nL ret F L en (pc + 3) lv (jv (minJ x y) :: st) σ o) : G X own nm cc nL ret F L en pc lv (jv y :: jv x :: st) σ o := lift (fun σ o k => Jvm.Pilot.CModuleEngineLaw_law_r1006_a0bf7e.g_minJ hl hF hL hd k) k
theorem V.g_idiv {x y : Int32} (hd : decode cc pc = .ok (.idiv, 1)) (k : G X own nm cc nL ret F L en (pc + 1) lv (iv (x / y) :: st) σ o) : G X own nm cc nL ret F L en pc lv (iv y :: iv x :: st) σ (if ¬ y = 0 then o else none) := liftC (fun σ o k => Jvm.Pilot.CModuleEngineLaw_law_r1006_a0bf7e.g_idiv hd k) k
theorem V.g_irem {x y : Int32} (hd : decode cc pc = .ok (.irem, 1)) (k : G X own nm cc nL ret F L en (pc + 1) lv (iv (x - x / y * y) :: st) σ o) : G X own nm cc nL ret F L en pc lv (iv y :: iv x :: st) σ (if ¬ y = 0 then o else none) := liftC (fun σ o k => Jvm.Pilot.CModuleEngineLaw_law_r1006_a0bf7e.g_irem hd k) k
theorem V.g_ldiv {x y : Int64} (hd : decode cc pc = .ok (.ldiv, 1)) (k : G X own nm cc nL ret F L en (pc + 1) lv (jv (x / y) :: st) σ o) : G X own nm cc nL ret F L en pc lv (jv y :: jv x :: st) σ (if ¬ y = 0 then o else none) := liftC (fun σ o k => Jvm.Pilot.CModuleEngineLaw_law_r1006_a0bf7e.g_ldiv hd k) k
theorem V.g_lrem {x y : Int64} (hd : decode cc pc = .ok (.lrem, 1)) (k : G X own nm cc nL ret F L en (pc + 1) lv (jv (x - x / y * y) :: st) σ o) : G X own nm cc nL ret F L en pc lv (jv y :: jv x :: st) σ (if ¬ y = 0 then o else none) := liftC (fun σ o k => Jvm.Pilot.CModuleEngineLaw_law_r1006_a0bf7e.g_lrem hd k) k
theorem V.g_objInit {idx x : Nat} (hl : Cond.methodLink own idx Lib.objectInit ∈ lw_all) (hF : 1 ≤ F) (hL : wt st + 12 ≤ L) (hd : decode cc pc = .ok (.invokespecial idx, 3)) (k : G X own nm cc nL ret F L en (pc + 3) lv st σ o) : G X own nm cc nL ret F L en pc lv (av x :: st) σ (if ¬ x = 0 then o else none) := liftC (fun σ o k => Jvm.Pilot.CModuleEngineLaw_law_r1006_a0bf7e.g_objInit hl hF hL hd k) k
theorem V.g_if_eq {x : Int32} {off : Int} (tgt : Nat) (hd : decode cc pc = .ok (.ifCond .eq off, 3)) (ht : (pc : Int) + off = (tgt : Int)) (k1 : G X own nm cc nL ret F L en tgt lv st σ o1) (k2 : G X own nm cc nL ret F L en (pc + 3) lv st σ o2) : G X own nm cc nL ret F L en pc lv (iv x :: st) σ (if x = 0 then o1 else o2) := lift2 (fun σ o1 o2 k1 k2 => Jvm.Pilot.CModuleEngineLaw_law_r1006_a0bf7e.g_if_eq tgt hd ht k1 k2) k1 k2
theorem V.g_if_ne {x : Int32} {off : Int} (tgt : Nat) (hd : decode cc pc = .ok (.ifCond .ne off, 3)) (ht : (pc : Int) + off = (tgt : Int)) (k1 : G X own nm cc nL ret F L en tgt lv st σ o1) (k2 : G X own nm cc nL ret F L en (pc + 3) lv st σ o2) : G X own nm cc nL ret F L en pc lv (iv x :: st) σ (if x = 0 then o2 else o1) := lift2' (fun σ o1 o2 k1 k2 => Jvm.Pilot.CModuleEngineLaw_law_r1006_a0bf7e.g_if_ne tgt hd ht k1 k2) k1 k2
theorem V.g_if_lt {x : Int32} {off : Int} (tgt : Nat) (hd : decode cc pc = .ok (.ifCond .lt off, 3)) (ht : (pc : Int) + off = (tgt : Int)) (k1 : G X own nm cc nL ret F L en tgt lv st σ o1) (k2 : G X own nm cc nL ret F L en (pc + 3) lv st σ o2) : G X own nm cc nL ret F L en pc lv (iv x :: st) σ (if x < 0 then o1 else o2) := lift2 (fun σ o1 o2 k1 k2 => Jvm.Pilot.CModuleEngineLaw_law_r1006_a0bf7e.g_if_lt tgt hd ht k1 k2) k1 k2
theorem V.g_if_ge {x : Int32} {off : Int} (tgt : Nat) (hd : decode cc pc = .ok (.ifCond .ge off, 3)) (ht : (pc : Int) + off = (tgt : Int)) (k1 : G X own nm cc nL ret F L en tgt lv st σ o1) (k2 : G X own nm cc nL ret F L en (pc + 3) lv st σ o2) : G X own nm cc nL ret F L en pc lv (iv x :: st) σ (if 0 ≤ x then o1 else o2) := lift2 (fun σ o1 o2 k1 k2 => Jvm.Pilot.CModuleEngineLaw_law_r1006_a0bf7e.g_if_ge tgt hd ht k1 k2) k1 k2
theorem V.g_if_gt {x : Int32} {off : Int} (tgt : Nat) (hd : decode cc pc = .ok (.ifCond .gt off, 3)) (ht : (pc : Int) + off = (tgt : Int)) (k1 : G X own nm cc nL ret F L en tgt lv st σ o1) (k2 : G X own nm cc nL ret F L en (pc + 3) lv st σ o2) : G X own nm cc nL ret F L en pc lv (iv x :: st) σ (if 0 < x then o1 else o2) := lift2 (fun σ o1 o2 k1 k2 => Jvm.Pilot.CModuleEngineLaw_law_r1006_a0bf7e.g_if_gt tgt hd ht k1 k2) k1 k2
theorem V.g_if_le {x : Int32} {off : Int} (tgt : Nat) (hd : decode cc pc = .ok (.ifCond .le off, 3)) (ht : (pc : Int) + off = (tgt : Int)) (k1 : G X own nm cc nL ret F L en tgt lv st σ o1) (k2 : G X own nm cc nL ret F L en (pc + 3) lv st σ o2) : G X own nm cc nL ret F L en pc lv (iv x :: st) σ (if x ≤ 0 then o1 else o2) := lift2 (fun σ o1 o2 k1 k2 => Jvm.Pilot.CModuleEngineLaw_law_r1006_a0bf7e.g_if_le tgt hd ht k1 k2) k1 k2
theorem V.g_icmp_eq {x y : Int32} {off : Int} (tgt : Nat) (hd : decode cc pc = .ok (.if_icmp .eq off, 3)) (ht : (pc : Int) + off = (tgt : Int)) (k1 : G X own nm cc nL ret F L en tgt lv st σ o1) (k2 : G X own nm cc nL ret F L en (pc + 3) lv st σ o2) : G X own nm cc nL ret F L en pc lv (iv y :: iv x :: st) σ (if x = y then o1 else o2) := lift2 (fun σ o1 o2 k1 k2 => Jvm.Pilot.CModuleEngineLaw_law_r1006_a0bf7e.g_icmp_eq tgt hd ht k1 k2) k1 k2
theorem V.g_icmp_ne {x y : Int32} {off : Int} (tgt : Nat) (hd : decode cc pc = .ok (.if_icmp .ne off, 3)) (ht : (pc : Int) + off = (tgt : Int)) (k1 : G X own nm cc nL ret F L en tgt lv st σ o1) (k2 : G X own nm cc nL ret F L en (pc + 3) lv st σ o2) : G X own nm cc nL ret F L en pc lv (iv y :: iv x :: st) σ (if x = y then o2 else o1) := lift2' (fun σ o1 o2 k1 k2 => Jvm.Pilot.CModuleEngineLaw_law_r1006_a0bf7e.g_icmp_ne tgt hd ht k1 k2) k1 k2
theorem V.g_icmp_lt {x y : Int32} {off : Int} (tgt : Nat) (hd : decode cc pc = .ok (.if_icmp .lt off, 3)) (ht : (pc : Int) + off = (tgt : Int)) (k1 : G X own nm cc nL ret F L en tgt lv st σ o1) (k2 : G X own nm cc nL ret F L en (pc + 3) lv st σ o2) : G X own nm cc nL ret F L en pc lv (iv y :: iv x :: st) σ (if x < y then o1 else o2) := lift2 (fun σ o1 o2 k1 k2 => Jvm.Pilot.CModuleEngineLaw_law_r1006_a0bf7e.g_icmp_lt tgt hd ht k1 k2) k1 k2
theorem V.g_icmp_ge {x y : Int32} {off : Int} (tgt : Nat) (hd : decode cc pc = .ok (.if_icmp .ge off, 3)) (ht : (pc : Int) + off = (tgt : Int)) (k1 : G X own nm cc nL ret F L en tgt lv st σ o1) (k2 : G X own nm cc nL ret F L en (pc + 3) lv st σ o2) : G X own nm cc nL ret F L en pc lv (iv y :: iv x :: st) σ (if y ≤ x then o1 else o2) := lift2 (fun σ o1 o2 k1 k2 => Jvm.Pilot.CModuleEngineLaw_law_r1006_a0bf7e.g_icmp_ge tgt hd ht k1 k2) k1 k2
theorem V.g_icmp_gt {x y : Int32} {off : Int} (tgt : Nat) (hd : decode cc pc = .ok (.if_icmp .gt off, 3)) (ht : (pc : Int) + off = (tgt : Int)) (k1 : G X own nm cc nL ret F L en tgt lv st σ o1) (k2 : G X own nm cc nL ret F L en (pc + 3) lv st σ o2) : G X own nm cc nL ret F L en pc lv (iv y :: iv x :: st) σ (if y < x then o1 else o2) := lift2 (fun σ o1 o2 k1 k2 => Jvm.Pilot.CModuleEngineLaw_law_r1006_a0bf7e.g_icmp_gt tgt hd ht k1 k2) k1 k2
theorem V.g_icmp_le {x y : Int32} {off : Int} (tgt : Nat) (hd : decode cc pc = .ok (.if_icmp .le off, 3)) (ht : (pc : Int) + off = (tgt : Int)) (k1 : G X own nm cc nL ret F L en tgt lv st σ o1) (k2 : G X own nm cc nL ret F L en (pc + 3) lv st σ o2) : G X own nm cc nL ret F L en pc lv (iv y :: iv x :: st) σ (if x ≤ y then o1 else o2) := lift2 (fun σ o1 o2 k1 k2 => Jvm.Pilot.CModuleEngineLaw_law_r1006_a0bf7e.g_icmp_le tgt hd ht k1 k2) k1 k2
theorem V.g_lcmp_eq {x y : Int64} {off : Int} (tgt : Nat) (hd : decode cc pc = .ok (.lcmp, 1)) (hd2 : decode cc (pc + 1) = .ok (.ifCond .eq off, 3)) (ht : ((pc + 1 : Nat) : Int) + off = (tgt : Int)) (k1 : G X own nm cc nL ret F L en tgt lv st σ o1) (k2 : G X own nm cc nL ret F L en (pc + 4) lv st σ o2) : G X own nm cc nL ret F L en pc lv (jv y :: jv x :: st) σ (if x = y then o1 else o2) := lift2 (fun σ o1 o2 k1 k2 => Jvm.Pilot.CModuleEngineLaw_law_r1006_a0bf7e.g_lcmp_eq tgt hd hd2 ht k1 k2) k1 k2
theorem V.g_lcmp_ne {x y : Int64} {off : Int} (tgt : Nat) (hd : decode cc pc = .ok (.lcmp, 1)) (hd2 : decode cc (pc + 1) = .ok (.ifCond .ne off, 3)) (ht : ((pc + 1 : Nat) : Int) + off = (tgt : Int)) (k1 : G X own nm cc nL ret F L en tgt lv st σ o1) (k2 : G X own nm cc nL ret F L en (pc + 4) lv st σ o2) : G X own nm cc nL ret F L en pc lv (jv y :: jv x :: st) σ (if x = y then o2 else o1) := lift2' (fun σ o1 o2 k1 k2 => Jvm.Pilot.CModuleEngineLaw_law_r1006_a0bf7e.g_lcmp_ne tgt hd hd2 ht k1 k2) k1 k2
theorem V.g_lcmp_lt {x y : Int64} {off : Int} (tgt : Nat) (hd : decode cc pc = .ok (.lcmp, 1)) (hd2 : decode cc (pc + 1) = .ok (.ifCond .lt off, 3)) (ht : ((pc + 1 : Nat) : Int) + off = (tgt : Int)) (k1 : G X own nm cc nL ret F L en tgt lv st σ o1) (k2 : G X own nm cc nL ret F L en (pc + 4) lv st σ o2) : G X own nm cc nL ret F L en pc lv (jv y :: jv x :: st) σ (if x < y then o1 else o2) := lift2 (fun σ o1 o2 k1 k2 => Jvm.Pilot.CModuleEngineLaw_law_r1006_a0bf7e.g_lcmp_lt tgt hd hd2 ht k1 k2) k1 k2
theorem V.g_lcmp_ge {x y : Int64} {off : Int} (tgt : Nat) (hd : decode cc pc = .ok (.lcmp, 1)) (hd2 : decode cc (pc + 1) = .ok (.ifCond .ge off, 3)) (ht : ((pc + 1 : Nat) : Int) + off = (tgt : Int)) (k1 : G X own nm cc nL ret F L en tgt lv st σ o1) (k2 : G X own nm cc nL ret F L en (pc + 4) lv st σ o2) : G X own nm cc nL ret F L en pc lv (jv y :: jv x :: st) σ (if y ≤ x then o1 else o2) := lift2 (fun σ o1 o2 k1 k2 => Jvm.Pilot.CModuleEngineLaw_law_r1006_a0bf7e.g_lcmp_ge tgt hd hd2 ht k1 k2) k1 k2
theorem V.g_lcmp_gt {x y : Int64} {off : Int} (tgt : Nat) (hd : decode cc pc = .ok (.lcmp, 1)) (hd2 : decode cc (pc + 1) = .ok (.ifCond .gt off, 3)) (ht : ((pc + 1 : Nat) : Int) + off = (tgt : Int)) (k1 : G X own nm cc nL ret F L en tgt lv st σ o1) (k2 : G X own nm cc nL ret F L en (pc + 4) lv st σ o2) : G X own nm cc nL ret F L en pc lv (jv y :: jv x :: st) σ (if y < x then o1 else o2) := lift2 (fun σ o1 o2 k1 k2 => Jvm.Pilot.CModuleEngineLaw_law_r1006_a0bf7e.g_lcmp_gt tgt hd hd2 ht k1 k2) k1 k2
theorem V.g_lcmp_le {x y : Int64} {off : Int} (tgt : Nat) (hd : decode cc pc = .ok (.lcmp, 1)) (hd2 : decode cc (pc + 1) = .ok (.ifCond .le off, 3)) (ht : ((pc + 1 : Nat) : Int) + off = (tgt : Int)) (k1 : G X own nm cc nL ret F L en tgt lv st σ o1) (k2 : G X own nm cc nL ret F L en (pc + 4) lv st σ o2) : G X own nm cc nL ret F L en pc lv (jv y :: jv x :: st) σ (if x ≤ y then o1 else o2) := lift2 (fun σ o1 o2 k1 k2 => Jvm.Pilot.CModuleEngineLaw_law_r1006_a0bf7e.g_lcmp_le tgt hd hd2 ht k1 k2) k1 k2
theorem V.g_ifnull {x : Nat} {off : Int} (tgt : Nat) (hd : decode cc pc = .ok (.ifnull off, 3)) (ht : (pc : Int) + off = (tgt : Int)) (k1 : G X own nm cc nL ret F L en tgt lv st σ o1) (k2 : G X own nm cc nL ret F L en (pc + 3) lv st σ o2) : G X own nm cc nL ret F L en pc lv (av x :: st) σ (if x = 0 then o1 else o2) := lift2 (fun σ o1 o2 k1 k2 => Jvm.Pilot.CModuleEngineLaw_law_r1006_a0bf7e.g_ifnull tgt hd ht k1 k2) k1 k2
theorem V.g_ifnonnull {x : Nat} {off : Int} (tgt : Nat) (hd : decode cc pc = .ok (.ifnonnull off, 3)) (ht : (pc : Int) + off = (tgt : Int)) (k1 : G X own nm cc nL ret F L en tgt lv st σ o1) (k2 : G X own nm cc nL ret F L en (pc + 3) lv st σ o2) : G X own nm cc nL ret F L en pc lv (av x :: st) σ (if x = 0 then o2 else o1) := lift2' (fun σ o1 o2 k1 k2 => Jvm.Pilot.CModuleEngineLaw_law_r1006_a0bf7e.g_ifnonnull tgt hd ht k1 k2) k1 k2
theorem V.g_nmI {e : Int32} {f : Int32 → Option (τ × HS)} (k : ∀ v, G X own nm cc nL ret F L en pc lv (iv v :: st) σ (f v)) : G X own nm cc nL ret F L en pc lv (iv e :: st) σ (bn e f) := k e
theorem V.g_nmJ {e : Int64} {f : Int64 → Option (τ × HS)} (k : ∀ v, G X own nm cc nL ret F L en pc lv (jv v :: st) σ (f v)) : G X own nm cc nL ret F L en pc lv (jv e :: st) σ (bn e f) := k e
theorem V.g_nmA {e : Nat} {f : Nat → Option (τ × HS)} (k : ∀ v, G X own nm cc nL ret F L en pc lv (av v :: st) σ (f v)) : G X own nm cc nL ret F L en pc lv (av e :: st) σ (bn e f) := k e
theorem V.g_iincB {i : Nat} {n : Int} {x w : Int32} {lv' : Int32 → List (Nat × AV)} {f : Int32 → Option (τ × HS)} (q : Nat) (hd : decode cc pc = .ok (.iinc i n, 3)) (hq : lv[q]? = some (i, iv x)) (hw : Int32.ofInt n = w) (hn : i < nL) (hl' : ∀ v, st1 i (iv v) lv = lv' v) (k : ∀ v, G X own nm cc nL ret F L en (pc + 3) (lv' v) st σ (f v)) : G X own nm cc nL ret F L en pc lv st σ (bn (x + w) f) := g_iinc (v := x + w) q hd hq (by rw [hw]) hn (hl' _) (k _)
theorem V.g_case {T : Int32 → Nat} {x : Int32} {ex : List Int32} {key : Int32} {t : Nat} {rest : List (Int32 × Option (τ × HS))} (hx : ∀ k ∈ ex, ¬ x = k) (hk : T key = t) (k1 : G X own nm cc nL ret F L en t lv st σ o1) (k2 : (∀ k ∈ key :: ex, ¬ x = k) → G X own nm cc nL ret F L en (T x) lv st σ (swx x rest o)) : G X own nm cc nL ret F L en (T x) lv st σ (swx x ((key, o1) :: rest) o) := by
  show G X own nm cc nL ret F L en (T x) lv st σ (if x = key then o1 else swx x rest o)
  by_cases h : x = key
  · rw [if_pos h, h, hk]; exact k1
  · rw [if_neg h]
    exact k2 (fun k hk => by
      rcases List.mem_cons.mp hk with e | e
      · rw [e]; exact h
      · exact hx k e)
theorem V.g_dflt {T : Int32 → Nat} {x : Int32} {t : Nat} (h : T x = t) (k1 : G X own nm cc nL ret F L en t lv st σ o) : G X own nm cc nL ret F L en (T x) lv st σ (swx x [] o) := by
  rw [h]; exact k1
theorem V.g_ireturn {v : τ} {x : Int32} (hen : en v = enI x) (hd : decode cc pc = .ok (.ireturn, 1)) : G X own nm cc nL (some .int) F L en pc lv [iv x] σ (some (v, σ)) := fun wf => ⟨fun r v' e => by cases e; exact wf, Jvm.Pilot.CModuleEngineLaw_law_r1006_a0bf7e.g_ireturn hen hd⟩
theorem V.g_zreturn {v : τ} {x : Int32} (hen : en v = enI x) (hz : narrow .boolean (.int x) = .int x) (hd : decode cc pc = .ok (.ireturn, 1)) : G X own nm cc nL (some .boolean) F L en pc lv [iv x] σ (some (v, σ)) := fun wf => ⟨fun r v' e => by cases e; exact wf, Jvm.Pilot.CModuleEngineLaw_law_r1006_a0bf7e.g_zreturn hen hz hd⟩
theorem V.g_lreturn {v : τ} {x : Int64} (hen : en v = enJ x) (hd : decode cc pc = .ok (.lreturn, 1)) : G X own nm cc nL (some .long) F L en pc lv [jv x] σ (some (v, σ)) := fun wf => ⟨fun r v' e => by cases e; exact wf, Jvm.Pilot.CModuleEngineLaw_law_r1006_a0bf7e.g_lreturn hen hd⟩
theorem V.g_areturn {Cn : String} {v : τ} {x : Nat} (hen : en v = enR (cxz X) x) (hd : decode cc pc = .ok (.areturn, 1)) : G X own nm cc nL (some (.object Cn)) F L en pc lv [av x] σ (some (v, σ)) := fun wf => ⟨fun r v' e => by cases e; exact wf, Jvm.Pilot.CModuleEngineLaw_law_r1006_a0bf7e.g_areturn hen hd⟩
theorem V.g_return {v : τ} (hen : en v = enV ()) (hd : decode cc pc = .ok (.return_, 1)) : G X own nm cc nL none F L en pc lv [] σ (some (v, σ)) := fun wf => ⟨fun r v' e => by cases e; exact wf, Jvm.Pilot.CModuleEngineLaw_law_r1006_a0bf7e.g_return hen hd⟩
theorem V.g_zreturnc {v : τ} {x : Int32} (hen : en v = enI x) (hd : decode cc pc = .ok (.ireturn, 1)) : G X own nm cc nL (some .boolean) F L en pc lv [iv x] σ (if zb x then some (v, σ) else none) := G.chk fun h => g_zreturn hen (zb_ok h).1 hd
end VOps

section Only
variable {X : CX} {own nm : String} {cc : ByteArray} {nL : Nat} {ret : Option FieldType} {F L : Nat} {τ : Type} {en : τ → Outcome} {pc : Nat} {lv : List (Nat × AV)} {st : List AV}
noncomputable def V.only (s0 : HS0) (o : Option (τ × HS0)) : HS0 → Option (τ × HS0) := fun s => @ite _ (s = s0) (Classical.propDecidable _) o none
theorem V.only_at (s0 : HS0) (o : Option (τ × HS0)) : only s0 o s0 = o := @if_pos _ (Classical.propDecidable _) rfl _ _ _
theorem V.only_G {s0 : HS0} {o : Option (τ × HS0)} (h : Jvm.Pilot.CModuleEngineLaw_law_r1006_a0bf7e.G X own nm cc nL ret F L en pc lv st s0 o) : ∀ s, Jvm.Pilot.CModuleEngineLaw_law_r1006_a0bf7e.G X own nm cc nL ret F L en pc lv st s (only s0 o s) := by
  intro s
  by_cases e : s = s0
  · subst e; rw [only_at]; exact h
  · rw [only, @if_neg _ (Classical.propDecidable _) e]; exact Jvm.Pilot.CModuleEngineLaw_law_r1006_a0bf7e.G.nul
noncomputable def V.only2 {α : Type} (a0 : α) (s0 : HS0) (o : Option (τ × HS0)) : α → HS0 → Option (τ × HS0) := fun a s => @ite _ (a = a0 ∧ s = s0) (Classical.propDecidable _) o none
theorem V.only2_at {α : Type} (a0 : α) (s0 : HS0) (o : Option (τ × HS0)) : only2 a0 s0 o a0 s0 = o := @if_pos _ (Classical.propDecidable _) ⟨rfl, rfl⟩ _ _ _
theorem V.only2_G {α : Type} {a0 : α} {s0 : HS0} {o : Option (τ × HS0)} {sk : α → List AV} (h : Jvm.Pilot.CModuleEngineLaw_law_r1006_a0bf7e.G X own nm cc nL ret F L en pc lv (sk a0) s0 o) : ∀ a s, Jvm.Pilot.CModuleEngineLaw_law_r1006_a0bf7e.G X own nm cc nL ret F L en pc lv (sk a) s (only2 a0 s0 o a s) := by
  intro a s
  by_cases e : a = a0 ∧ s = s0
  · obtain ⟨e1, e2⟩ := e
    subst e1 e2; rw [only2_at]; exact h
  · rw [only2, @if_neg _ (Classical.propDecidable _) e]; exact Jvm.Pilot.CModuleEngineLaw_law_r1006_a0bf7e.G.nul
end Only
section VHeap
variable {X : CX} {own nm : String} {cc : ByteArray} {nL : Nat} {ret : Option FieldType} {F L : Nat} {τ : Type} {en : τ → Outcome} {pc : Nat} {lv : List (Nat × AV)} {st : List AV} {σ : V.HS} {o : Option (τ × V.HS)} {f : V.HS → Option (τ × V.HS)}
theorem V.g_getI {idx ci k x : Nat} (hf : FD own idx ci k 0) (hd : decode cc pc = .ok (.getfield idx, 3)) (kk : G X own nm cc nL ret F L en (pc + 3) lv (iv (gI σ x k) :: st) σ o) (h3 : ci ≠ 3 := by decide) : G X own nm cc nL ret F L en pc lv (av x :: st) σ (if tg σ x = ci + 1 then o else none) :=
  G.chk fun ht wf => by
    have h0 : tg σ x ≠ 0 := by omega
    have h4 : tg σ x ≠ 4 := by omega
    have h := Jvm.Pilot.CModuleEngineLaw_law_r1006_a0bf7e.g_getI (σ := ex σ) (x := x) hf hd (by rw [ex_gI wf h0 h4]; exact (kk wf).2)
    rw [ex_tg h0, if_pos ht] at h
    exact ⟨(kk wf).1, h⟩
theorem V.g_getJ {idx ci k x : Nat} (hf : FD own idx ci k 1) (hd : decode cc pc = .ok (.getfield idx, 3)) (kk : G X own nm cc nL ret F L en (pc + 3) lv (jv (gJ σ x k) :: st) σ o) (h3 : ci ≠ 3 := by decide) : G X own nm cc nL ret F L en pc lv (av x :: st) σ (if tg σ x = ci + 1 then o else none) :=
  G.chk fun ht wf => by
    have h0 : tg σ x ≠ 0 := by omega
    have h4 : tg σ x ≠ 4 := by omega
    have h := Jvm.Pilot.CModuleEngineLaw_law_r1006_a0bf7e.g_getJ (σ := ex σ) (x := x) hf hd (by rw [ex_gJ]; exact (kk wf).2)
    rw [ex_tg h0, if_pos ht] at h
    exact ⟨(kk wf).1, h⟩
theorem V.g_getR {idx ci k x : Nat} (hf : FD own idx ci k 2) (hd : decode cc pc = .ok (.getfield idx, 3)) (kk : G X own nm cc nL ret F L en (pc + 3) lv (av (gR σ x k) :: st) σ o) (h3 : ci ≠ 3 := by decide) : G X own nm cc nL ret F L en pc lv (av x :: st) σ (if tg σ x = ci + 1 then o else none) :=
  G.chk fun ht wf => by
    have h0 : tg σ x ≠ 0 := by omega
    have h4 : tg σ x ≠ 4 := by omega
    have h := Jvm.Pilot.CModuleEngineLaw_law_r1006_a0bf7e.g_getR (σ := ex σ) (x := x) hf hd (by rw [ex_gR h4]; exact (kk wf).2)
    rw [ex_tg h0, if_pos ht] at h
    exact ⟨(kk wf).1, h⟩
theorem V.g_putI {idx ci k x : Nat} {v : Int32} (hf : FP own nm idx ci k .int) (hd : decode cc pc = .ok (.putfield idx, 3)) (kk : ∀ σ1, G X own nm cc nL ret F L en (pc + 3) lv st σ1 (f σ1)) (h3 : ci ≠ 3 := by decide) : G X own nm cc nL ret F L en pc lv (iv v :: av x :: st) σ (if tg σ x = ci + 1 then bn (sI σ x k v) f else none) :=
  G.chk fun ht wf => by
    have h0 : tg σ x ≠ 0 := by omega
    have h4 : tg σ x ≠ 4 := by omega
    have e := ex_sI wf h0 h4 (k) (v)
    have k1 := kk (sI σ x k v) (wf.sI h0 _ _)
    have h := Jvm.Pilot.CModuleEngineLaw_law_r1006_a0bf7e.g_putI (σ := ex σ) (x := x) (v := v) (f := only (Jvm.Pilot.CModuleEngineLaw_law_r1006_a0bf7e.sI (ex σ) x k v) (exo (f (sI σ x k v)))) hf hd (only_G (by rw [← e]; exact k1.2))
    rw [ex_tg h0, if_pos ht] at h
    refine ⟨k1.1, ?_⟩
    have e2 : bn (Jvm.Pilot.CModuleEngineLaw_law_r1006_a0bf7e.sI (ex σ) x k v) (only (Jvm.Pilot.CModuleEngineLaw_law_r1006_a0bf7e.sI (ex σ) x k v) (exo (f (sI σ x k v)))) = exo (bn (sI σ x k v) f) := only_at _ _
    rw [e2] at h
    exact h
theorem V.g_putJ {idx ci k x : Nat} {v : Int64} (hf : FP own nm idx ci k .long) (hd : decode cc pc = .ok (.putfield idx, 3)) (kk : ∀ σ1, G X own nm cc nL ret F L en (pc + 3) lv st σ1 (f σ1)) (h3 : ci ≠ 3 := by decide) : G X own nm cc nL ret F L en pc lv (jv v :: av x :: st) σ (if tg σ x = ci + 1 then bn (sJ σ x k v) f else none) :=
  G.chk fun ht wf => by
    have h0 : tg σ x ≠ 0 := by omega
    have h4 : tg σ x ≠ 4 := by omega
    have e := ex_sJ x (k) (v) (v := σ)
    have k1 := kk (sJ σ x k v) (wf.sJ h0 _ _)
    have h := Jvm.Pilot.CModuleEngineLaw_law_r1006_a0bf7e.g_putJ (σ := ex σ) (x := x) (v := v) (f := only (Jvm.Pilot.CModuleEngineLaw_law_r1006_a0bf7e.sJ (ex σ) x k v) (exo (f (sJ σ x k v)))) hf hd (only_G (by rw [← e]; exact k1.2))
    rw [ex_tg h0, if_pos ht] at h
    refine ⟨k1.1, ?_⟩
    have e2 : bn (Jvm.Pilot.CModuleEngineLaw_law_r1006_a0bf7e.sJ (ex σ) x k v) (only (Jvm.Pilot.CModuleEngineLaw_law_r1006_a0bf7e.sJ (ex σ) x k v) (exo (f (sJ σ x k v)))) = exo (bn (sJ σ x k v) f) := only_at _ _
    rw [e2] at h
    exact h
theorem V.g_putR {idx ci k x v : Nat} {ty0 : FieldType} (hf : FP own nm idx ci k ty0) (ht0 : fk ty0 = 2) (hd : decode cc pc = .ok (.putfield idx, 3)) (kk : ∀ σ1, G X own nm cc nL ret F L en (pc + 3) lv st σ1 (f σ1)) (h3 : ci ≠ 3 := by decide) : G X own nm cc nL ret F L en pc lv (av v :: av x :: st) σ (if tg σ x = ci + 1 then bn (sR σ x k v) f else none) :=
  G.chk fun ht wf => by
    have h0 : tg σ x ≠ 0 := by omega
    have h4 : tg σ x ≠ 4 := by omega
    have e := ex_sR h4 (k) (v) (v := σ)
    have k1 := kk (sR σ x k v) (wf.sR h0 _ _)
    have h := Jvm.Pilot.CModuleEngineLaw_law_r1006_a0bf7e.g_putR (σ := ex σ) (x := x) (v := v) (f := only (Jvm.Pilot.CModuleEngineLaw_law_r1006_a0bf7e.sR (ex σ) x k v) (exo (f (sR σ x k v)))) hf ht0 hd (only_G (by rw [← e]; exact k1.2))
    rw [ex_tg h0, if_pos ht] at h
    refine ⟨k1.1, ?_⟩
    have e2 : bn (Jvm.Pilot.CModuleEngineLaw_law_r1006_a0bf7e.sR (ex σ) x k v) (only (Jvm.Pilot.CModuleEngineLaw_law_r1006_a0bf7e.sR (ex σ) x k v) (exo (f (sR σ x k v)))) = exo (bn (sR σ x k v) f) := only_at _ _
    rw [e2] at h
    exact h
theorem V.g_putZ {idx ci k x : Nat} {v : Int32} (hf : FP own nm idx ci k .boolean) (hz : narrow .boolean (.int v) = .int v ∧ fits .boolean (.int v) = true) (hd : decode cc pc = .ok (.putfield idx, 3)) (kk : ∀ σ1, G X own nm cc nL ret F L en (pc + 3) lv st σ1 (f σ1)) (h3 : ci ≠ 3 := by decide) : G X own nm cc nL ret F L en pc lv (iv v :: av x :: st) σ (if tg σ x = ci + 1 then bn (sI σ x k v) f else none) :=
  G.chk fun ht wf => by
    have h0 : tg σ x ≠ 0 := by omega
    have h4 : tg σ x ≠ 4 := by omega
    have e := ex_sI wf h0 h4 (k) (v)
    have k1 := kk (sI σ x k v) (wf.sI h0 _ _)
    have h := Jvm.Pilot.CModuleEngineLaw_law_r1006_a0bf7e.g_putZ (σ := ex σ) (x := x) (v := v) (f := only (Jvm.Pilot.CModuleEngineLaw_law_r1006_a0bf7e.sI (ex σ) x k v) (exo (f (sI σ x k v)))) hf hz hd (only_G (by rw [← e]; exact k1.2))
    rw [ex_tg h0, if_pos ht] at h
    refine ⟨k1.1, ?_⟩
    have e2 : bn (Jvm.Pilot.CModuleEngineLaw_law_r1006_a0bf7e.sI (ex σ) x k v) (only (Jvm.Pilot.CModuleEngineLaw_law_r1006_a0bf7e.sI (ex σ) x k v) (exo (f (sI σ x k v)))) = exo (bn (sI σ x k v) f) := only_at _ _
    rw [e2] at h
    exact h
theorem V.g_putZc {idx ci k x : Nat} {v : Int32} (hf : FP own nm idx ci k .boolean) (hd : decode cc pc = .ok (.putfield idx, 3)) (kk : ∀ σ1, G X own nm cc nL ret F L en (pc + 3) lv st σ1 (f σ1)) (h3 : ci ≠ 3 := by decide) : G X own nm cc nL ret F L en pc lv (iv v :: av x :: st) σ (if tg σ x = ci + 1 ∧ zb v then bn (sI σ x k v) f else none) :=
  G.chk fun ht wf => by
    have h0 : tg σ x ≠ 0 := by omega
    have h4 : tg σ x ≠ 4 := by omega
    have e := ex_sI wf h0 h4 (k) (v)
    have k1 := kk (sI σ x k v) (wf.sI h0 _ _)
    have h := Jvm.Pilot.CModuleEngineLaw_law_r1006_a0bf7e.g_putZc (σ := ex σ) (x := x) (v := v) (f := only (Jvm.Pilot.CModuleEngineLaw_law_r1006_a0bf7e.sI (ex σ) x k v) (exo (f (sI σ x k v)))) hf hd (only_G (by rw [← e]; exact k1.2))
    rw [ex_tg h0, if_pos ht] at h
    refine ⟨k1.1, ?_⟩
    have e2 : bn (Jvm.Pilot.CModuleEngineLaw_law_r1006_a0bf7e.sI (ex σ) x k v) (only (Jvm.Pilot.CModuleEngineLaw_law_r1006_a0bf7e.sI (ex σ) x k v) (exo (f (sI σ x k v)))) = exo (bn (sI σ x k v) f) := only_at _ _
    rw [e2] at h
    exact h
theorem V.g_alen (ai : Nat) {ty : FieldType} (hty : AT[ai]? = some ty) {x : Nat} (hd : decode cc pc = .ok (.arraylength, 1)) (kk : G X own nm cc nL ret F L en (pc + 1) lv (iv (nI (ln σ x)) :: st) σ o) : G X own nm cc nL ret F L en pc lv (av x :: st) σ (if tg σ x = 100 + ai then o else none) :=
  G.chk fun ht wf => by
    have h0 : tg σ x ≠ 0 := by omega
    have h := Jvm.Pilot.CModuleEngineLaw_law_r1006_a0bf7e.g_alen (σ := ex σ) (x := x) ai hty hd (by rw [ex_ln wf h0]; exact (kk wf).2)
    rw [ex_tg h0, if_pos ht] at h
    exact ⟨(kk wf).1, h⟩
theorem V.g_iaload {x : Nat} {i : Int32} (hd : decode cc pc = .ok (.iaload, 1)) (kk : G X own nm cc nL ret F L en (pc + 1) lv (iv (gI σ x (ix i)) :: st) σ o) : G X own nm cc nL ret F L en pc lv (iv i :: av x :: st) σ (if tg σ x = 100 ∧ inb i (ln σ x) then o else none) :=
  G.chk fun ht wf => by
    have h0 : tg σ x ≠ 0 := by omega
    have h4 : tg σ x ≠ 4 := by omega
    have h := Jvm.Pilot.CModuleEngineLaw_law_r1006_a0bf7e.g_iaload (σ := ex σ) (x := x) (i := i) hd (by rw [ex_gI wf h0 h4]; exact (kk wf).2)
    rw [ex_tg h0, ex_ln wf h0, if_pos ht] at h
    exact ⟨(kk wf).1, h⟩
theorem V.g_laload {x : Nat} {i : Int32} (hd : decode cc pc = .ok (.laload, 1)) (kk : G X own nm cc nL ret F L en (pc + 1) lv (jv (gJ σ x (ix i)) :: st) σ o) : G X own nm cc nL ret F L en pc lv (iv i :: av x :: st) σ (if tg σ x = 101 ∧ inb i (ln σ x) then o else none) :=
  G.chk fun ht wf => by
    have h0 : tg σ x ≠ 0 := by omega
    have h4 : tg σ x ≠ 4 := by omega
    have h := Jvm.Pilot.CModuleEngineLaw_law_r1006_a0bf7e.g_laload (σ := ex σ) (x := x) (i := i) hd (by rw [ex_gJ]; exact (kk wf).2)
    rw [ex_tg h0, ex_ln wf h0, if_pos ht] at h
    exact ⟨(kk wf).1, h⟩
theorem V.g_baload {x : Nat} {i : Int32} (hd : decode cc pc = .ok (.baload, 1)) (kk : G X own nm cc nL ret F L en (pc + 1) lv (iv (gI σ x (ix i)) :: st) σ o) : G X own nm cc nL ret F L en pc lv (iv i :: av x :: st) σ (if tg σ x = 102 ∧ inb i (ln σ x) then o else none) :=
  G.chk fun ht wf => by
    have h0 : tg σ x ≠ 0 := by omega
    have h4 : tg σ x ≠ 4 := by omega
    have h := Jvm.Pilot.CModuleEngineLaw_law_r1006_a0bf7e.g_baload (σ := ex σ) (x := x) (i := i) hd (by rw [ex_gI wf h0 h4]; exact (kk wf).2)
    rw [ex_tg h0, ex_ln wf h0, if_pos ht] at h
    exact ⟨(kk wf).1, h⟩
theorem V.g_zaload {x : Nat} {i : Int32} (hd : decode cc pc = .ok (.baload, 1)) (kk : G X own nm cc nL ret F L en (pc + 1) lv (iv (gI σ x (ix i)) :: st) σ o) : G X own nm cc nL ret F L en pc lv (iv i :: av x :: st) σ (if tg σ x = 103 ∧ inb i (ln σ x) then o else none) :=
  G.chk fun ht wf => by
    have h0 : tg σ x ≠ 0 := by omega
    have h4 : tg σ x ≠ 4 := by omega
    have h := Jvm.Pilot.CModuleEngineLaw_law_r1006_a0bf7e.g_zaload (σ := ex σ) (x := x) (i := i) hd (by rw [ex_gI wf h0 h4]; exact (kk wf).2)
    rw [ex_tg h0, ex_ln wf h0, if_pos ht] at h
    exact ⟨(kk wf).1, h⟩
theorem V.g_aaload (ai : Nat) {Cn : String} (hty : AT[ai]? = some (.object Cn)) {x : Nat} {i : Int32} (hd : decode cc pc = .ok (.aaload, 1)) (kk : G X own nm cc nL ret F L en (pc + 1) lv (av (gR σ x (ix i)) :: st) σ o) : G X own nm cc nL ret F L en pc lv (iv i :: av x :: st) σ (if tg σ x = 100 + ai ∧ inb i (ln σ x) then o else none) :=
  G.chk fun ht wf => by
    have h0 : tg σ x ≠ 0 := by omega
    have h4 : tg σ x ≠ 4 := by omega
    have h := Jvm.Pilot.CModuleEngineLaw_law_r1006_a0bf7e.g_aaload (σ := ex σ) (x := x) (i := i) ai hty hd (by rw [ex_gR h4]; exact (kk wf).2)
    rw [ex_tg h0, ex_ln wf h0, if_pos ht] at h
    exact ⟨(kk wf).1, h⟩
theorem V.g_iastore {x : Nat} {i v : Int32} (hd : decode cc pc = .ok (.iastore, 1)) (kk : ∀ σ1, G X own nm cc nL ret F L en (pc + 1) lv st σ1 (f σ1)) : G X own nm cc nL ret F L en pc lv (iv v :: iv i :: av x :: st) σ (if tg σ x = 100 ∧ inb i (ln σ x) then bn (sI σ x (ix i) v) f else none) :=
  G.chk fun ht wf => by
    have h0 : tg σ x ≠ 0 := by omega
    have h4 : tg σ x ≠ 4 := by omega
    have e := ex_sI wf h0 h4 ((ix i)) (v)
    have k1 := kk (sI σ x (ix i) v) (wf.sI h0 _ _)
    have h := Jvm.Pilot.CModuleEngineLaw_law_r1006_a0bf7e.g_iastore (σ := ex σ) (x := x) (v := v) (i := i) (f := only (Jvm.Pilot.CModuleEngineLaw_law_r1006_a0bf7e.sI (ex σ) x (ix i) v) (exo (f (sI σ x (ix i) v)))) hd (only_G (by rw [← e]; exact k1.2))
    rw [ex_tg h0, ex_ln wf h0, if_pos ht] at h
    refine ⟨k1.1, ?_⟩
    have e2 : bn (Jvm.Pilot.CModuleEngineLaw_law_r1006_a0bf7e.sI (ex σ) x (ix i) v) (only (Jvm.Pilot.CModuleEngineLaw_law_r1006_a0bf7e.sI (ex σ) x (ix i) v) (exo (f (sI σ x (ix i) v)))) = exo (bn (sI σ x (ix i) v) f) := only_at _ _
    rw [e2] at h
    exact h
theorem V.g_lastore {x : Nat} {i : Int32} {v : Int64} (hd : decode cc pc = .ok (.lastore, 1)) (kk : ∀ σ1, G X own nm cc nL ret F L en (pc + 1) lv st σ1 (f σ1)) : G X own nm cc nL ret F L en pc lv (jv v :: iv i :: av x :: st) σ (if tg σ x = 101 ∧ inb i (ln σ x) then bn (sJ σ x (ix i) v) f else none) :=
  G.chk fun ht wf => by
    have h0 : tg σ x ≠ 0 := by omega
    have h4 : tg σ x ≠ 4 := by omega
    have e := ex_sJ x ((ix i)) (v) (v := σ)
    have k1 := kk (sJ σ x (ix i) v) (wf.sJ h0 _ _)
    have h := Jvm.Pilot.CModuleEngineLaw_law_r1006_a0bf7e.g_lastore (σ := ex σ) (x := x) (v := v) (i := i) (f := only (Jvm.Pilot.CModuleEngineLaw_law_r1006_a0bf7e.sJ (ex σ) x (ix i) v) (exo (f (sJ σ x (ix i) v)))) hd (only_G (by rw [← e]; exact k1.2))
    rw [ex_tg h0, ex_ln wf h0, if_pos ht] at h
    refine ⟨k1.1, ?_⟩
    have e2 : bn (Jvm.Pilot.CModuleEngineLaw_law_r1006_a0bf7e.sJ (ex σ) x (ix i) v) (only (Jvm.Pilot.CModuleEngineLaw_law_r1006_a0bf7e.sJ (ex σ) x (ix i) v) (exo (f (sJ σ x (ix i) v)))) = exo (bn (sJ σ x (ix i) v) f) := only_at _ _
    rw [e2] at h
    exact h
theorem V.g_bastore {x : Nat} {i v : Int32} (hd : decode cc pc = .ok (.bastore, 1)) (kk : ∀ σ1, G X own nm cc nL ret F L en (pc + 1) lv st σ1 (f σ1)) : G X own nm cc nL ret F L en pc lv (iv v :: iv i :: av x :: st) σ (if tg σ x = 102 ∧ inb i (ln σ x) then bn (sI σ x (ix i) (i2b v)) f else none) :=
  G.chk fun ht wf => by
    have h0 : tg σ x ≠ 0 := by omega
    have h4 : tg σ x ≠ 4 := by omega
    have e := ex_sI wf h0 h4 ((ix i)) ((i2b v))
    have k1 := kk (sI σ x (ix i) (i2b v)) (wf.sI h0 _ _)
    have h := Jvm.Pilot.CModuleEngineLaw_law_r1006_a0bf7e.g_bastore (σ := ex σ) (x := x) (v := v) (i := i) (f := only (Jvm.Pilot.CModuleEngineLaw_law_r1006_a0bf7e.sI (ex σ) x (ix i) (i2b v)) (exo (f (sI σ x (ix i) (i2b v))))) hd (only_G (by rw [← e]; exact k1.2))
    rw [ex_tg h0, ex_ln wf h0, if_pos ht] at h
    refine ⟨k1.1, ?_⟩
    have e2 : bn (Jvm.Pilot.CModuleEngineLaw_law_r1006_a0bf7e.sI (ex σ) x (ix i) (i2b v)) (only (Jvm.Pilot.CModuleEngineLaw_law_r1006_a0bf7e.sI (ex σ) x (ix i) (i2b v)) (exo (f (sI σ x (ix i) (i2b v))))) = exo (bn (sI σ x (ix i) (i2b v)) f) := only_at _ _
    rw [e2] at h
    exact h
theorem V.g_zastore {x : Nat} {i v : Int32} (hd : decode cc pc = .ok (.bastore, 1)) (kk : ∀ σ1, G X own nm cc nL ret F L en (pc + 1) lv st σ1 (f σ1)) : G X own nm cc nL ret F L en pc lv (iv v :: iv i :: av x :: st) σ (if tg σ x = 103 ∧ inb i (ln σ x) ∧ zb v then bn (sI σ x (ix i) v) f else none) :=
  G.chk fun ht wf => by
    have h0 : tg σ x ≠ 0 := by omega
    have h4 : tg σ x ≠ 4 := by omega
    have e := ex_sI wf h0 h4 ((ix i)) (v)
    have k1 := kk (sI σ x (ix i) v) (wf.sI h0 _ _)
    have h := Jvm.Pilot.CModuleEngineLaw_law_r1006_a0bf7e.g_zastore (σ := ex σ) (x := x) (v := v) (i := i) (f := only (Jvm.Pilot.CModuleEngineLaw_law_r1006_a0bf7e.sI (ex σ) x (ix i) v) (exo (f (sI σ x (ix i) v)))) hd (only_G (by rw [← e]; exact k1.2))
    rw [ex_tg h0, ex_ln wf h0, if_pos ht] at h
    refine ⟨k1.1, ?_⟩
    have e2 : bn (Jvm.Pilot.CModuleEngineLaw_law_r1006_a0bf7e.sI (ex σ) x (ix i) v) (only (Jvm.Pilot.CModuleEngineLaw_law_r1006_a0bf7e.sI (ex σ) x (ix i) v) (exo (f (sI σ x (ix i) v)))) = exo (bn (sI σ x (ix i) v) f) := only_at _ _
    rw [e2] at h
    exact h
theorem V.g_aastore (ai ci : Nat) {q : vw_C} {ty : Nat → FieldType} {x v : Nat} {i : Int32} (hty : AT[ai]? = some (.object q.1)) (hq : CL[ci]? = some q) (hct : CT[ci]? = some ty) (hd : decode cc pc = .ok (.aastore, 1)) (kk : ∀ σ1, G X own nm cc nL ret F L en (pc + 1) lv st σ1 (f σ1)) : G X own nm cc nL ret F L en pc lv (av v :: iv i :: av x :: st) σ (if tg σ x = 100 + ai ∧ inb i (ln σ x) ∧ tg σ v = ci + 1 then bn (sR σ x (ix i) v) f else none) :=
  G.chk fun ht wf => by
    have h0 : tg σ x ≠ 0 := by omega
    have h4 : tg σ x ≠ 4 := by omega
    have hv0 : tg σ v ≠ 0 := by omega
    have e := ex_sR (v := σ) h4 (ix i) v
    have k1 := kk (sR σ x (ix i) v) (wf.sR h0 _ _)
    have h := Jvm.Pilot.CModuleEngineLaw_law_r1006_a0bf7e.g_aastore (σ := ex σ) (x := x) (v := v) (i := i) (f := only (Jvm.Pilot.CModuleEngineLaw_law_r1006_a0bf7e.sR (ex σ) x (ix i) v) (exo (f (sR σ x (ix i) v)))) ai ci hty hq hct hd (only_G (by rw [← e]; exact k1.2))
    rw [ex_tg h0, ex_ln wf h0, ex_tg hv0, if_pos ht] at h
    refine ⟨k1.1, ?_⟩
    have e2 : bn (Jvm.Pilot.CModuleEngineLaw_law_r1006_a0bf7e.sR (ex σ) x (ix i) v) (only (Jvm.Pilot.CModuleEngineLaw_law_r1006_a0bf7e.sR (ex σ) x (ix i) v) (exo (f (sR σ x (ix i) v)))) = exo (bn (sR σ x (ix i) v) f) := only_at _ _
    rw [e2] at h
    exact h
/-- a new object's number, then the heap with it -/
def V.newo {β : Type} (σ : HS) (t n : Nat) (k : Nat → HS → β) : β := k (cnt σ + 1) (nw σ t 0 n)
def V.newa {β : Type} (σ : HS) (t : Nat) (n : Int32) (k : Nat → HS → β) : β := k (cnt σ + 1) (nw σ t (ix n) (ix n))
theorem V.g_newo {idx ci n : Nat} {k : Nat → HS → Option (τ × HS)} (hn : ND own idx ci n) (hd : decode cc pc = .ok (.new idx, 3)) (kk : ∀ (x : Nat) (σ1 : HS), G X own nm cc nL ret F L en (pc + 3) lv (av x :: st) σ1 (k x σ1)) (h3 : ci ≠ 3 := by decide) : G X own nm cc nL ret F L en pc lv st σ (newo σ (ci + 1) n k) := fun wf => by
  have e := ex_nw wf (t := ci + 1) (n := 0) (s := n) (by omega) (by omega)
  have k1 := kk (cnt σ + 1) (nw σ (ci + 1) 0 n) (wf.nw (by omega))
  have h := Jvm.Pilot.CModuleEngineLaw_law_r1006_a0bf7e.g_newo (σ := ex σ) (k := only2 (cnt σ + 1) (Jvm.Pilot.CModuleEngineLaw_law_r1006_a0bf7e.nw (ex σ) (ci + 1) 0 n) (exo (k (cnt σ + 1) (nw σ (ci + 1) 0 n)))) hn hd (only2_G (sk := fun x => av x :: st) (by rw [← e]; exact k1.2))
  refine ⟨k1.1, ?_⟩
  have e2 : Jvm.Pilot.CModuleEngineLaw_law_r1006_a0bf7e.newo (ex σ) (ci + 1) n (only2 (cnt σ + 1) (Jvm.Pilot.CModuleEngineLaw_law_r1006_a0bf7e.nw (ex σ) (ci + 1) 0 n) (exo (k (cnt σ + 1) (nw σ (ci + 1) 0 n)))) = exo (newo σ (ci + 1) n k) := only2_at _ _ _
  rw [e2] at h
  exact h
theorem V.g_na_int {n : Int32} {k : Nat → HS → Option (τ × HS)} (hd : decode cc pc = .ok (.newarray .int, 2)) (kk : ∀ (x : Nat) (σ1 : HS), G X own nm cc nL ret F L en (pc + 2) lv (av x :: st) σ1 (k x σ1)) : G X own nm cc nL ret F L en pc lv (iv n :: st) σ (if lenok n then newa σ 100 n k else none) :=
  G.chk fun ht wf => by
    have e := ex_nw wf (t := 100) (n := ix n) (s := ix n) (by decide) (by decide)
    have k1 := kk (cnt σ + 1) (nw σ 100 (ix n) (ix n)) (wf.nw (by decide))
    have h := Jvm.Pilot.CModuleEngineLaw_law_r1006_a0bf7e.g_na_int (σ := ex σ) (n := n) (k := only2 (cnt σ + 1) (Jvm.Pilot.CModuleEngineLaw_law_r1006_a0bf7e.nw (ex σ) 100 (ix n) (ix n)) (exo (k (cnt σ + 1) (nw σ 100 (ix n) (ix n))))) hd (only2_G (sk := fun x => av x :: st) (by rw [← e]; exact k1.2))
    rw [if_pos ht] at h
    refine ⟨k1.1, ?_⟩
    have e2 : Jvm.Pilot.CModuleEngineLaw_law_r1006_a0bf7e.newa (ex σ) 100 n (only2 (cnt σ + 1) (Jvm.Pilot.CModuleEngineLaw_law_r1006_a0bf7e.nw (ex σ) 100 (ix n) (ix n)) (exo (k (cnt σ + 1) (nw σ 100 (ix n) (ix n))))) = exo (newa σ 100 n k) := only2_at _ _ _
    rw [e2] at h
    exact h
theorem V.g_na_long {n : Int32} {k : Nat → HS → Option (τ × HS)} (hd : decode cc pc = .ok (.newarray .long, 2)) (kk : ∀ (x : Nat) (σ1 : HS), G X own nm cc nL ret F L en (pc + 2) lv (av x :: st) σ1 (k x σ1)) : G X own nm cc nL ret F L en pc lv (iv n :: st) σ (if lenok n then newa σ 101 n k else none) :=
  G.chk fun ht wf => by
    have e := ex_nw wf (t := 101) (n := ix n) (s := ix n) (by decide) (by decide)
    have k1 := kk (cnt σ + 1) (nw σ 101 (ix n) (ix n)) (wf.nw (by decide))
    have h := Jvm.Pilot.CModuleEngineLaw_law_r1006_a0bf7e.g_na_long (σ := ex σ) (n := n) (k := only2 (cnt σ + 1) (Jvm.Pilot.CModuleEngineLaw_law_r1006_a0bf7e.nw (ex σ) 101 (ix n) (ix n)) (exo (k (cnt σ + 1) (nw σ 101 (ix n) (ix n))))) hd (only2_G (sk := fun x => av x :: st) (by rw [← e]; exact k1.2))
    rw [if_pos ht] at h
    refine ⟨k1.1, ?_⟩
    have e2 : Jvm.Pilot.CModuleEngineLaw_law_r1006_a0bf7e.newa (ex σ) 101 n (only2 (cnt σ + 1) (Jvm.Pilot.CModuleEngineLaw_law_r1006_a0bf7e.nw (ex σ) 101 (ix n) (ix n)) (exo (k (cnt σ + 1) (nw σ 101 (ix n) (ix n))))) = exo (newa σ 101 n k) := only2_at _ _ _
    rw [e2] at h
    exact h
theorem V.g_na_byte {n : Int32} {k : Nat → HS → Option (τ × HS)} (hd : decode cc pc = .ok (.newarray .byte, 2)) (kk : ∀ (x : Nat) (σ1 : HS), G X own nm cc nL ret F L en (pc + 2) lv (av x :: st) σ1 (k x σ1)) : G X own nm cc nL ret F L en pc lv (iv n :: st) σ (if lenok n then newa σ 102 n k else none) :=
  G.chk fun ht wf => by
    have e := ex_nw wf (t := 102) (n := ix n) (s := ix n) (by decide) (by decide)
    have k1 := kk (cnt σ + 1) (nw σ 102 (ix n) (ix n)) (wf.nw (by decide))
    have h := Jvm.Pilot.CModuleEngineLaw_law_r1006_a0bf7e.g_na_byte (σ := ex σ) (n := n) (k := only2 (cnt σ + 1) (Jvm.Pilot.CModuleEngineLaw_law_r1006_a0bf7e.nw (ex σ) 102 (ix n) (ix n)) (exo (k (cnt σ + 1) (nw σ 102 (ix n) (ix n))))) hd (only2_G (sk := fun x => av x :: st) (by rw [← e]; exact k1.2))
    rw [if_pos ht] at h
    refine ⟨k1.1, ?_⟩
    have e2 : Jvm.Pilot.CModuleEngineLaw_law_r1006_a0bf7e.newa (ex σ) 102 n (only2 (cnt σ + 1) (Jvm.Pilot.CModuleEngineLaw_law_r1006_a0bf7e.nw (ex σ) 102 (ix n) (ix n)) (exo (k (cnt σ + 1) (nw σ 102 (ix n) (ix n))))) = exo (newa σ 102 n k) := only2_at _ _ _
    rw [e2] at h
    exact h
theorem V.g_na_bool {n : Int32} {k : Nat → HS → Option (τ × HS)} (hd : decode cc pc = .ok (.newarray .boolean, 2)) (kk : ∀ (x : Nat) (σ1 : HS), G X own nm cc nL ret F L en (pc + 2) lv (av x :: st) σ1 (k x σ1)) : G X own nm cc nL ret F L en pc lv (iv n :: st) σ (if lenok n then newa σ 103 n k else none) :=
  G.chk fun ht wf => by
    have e := ex_nw wf (t := 103) (n := ix n) (s := ix n) (by decide) (by decide)
    have k1 := kk (cnt σ + 1) (nw σ 103 (ix n) (ix n)) (wf.nw (by decide))
    have h := Jvm.Pilot.CModuleEngineLaw_law_r1006_a0bf7e.g_na_bool (σ := ex σ) (n := n) (k := only2 (cnt σ + 1) (Jvm.Pilot.CModuleEngineLaw_law_r1006_a0bf7e.nw (ex σ) 103 (ix n) (ix n)) (exo (k (cnt σ + 1) (nw σ 103 (ix n) (ix n))))) hd (only2_G (sk := fun x => av x :: st) (by rw [← e]; exact k1.2))
    rw [if_pos ht] at h
    refine ⟨k1.1, ?_⟩
    have e2 : Jvm.Pilot.CModuleEngineLaw_law_r1006_a0bf7e.newa (ex σ) 103 n (only2 (cnt σ + 1) (Jvm.Pilot.CModuleEngineLaw_law_r1006_a0bf7e.nw (ex σ) 103 (ix n) (ix n)) (exo (k (cnt σ + 1) (nw σ 103 (ix n) (ix n))))) = exo (newa σ 103 n k) := only2_at _ _ _
    rw [e2] at h
    exact h
theorem V.g_anewarray (ai : Nat) {idx : Nat} {Cn : String} {n : Int32} {k : Nat → HS → Option (τ × HS)} (hty : AT[ai]? = some (.object Cn)) (hcl : Cond.classLink own idx Cn ∈ lw_all) (hao : Cn ∈ AOs) (hd : decode cc pc = .ok (.anewarray idx, 3))
    (kk : ∀ (x : Nat) (σ1 : HS), G X own nm cc nL ret F L en (pc + 3) lv (av x :: st) σ1 (k x σ1)) : G X own nm cc nL ret F L en pc lv (iv n :: st) σ (if lenok n then newa σ (100 + ai) n k else none) :=
  G.chk fun ht wf => by
    have e := ex_nw wf (t := 100 + ai) (n := ix n) (s := ix n) (by omega) (by omega)
    have k1 := kk (cnt σ + 1) (nw σ (100 + ai) (ix n) (ix n)) (wf.nw (by omega))
    have h := Jvm.Pilot.CModuleEngineLaw_law_r1006_a0bf7e.g_anewarray (σ := ex σ) (n := n) (k := only2 (cnt σ + 1) (Jvm.Pilot.CModuleEngineLaw_law_r1006_a0bf7e.nw (ex σ) (100 + ai) (ix n) (ix n)) (exo (k (cnt σ + 1) (nw σ (100 + ai) (ix n) (ix n))))) ai hty hcl hao hd (only2_G (sk := fun x => av x :: st) (by rw [← e]; exact k1.2))
    rw [if_pos ht] at h
    refine ⟨k1.1, ?_⟩
    have e2 : Jvm.Pilot.CModuleEngineLaw_law_r1006_a0bf7e.newa (ex σ) (100 + ai) n (only2 (cnt σ + 1) (Jvm.Pilot.CModuleEngineLaw_law_r1006_a0bf7e.nw (ex σ) (100 + ai) (ix n) (ix n)) (exo (k (cnt σ + 1) (nw σ (100 + ai) (ix n) (ix n))))) = exo (newa σ (100 + ai) n k) := only2_at _ _ _
    rw [e2] at h
    exact h
theorem V.g_newexc {icl ic ci : Nat} {q : vw_C} {k : Nat → HS → Option (τ × HS)} (hq : CL[ci]? = some q) (hN : q.2.2 = 0) (hexA : Cx X own nm cc nL ret F L → ∀ a ∈ exAt q.1 ["java/lang/RuntimeException", "java/lang/Exception"], a.before (cxa X) (cxs X) = true) (hfit : Bundle.fit q.1 = true) (hcl : Cond.classLink own icl q.1 ∈ lw_all) (hins : Cond.instantiable q.1 6 ∈ lw_all) (hini : Cond.initialized q.1 ∈ lw_all)
    (hlk : Cond.methodLink own ic (Bundle.init0 q.1) ∈ lw_all ∨ ∃ host, Cond.methodLinkNest own ic (Bundle.init0 q.1) host ∈ lw_tbl) (hF : 5 < F) (hL : wt st + 81 ≤ L) (hd1 : decode cc pc = .ok (.new icl, 3)) (hd2 : decode cc (pc + 3) = .ok (.dup, 1)) (hd3 : decode cc (pc + 4) = .ok (.invokespecial ic, 3))
    (kk : ∀ (x : Nat) (σ1 : HS), G X own nm cc nL ret F L en (pc + 7) lv (av x :: st) σ1 (k x σ1)) (h3 : ci ≠ 3 := by decide) : G X own nm cc nL ret F L en pc lv st σ (newo σ (ci + 1) 6 k) := fun wf => by
  have e := ex_nw wf (t := ci + 1) (n := 0) (s := 6) (by omega) (by omega)
  have k1 := kk (cnt σ + 1) (nw σ (ci + 1) 0 6) (wf.nw (by omega))
  have h := Jvm.Pilot.CModuleEngineLaw_law_r1006_a0bf7e.g_newexc (σ := ex σ) (k := only2 (cnt σ + 1) (Jvm.Pilot.CModuleEngineLaw_law_r1006_a0bf7e.nw (ex σ) (ci + 1) 0 6) (exo (k (cnt σ + 1) (nw σ (ci + 1) 0 6)))) hq hN hexA hfit hcl hins hini hlk hF hL hd1 hd2 hd3 (only2_G (sk := fun x => av x :: st) (by rw [← e]; exact k1.2))
  refine ⟨k1.1, ?_⟩
  have e2 : Jvm.Pilot.CModuleEngineLaw_law_r1006_a0bf7e.newo (ex σ) (ci + 1) 6 (only2 (cnt σ + 1) (Jvm.Pilot.CModuleEngineLaw_law_r1006_a0bf7e.nw (ex σ) (ci + 1) 0 6) (exo (k (cnt σ + 1) (nw σ (ci + 1) 0 6)))) = exo (newo σ (ci + 1) 6 k) := only2_at _ _ _
  rw [e2] at h
  exact h
end VHeap

/-- contracts at level V -/
def V.Ct (y : MethodName) (cc : ByteArray) (nL : Nat) (ret : Option FieldType) (F L : Nat) {τ : Type} (en : Nat → τ → Outcome) (as : List AV) (f : HS → Option (τ × HS)) : Prop :=
  ∀ (_ : CX) (v : HS), WF v → (∀ r v', f v = some (r, v') → WF v') ∧ Jvm.Pilot.CModuleEngineLaw_law_r1006_a0bf7e.Ct y cc nL ret F L en as (only (ex v) (exo (f v)))
def V.CtW (y : MethodName) (hh : List (Nat × Nat × Nat × Nat)) (cc : ByteArray) (nL : Nat) (ret : Option FieldType) (F L : Nat) {τ : Type} (en : Nat → τ → Outcome) (as : List AV) (f : HS → Option (τ × HS)) : Prop :=
  ∀ (_ : CX) (v : HS), WF v → (∀ r v', f v = some (r, v') → WF v') ∧ Jvm.Pilot.CModuleEngineLaw_law_r1006_a0bf7e.CtW y hh cc nL ret F L en as (only (ex v) (exo (f v)))
theorem V.Ct.of {y : MethodName} {own nm desc : String} {cc : ByteArray} {nL : Nat} {ret : Option FieldType} {F L : Nat} {τ : Type} {en : Nat → τ → Outcome} {as : List AV} {f : HS → Option (τ × HS)} (hy : y = ⟨own, nm, desc⟩) (hpl : plainName own = true) (hwt : wt as ≤ nL) (hhn : hnd own nm = [])
    (h : ∀ (X : CX) (σ : HS), G X own nm cc nL ret F L (en (cxz X)) 0 (entL 0 as) [] σ (f σ)) : Ct y cc nL ret F L en as f :=
  fun X v wf => ⟨(h X v wf).1, Jvm.Pilot.CModuleEngineLaw_law_r1006_a0bf7e.Ct.of hy hpl hwt hhn (fun X σ => only_G (h X v wf).2 σ)⟩
theorem V.CtW.of {y : MethodName} {own nm desc : String} {hh : List (Nat × Nat × Nat × Nat)} {cc : ByteArray} {nL : Nat} {ret : Option FieldType} {F L : Nat} {τ : Type} {en : Nat → τ → Outcome} {as : List AV} {f : HS → Option (τ × HS)} (hy : y = ⟨own, nm, desc⟩) (hpl : plainName own = true) (hwt : wt as ≤ nL) (hhn : hnd own nm = hh)
    (h : ∀ (X : CX) (σ : HS), G X own nm cc nL ret F L (en (cxz X)) 0 (entL 0 as) [] σ (f σ)) : CtW y hh cc nL ret F L en as f :=
  fun X v wf => ⟨(h X v wf).1, Jvm.Pilot.CModuleEngineLaw_law_r1006_a0bf7e.CtW.of hy hpl hwt hhn (fun X σ => only_G (h X v wf).2 σ)⟩
def V.cl {τ β : Type} (o : Option (τ × HS)) (k : τ → HS → Option β) : Option β := match o with
  | none => none
  | some (r, s) => k r s
def V.clT {τ τc : Type} (o : Option ((Nat ⊕ τc) × HS)) (k : τc → HS → Option ((Nat ⊕ τ) × HS)) : Option ((Nat ⊕ τ) × HS) := match o with
  | none => none
  | some (.inl a, s) => some (.inl a, s)
  | some (.inr r, s) => k r s
def V.clH {τ τc : Type} (o : Option ((Nat ⊕ τc) × HS)) (h : Nat → HS → Option (τ × HS)) (k : τc → HS → Option (τ × HS)) : Option (τ × HS) := match o with
  | none => none
  | some (.inl a, s) => h a s
  | some (.inr r, s) => k r s
section VCalls
variable {X : CX} {own nm : String} {cc : ByteArray} {nL : Nat} {ret : Option FieldType} {F L : Nat} {τ : Type} {en : τ → Outcome} {en0 : τ → Outcome} {pc : Nat} {lv : List (Nat × AV)} {st : List AV} {σ : V.HS}
  {idx ci n : Nat} {y : MethodName} {hh : List (Nat × Nat × Nat × Nat)} {bytes : ByteArray} {maxL Fc Lc : Nat} {rt : Option FieldType} {τc : Type} {enc : Nat → τc → Outcome} {push : τc → List AV → List AV} {x : Nat} {as : List AV}
theorem V.g_callV {fc : HS → Option (τc × HS)} {k : τc → HS → Option (τ × HS)} {q : vw_C} {ty : Nat → FieldType} (hq : CL[ci]? = some q) (hct : CT[ci]? = some ty) (hyc : y.cls = q.1) (hin : Cond.instanceMethod y ∈ lw_all) (hse : Cond.selects q.1 y y ∈ lw_all) (hm : MD own idx y bytes maxL rt n) (hC : Ct y bytes maxL rt Fc Lc enc (av x :: as) fc) (hn : as.length = n) (hw8 : wt st ≤ 8) (hF : Fc + 1 ≤ F) (hL : 8 + (maxL + 11) + Lc ≤ L) (hp : Pu enc push) (hd : decode cc pc = .ok (.invokevirtual idx, 3))
    (kk : ∀ (r : τc) (σ1 : HS), G X own nm cc nL ret F L en (pc + 3) lv (push r st) σ1 (k r σ1)) : G X own nm cc nL ret F L en pc lv (rvs as (av x :: st)) σ (if tg σ x = ci + 1 then cl (fc σ) k else none) := G.chk fun ht wf => by
  have hC' := hC X σ wf
  cases hf : fc σ with
  | none => exact ⟨(fun _ _ h => by cases h), Jvm.Pilot.CModuleEngineLaw_law_r1006_a0bf7e.G.nul⟩
  | some w =>
    obtain ⟨r1, v1⟩ := w
    have k1 := kk r1 v1 (hC'.1 r1 v1 hf)
    have h := Jvm.Pilot.CModuleEngineLaw_law_r1006_a0bf7e.g_callV (σ := ex σ) (x := x) (k := only2 r1 (ex v1) (exo (k r1 v1))) hq hct hyc hin hse hm hC'.2 hn hw8 hF hL hp hd (only2_G (sk := fun r => push r st) k1.2)
    rw [ex_tg (by omega), if_pos ht] at h
    rw [only_at, hf] at h
    have e2 : Jvm.Pilot.CModuleEngineLaw_law_r1006_a0bf7e.cl (exo (some (r1, v1))) (only2 r1 (ex v1) (exo (k r1 v1))) = exo (k r1 v1) := only2_at _ _ _
    rw [e2] at h
    exact ⟨k1.1, h⟩
theorem V.g_callS {fc : HS → Option (τc × HS)} {k : τc → HS → Option (τ × HS)} (hst : Cond.static y ∈ lw_all) (hm : MD own idx y bytes maxL rt n) (hC : Ct y bytes maxL rt Fc Lc enc as fc) (hn : as.length = n) (hw8 : wt st ≤ 8) (hF : Fc + 1 ≤ F) (hL : 8 + (maxL + 11) + Lc ≤ L) (hp : Pu enc push) (hd : decode cc pc = .ok (.invokestatic idx, 3))
    (kk : ∀ (r : τc) (σ1 : HS), G X own nm cc nL ret F L en (pc + 3) lv (push r st) σ1 (k r σ1)) : G X own nm cc nL ret F L en pc lv (rvs as st) σ (cl (fc σ) k) := fun wf => by
  have hC' := hC X σ wf
  cases hf : fc σ with
  | none => exact ⟨(fun _ _ h => by cases h), Jvm.Pilot.CModuleEngineLaw_law_r1006_a0bf7e.G.nul⟩
  | some w =>
    obtain ⟨r1, v1⟩ := w
    have k1 := kk r1 v1 (hC'.1 r1 v1 hf)
    have h := Jvm.Pilot.CModuleEngineLaw_law_r1006_a0bf7e.g_callS (σ := ex σ) (k := only2 r1 (ex v1) (exo (k r1 v1))) hst hm hC'.2 hn hw8 hF hL hp hd (only2_G (sk := fun r => push r st) k1.2)
    skip
    rw [only_at, hf] at h
    have e2 : Jvm.Pilot.CModuleEngineLaw_law_r1006_a0bf7e.cl (exo (some (r1, v1))) (only2 r1 (ex v1) (exo (k r1 v1))) = exo (k r1 v1) := only2_at _ _ _
    rw [e2] at h
    exact ⟨k1.1, h⟩
theorem V.g_callI {fc : HS → Option (τc × HS)} {k : τc → HS → Option (τ × HS)} (hyn : y.name = "<init>") (hin : Cond.instanceMethod y ∈ lw_all) (hm : MD own idx y bytes maxL none n) (hC : Ct y bytes maxL none Fc Lc enc (av x :: as) fc) (hn : as.length = n) (hw8 : wt st ≤ 8) (hF : Fc + 1 ≤ F) (hL : 8 + (maxL + 11) + Lc ≤ L) (hp : Pu enc push) (hd : decode cc pc = .ok (.invokespecial idx, 3))
    (kk : ∀ (r : τc) (σ1 : HS), G X own nm cc nL ret F L en (pc + 3) lv (push r st) σ1 (k r σ1)) : G X own nm cc nL ret F L en pc lv (rvs as (av x :: st)) σ (if ¬ x = 0 then cl (fc σ) k else none) := G.chk fun ht wf => by
  have hC' := hC X σ wf
  cases hf : fc σ with
  | none => exact ⟨(fun _ _ h => by cases h), Jvm.Pilot.CModuleEngineLaw_law_r1006_a0bf7e.G.nul⟩
  | some w =>
    obtain ⟨r1, v1⟩ := w
    have k1 := kk r1 v1 (hC'.1 r1 v1 hf)
    have h := Jvm.Pilot.CModuleEngineLaw_law_r1006_a0bf7e.g_callI (σ := ex σ) (x := x) (k := only2 r1 (ex v1) (exo (k r1 v1))) hyn hin hm hC'.2 hn hw8 hF hL hp hd (only2_G (sk := fun r => push r st) k1.2)
    rw [if_pos ht] at h
    rw [only_at, hf] at h
    have e2 : Jvm.Pilot.CModuleEngineLaw_law_r1006_a0bf7e.cl (exo (some (r1, v1))) (only2 r1 (ex v1) (exo (k r1 v1))) = exo (k r1 v1) := only2_at _ _ _
    rw [e2] at h
    exact ⟨k1.1, h⟩
theorem V.g_callVW {fc : HS → Option (τc × HS)} {k : τc → HS → Option (τ × HS)}   {q : vw_C} {ty : Nat → FieldType} (hq : CL[ci]? = some q) (hct : CT[ci]? = some ty) (hin : Cond.instanceMethod y ∈ lw_all) (hse : Cond.selects q.1 y y ∈ lw_all) (hm : MDW own idx y bytes maxL rt hh n) (hC : CtW y hh bytes maxL rt Fc Lc enc (av x :: as) fc) (hn : as.length = n) (hw8 : wt st ≤ 8) (hF : Fc + 1 ≤ F) (hL : 8 + (maxL + 11) + Lc ≤ L) (hp : Pu enc push) (hd : decode cc pc = .ok (.invokevirtual idx, 3))
    (kk : ∀ (r : τc) (σ1 : HS), G X own nm cc nL ret F L en (pc + 3) lv (push r st) σ1 (k r σ1)) : G X own nm cc nL ret F L en pc lv (rvs as (av x :: st)) σ (if tg σ x = ci + 1 then cl (fc σ) k else none) := G.chk fun ht wf => by
  have hC' := hC X σ wf
  cases hf : fc σ with
  | none => exact ⟨(fun _ _ h => by cases h), Jvm.Pilot.CModuleEngineLaw_law_r1006_a0bf7e.G.nul⟩
  | some w =>
    obtain ⟨r1, v1⟩ := w
    have k1 := kk r1 v1 (hC'.1 r1 v1 hf)
    have h := Jvm.Pilot.CModuleEngineLaw_law_r1006_a0bf7e.g_callVW (σ := ex σ) (x := x) (k := only2 r1 (ex v1) (exo (k r1 v1))) hq hct hin hse hm hC'.2 hn hw8 hF hL hp hd (only2_G (sk := fun r => push r st) k1.2)
    rw [ex_tg (by omega), if_pos ht] at h
    rw [only_at, hf] at h
    have e2 : Jvm.Pilot.CModuleEngineLaw_law_r1006_a0bf7e.cl (exo (some (r1, v1))) (only2 r1 (ex v1) (exo (k r1 v1))) = exo (k r1 v1) := only2_at _ _ _
    rw [e2] at h
    exact ⟨k1.1, h⟩
theorem V.g_callF {fc : HS → Option (τc × HS)} {k : τc → HS → Option (τ × HS)}   {nmy dsy : String} {xi : MethodName} {count : Nat} (hxi : xi = fwy "ModuleEngine$Types" nmy dsy) (hyi : y = fwy "ModuleEngine$ModuleTypes" nmy dsy) (hF2 : (nmy, dsy) ∈ FWs) (hl : Cond.methodLink own idx xi ∈ lw_all) (hse : Cond.selects "ModuleEngine$ModuleTypes" xi y ∈ lw_all) (hin : Cond.instanceMethod y ∈ lw_all) (hi : Cond.initialized y.cls ∈ lw_all) (hco : Cond.code y bytes maxL rt ∈ lw_all) (hy3 : (parseMethodDescriptor dsy).map (fun d => d.parameters.length) = some n)
    (hC : Ct y bytes maxL rt Fc Lc enc (av x :: as) fc) (hn : as.length = n) (hw8 : wt st ≤ 8) (hF : Fc + 1 ≤ F) (hL : 8 + (maxL + 11) + Lc ≤ L) (hp : Pu enc push) (hd : decode cc pc = .ok (.invokeinterface idx count, 5))
    (kk : ∀ (r : τc) (σ1 : HS), G X own nm cc nL ret F L en (pc + 5) lv (push r st) σ1 (k r σ1)) : G X own nm cc nL ret F L en pc lv (rvs as (av x :: st)) σ (if tg σ x = 10 then cl (fc σ) k else none) := G.chk fun ht wf => by
  have hC' := hC X σ wf
  cases hf : fc σ with
  | none => exact ⟨(fun _ _ h => by cases h), Jvm.Pilot.CModuleEngineLaw_law_r1006_a0bf7e.G.nul⟩
  | some w =>
    obtain ⟨r1, v1⟩ := w
    have k1 := kk r1 v1 (hC'.1 r1 v1 hf)
    have h := Jvm.Pilot.CModuleEngineLaw_law_r1006_a0bf7e.g_callF (σ := ex σ) (x := x) (k := only2 r1 (ex v1) (exo (k r1 v1))) hxi hyi hF2 hl hse hin hi hco hy3 hC'.2 hn hw8 hF hL hp hd (only2_G (sk := fun r => push r st) k1.2)
    rw [ex_tg (by omega), if_pos ht] at h
    rw [only_at, hf] at h
    have e2 : Jvm.Pilot.CModuleEngineLaw_law_r1006_a0bf7e.cl (exo (some (r1, v1))) (only2 r1 (ex v1) (exo (k r1 v1))) = exo (k r1 v1) := only2_at _ _ _
    rw [e2] at h
    exact ⟨k1.1, h⟩
theorem V.g_callVT {fc : HS → Option ((Nat ⊕ τc) × HS)} {k : τc → HS → Option ((Nat ⊕ τ) × HS)}  {q : vw_C} {ty : Nat → FieldType} (hq : CL[ci]? = some q) (hct : CT[ci]? = some ty) (hyc : y.cls = q.1) (hin : Cond.instanceMethod y ∈ lw_all) (hse : Cond.selects q.1 y y ∈ lw_all) (hl : Cond.methodLink own idx y ∈ lw_all) (hm : MD own idx y bytes maxL rt n) (hC : Ct y bytes maxL rt Fc Lc (fun z => enX (enc z) z) (av x :: as) fc) (hn : as.length = n) (hw8 : wt st ≤ 8) (hF : Fc + 1 ≤ F) (hL : 8 + (maxL + 11) + Lc ≤ L) (hp : Pu enc push) (hout : (hnd own nm).all (fun q => decide (pc < q.1) || decide (q.2.1 ≤ pc)) = true) (hd : decode cc pc = .ok (.invokevirtual idx, 3))
    (kk : ∀ (r : τc) (σ1 : HS), G X own nm cc nL ret F L (enX en0 (cxz X)) (pc + 3) lv (push r st) σ1 (k r σ1)) : G X own nm cc nL ret F L (enX en0 (cxz X)) pc lv (rvs as (av x :: st)) σ (if tg σ x = ci + 1 then clT (fc σ) k else none) := G.chk fun ht wf => by
  have hC' := hC X σ wf
  cases hf : fc σ with
  | none => exact ⟨(fun _ _ h => by cases h), Jvm.Pilot.CModuleEngineLaw_law_r1006_a0bf7e.G.nul⟩
  | some w =>
    obtain ⟨w, v1⟩ := w
    cases w with
    | inl a =>
      have h := Jvm.Pilot.CModuleEngineLaw_law_r1006_a0bf7e.g_callVT (X := X) (nL := nL) (ret := ret) (lv := lv) (σ := ex σ) (x := x) (en0 := en0) (k := fun _ _ => none) hq hct hyc hin hse hl hm hC'.2 hn hw8 hF hL hp hout hd (fun _ _ => Jvm.Pilot.CModuleEngineLaw_law_r1006_a0bf7e.G.nul)
      rw [ex_tg (by omega), if_pos ht, only_at, hf] at h
      exact ⟨fun r v' e => by cases e; exact hC'.1 _ _ hf, h⟩
    | inr r1 =>
      have k1 := kk r1 v1 (hC'.1 _ v1 hf)
      have h := Jvm.Pilot.CModuleEngineLaw_law_r1006_a0bf7e.g_callVT (σ := ex σ) (x := x) (k := only2 r1 (ex v1) (exo (k r1 v1))) hq hct hyc hin hse hl hm hC'.2 hn hw8 hF hL hp hout hd (only2_G (sk := fun r => push r st) k1.2)
      rw [ex_tg (by omega), if_pos ht, only_at, hf] at h
      have e2 : Jvm.Pilot.CModuleEngineLaw_law_r1006_a0bf7e.clT (exo (some ((.inr r1 : Nat ⊕ τc), v1))) (only2 r1 (ex v1) (exo (k r1 v1))) = exo (k r1 v1) := only2_at _ _ _
      rw [e2] at h
      exact ⟨k1.1, h⟩
theorem V.g_callVH {fc : HS → Option ((Nat ⊕ τc) × HS)} {k : τc → HS → Option (τ × HS)} {h : Nat → HS → Option (τ × HS)}  {q qe : vw_C} {ty tye : Nat → FieldType} (a b hpc ct ce : Nat) (hq : CL[ci]? = some q) (hct : CT[ci]? = some ty) (hqe : CL[ce]? = some qe) (hcte : CT[ce]? = some tye) (hyc : y.cls = q.1) (hin : Cond.instanceMethod y ∈ lw_all) (hse : Cond.selects q.1 y y ∈ lw_all) (hl : Cond.methodLink own idx y ∈ lw_all) (hm : MD own idx y bytes maxL rt n) (hC : Ct y bytes maxL rt Fc Lc (fun z => enX (enc z) z) (av x :: as) fc) (hn : as.length = n) (hw8 : wt st ≤ 8) (hF : Fc + 1 ≤ F) (hL : 8 + (maxL + 11) + Lc ≤ L) (hp : Pu enc push)
    (hhn : hnd own nm = [(a, b, hpc, ct)]) (hcov : a ≤ pc ∧ pc < b) (hct0 : ct ≠ 0) (hcl : Cond.classLink own ct qe.1 ∈ lw_all) (hd : decode cc pc = .ok (.invokevirtual idx, 3))
    (kk : ∀ (r : τc) (σ1 : HS), G X own nm cc nL ret F L en (pc + 3) lv (push r st) σ1 (k r σ1)) (kh : ∀ (w : Nat) (σ1 : HS), G X own nm cc nL ret F L en hpc lv [av w] σ1 (h w σ1)) : G X own nm cc nL ret F L en pc lv (rvs as (av x :: st)) σ (if tg σ x = ci + 1 then clH (fc σ) (fun w σ1 => if tg σ1 w = ce + 1 then h w σ1 else none) k else none) := G.chk fun ht wf => by
  have hC' := hC X σ wf
  cases hf : fc σ with
  | none => exact ⟨(fun _ _ h => by cases h), Jvm.Pilot.CModuleEngineLaw_law_r1006_a0bf7e.G.nul⟩
  | some w =>
    obtain ⟨w, v1⟩ := w
    cases w with
    | inl w =>
      by_cases hte : tg v1 w = ce + 1
      · have k1 := kh w v1 (hC'.1 _ v1 hf)
        have h' := Jvm.Pilot.CModuleEngineLaw_law_r1006_a0bf7e.g_callVH (σ := ex σ) (x := x) (k := fun _ _ => none) (h := only2 w (ex v1) (exo (h w v1))) a b hpc ct ce hq hct hqe hcte hyc hin hse hl hm hC'.2 hn hw8 hF hL hp hhn hcov hct0 hcl hd (fun _ _ => Jvm.Pilot.CModuleEngineLaw_law_r1006_a0bf7e.G.nul) (only2_G (sk := fun w => [av w]) k1.2)
        rw [ex_tg (by omega), if_pos ht, only_at, hf] at h'
        have e2 : Jvm.Pilot.CModuleEngineLaw_law_r1006_a0bf7e.clH (exo (some ((.inl w : Nat ⊕ τc), v1))) (fun w σ1 => if Jvm.Pilot.CModuleEngineLaw_law_r1006_a0bf7e.tg σ1 w = ce + 1 then only2 w (ex v1) (exo (h w v1)) w σ1 else none) (fun (_ : τc) _ => none) = exo (h w v1) := by
          show (if Jvm.Pilot.CModuleEngineLaw_law_r1006_a0bf7e.tg (ex v1) w = ce + 1 then only2 w (ex v1) (exo (h w v1)) w (ex v1) else none) = _
          rw [ex_tg (by omega), if_pos hte]; exact only2_at _ _ _
        have e3 : clH (some ((.inl w : Nat ⊕ τc), v1)) (fun w σ1 => if tg σ1 w = ce + 1 then h w σ1 else none) k = h w v1 := if_pos hte
        rw [e3]
        refine ⟨k1.1, ?_⟩
        rw [← e2]
        exact h'
      · have e3 : clH (some ((.inl w : Nat ⊕ τc), v1)) (fun w σ1 => if tg σ1 w = ce + 1 then h w σ1 else none) k = none := if_neg hte
        rw [e3]
        exact ⟨(fun _ _ h => by cases h), Jvm.Pilot.CModuleEngineLaw_law_r1006_a0bf7e.G.nul⟩
    | inr r1 =>
      have k1 := kk r1 v1 (hC'.1 _ v1 hf)
      have h' := Jvm.Pilot.CModuleEngineLaw_law_r1006_a0bf7e.g_callVH (σ := ex σ) (x := x) (k := only2 r1 (ex v1) (exo (k r1 v1))) (h := fun _ _ => none) a b hpc ct ce hq hct hqe hcte hyc hin hse hl hm hC'.2 hn hw8 hF hL hp hhn hcov hct0 hcl hd (only2_G (sk := fun r => push r st) k1.2) (fun _ _ => Jvm.Pilot.CModuleEngineLaw_law_r1006_a0bf7e.G.nul)
      rw [ex_tg (by omega), if_pos ht, only_at, hf] at h'
      have e2 : Jvm.Pilot.CModuleEngineLaw_law_r1006_a0bf7e.clH (exo (some ((.inr r1 : Nat ⊕ τc), v1))) (fun w σ1 => if Jvm.Pilot.CModuleEngineLaw_law_r1006_a0bf7e.tg σ1 w = ce + 1 then none else none) (only2 r1 (ex v1) (exo (k r1 v1))) = exo (k r1 v1) := only2_at _ _ _
      rw [e2] at h'
      exact ⟨k1.1, h'⟩
theorem V.g_athrow {a : Nat} (hout : (hnd own nm).all (fun q => decide (pc < q.1) || decide (q.2.1 ≤ pc)) = true) (hd : decode cc pc = .ok (.athrow, 1)) : G X own nm cc nL ret F L (enX en0 (cxz X)) pc lv (av a :: st) σ (if ¬ a = 0 then some (.inl a, σ) else none) := G.chk fun ha wf => ⟨fun r v' e => by cases e; exact wf, by
  have h := Jvm.Pilot.CModuleEngineLaw_law_r1006_a0bf7e.g_athrow (X := X) (cc := cc) (nL := nL) (ret := ret) (F := F) (L := L) (en0 := en0) (lv := lv) (st := st) (σ := ex σ) (a := a) hout hd
  rw [if_pos ha] at h
  exact h⟩
end VCalls
