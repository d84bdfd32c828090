/-! THE ABSTRACT HEAP, how it stands for the machine's heap, and the judgement G of a walk over it -/
abbrev AV : Type := Int32 ⊕ Int64 ⊕ Nat
abbrev iv (x : Int32) : AV := Sum.inl x
abbrev jv (x : Int64) : AV := Sum.inr (Sum.inl x)
abbrev av (x : Nat) : AV := Sum.inr (Sum.inr x)
/-- a reference as a number: 0 is null, x the cell z + x -/
def rv (z x : Nat) : Value := match x with
  | 0 => .null
  | n + 1 => .ref (z + (n + 1))
def vl (z : Nat) (a : AV) : Value := match a with
  | .inl x => .int x
  | .inr (.inl y) => .long y
  | .inr (.inr r) => rv z r
theorem rv_pos {z x : Nat} (h : 1 ≤ x) : rv z x = .ref (z + x) := by
  cases x with
  | zero => exact absurd h (by decide)
  | succ n => rfl
theorem rv_cases (z x : Nat) : rv z x = .null ∨ ∃ a, rv z x = .ref a := by
  cases x with
  | zero => exact Or.inl rfl
  | succ n => exact Or.inr ⟨_, rfl⟩
theorem rv_cat (z x : Nat) : (rv z x).category = 1 := by cases x <;> rfl
/-- kind of each cell, length, ints, longs, references, how many cells, how many slots -/
abbrev HS : Type := (Nat → Nat) × (Nat → Nat) × (Nat → Nat → Int32) × (Nat → Nat → Int64) × (Nat → Nat → Nat) × Nat × Nat
def tg (σ : HS) (x : Nat) : Nat := σ.1 x
def ln (σ : HS) (x : Nat) : Nat := σ.2.1 x
def gI (σ : HS) (x k : Nat) : Int32 := σ.2.2.1 x k
def gJ (σ : HS) (x k : Nat) : Int64 := σ.2.2.2.1 x k
def gR (σ : HS) (x k : Nat) : Nat := σ.2.2.2.2.1 x k
def cnt (σ : HS) : Nat := σ.2.2.2.2.2.1
def slt (σ : HS) : Nat := σ.2.2.2.2.2.2
def up1 {α : Type} (f : Nat → α) (x : Nat) (v : α) : Nat → α := fun y => if y = x then v else f y
def up2 {α : Type} (f : Nat → Nat → α) (x k : Nat) (v : α) : Nat → Nat → α := fun y j => if y = x ∧ j = k then v else f y j
def sI (σ : HS) (x k : Nat) (v : Int32) : HS := (σ.1, σ.2.1, up2 σ.2.2.1 x k v, σ.2.2.2.1, σ.2.2.2.2.1, σ.2.2.2.2.2.1, σ.2.2.2.2.2.2)
def sJ (σ : HS) (x k : Nat) (v : Int64) : HS := (σ.1, σ.2.1, σ.2.2.1, up2 σ.2.2.2.1 x k v, σ.2.2.2.2.1, σ.2.2.2.2.2.1, σ.2.2.2.2.2.2)
def sR (σ : HS) (x k : Nat) (v : Nat) : HS := (σ.1, σ.2.1, σ.2.2.1, σ.2.2.2.1, up2 σ.2.2.2.2.1 x k v, σ.2.2.2.2.2.1, σ.2.2.2.2.2.2)
/-- a new cell of kind t, length n, s slots; its number is cnt + 1 -/
def nw (σ : HS) (t n s : Nat) : HS := (up1 σ.1 (cnt σ + 1) t, up1 σ.2.1 (cnt σ + 1) n, up1 σ.2.2.1 (cnt σ + 1) (fun _ => 0), up1 σ.2.2.2.1 (cnt σ + 1) (fun _ => 0), up1 σ.2.2.2.2.1 (cnt σ + 1) (fun _ => 0), cnt σ + 1, slt σ + s)
/-- 0: ints, 1: longs, 2: references -/
def fk (ty : FieldType) : Nat := match ty with
  | .long => 1
  | .object _ => 2
  | .array _ => 2
  | _ => 0
def fkOk (ty : FieldType) : Bool := match ty with
  | .float => false
  | .double => false
  | _ => true
def cv (z : Nat) (σ : HS) (x t k : Nat) : Value := match t with
  | 0 => .int (gI σ x k)
  | 1 => .long (gJ σ x k)
  | _ => rv z (gR σ x k)
abbrev CL : List vw_C := [(RX0, TX0, 13), (RX1, TX1, 10), (RX2, TX2, 21), (RX3, TX3, 2), (RX4, TX4, 4), (RX5, TX5, 6), (RX6, TX6, 18), (RX7, TX7, 17), (RX8, TX8, 9), (RX9, TX9, 1), (RX10, TX10, 8), (RX11, TX11, 17), (RX12, TX12, 8), (RX13, TX13, 27), (RX14, TX14, 7), (RX15, TX15, 8), (RX16, TX16, 26), (RX17, TX17, 101), (RX18, TX18, 0), (RX19, TX19, 4), (RX20, TX20, 58), (RJ4, TJ4, 0)]
abbrev CT : List (Nat → FieldType) := [tyX0, tyX1, tyX2, tyX3, tyX4, tyX5, tyX6, tyX7, tyX8, tyX9, tyX10, tyX11, tyX12, tyX13, tyX14, tyX15, tyX16, tyX17, tyX18, tyX19, tyX20, tyJ4]
abbrev AT : List FieldType := [.int, .long, .byte, .boolean, .object "ModuleEngine$Row", .object "ModuleEngine$Module", .object "ModuleEngine$Walker", .object "ModuleEngineModel$Plan"]
/-- the numbers of the classes, their slots, the numbers of the array classes -/
abbrev DD : Type := (Nat → ClassId) × (Nat → Nat → Nat) × (Nat → ClassId)
/-- kinds: class number + 1; 100 + array's number -/
def RC (z : Nat) (D : DD) (σ : HS) (x : Nat) (H : Heap) : Prop :=
  (∀ (ci : Nat) (q : vw_C) (ty : Nat → FieldType), tg σ x = ci + 1 → CL[ci]? = some q → CT[ci]? = some ty → t_OB (z + x) (D.1 ci) q.2.2 (D.2.1 ci) H (fun k => cv z σ x (fk (ty k)) k)) ∧
  ∀ (ai : Nat) (ty : FieldType), tg σ x = 100 + ai → AT[ai]? = some ty → H[z + x]? = some (arrV (D.2.2 ai) (ln σ x) (fun j => cv z σ x (fk ty) j))
def Rep (z : Nat) (D : DD) (σ : HS) (H : Heap) : Prop := H.size = z + 1 + cnt σ ∧ ∀ x, tg σ x ≠ 0 → 1 ≤ x ∧ x ≤ cnt σ ∧ RC z D σ x H
theorem RC.kept {z : Nat} {D : DD} {σ σ' : HS} {x : Nat} {H H' : Heap} (h : RC z D σ x H) (h1 : H'[z + x]? = H[z + x]?) (h2 : tg σ' x = tg σ x) (h3 : ln σ' x = ln σ x) (h4 : ∀ t k, cv z σ' x t k = cv z σ x t k) : RC z D σ' x H' := by
  refine ⟨fun ci q ty e1 e2 e3 => ?_, fun ai ty e1 e2 => ?_⟩
  · have h5 := h.1 ci q ty (by rw [← h2]; exact e1) e2 e3
    refine (h5.kept h1).to (fun k _ => (h4 _ _).symm)
  · have h5 := h.2 ai ty (by rw [← h2]; exact e1) e2
    rw [h1, h5, h3]
    have e : (fun j => cv z σ x (fk ty) j) = (fun j => cv z σ' x (fk ty) j) := funext fun j => (h4 _ _).symm
    rw [e]
theorem Rep.upd {z : Nat} {D : DD} {σ σ' : HS} {x : Nat} {H H' : Heap} (h : Rep z D σ H) (h1 : ∀ y, tg σ' y = tg σ y) (h2 : ∀ y, ln σ' y = ln σ y) (h3 : cnt σ' = cnt σ) (h4 : ∀ y, y ≠ x → ∀ t k, cv z σ' y t k = cv z σ y t k)
    (e1 : H'.size = H.size) (e2 : ∀ q, q ≠ z + x → H'[q]? = H[q]?) (hx : tg σ x ≠ 0 → RC z D σ' x H') : Rep z D σ' H' := by
  refine ⟨by rw [e1, h3]; exact h.1, fun y hy => ?_⟩
  rw [h1] at hy
  obtain ⟨a1, a2, a3⟩ := h.2 y hy
  refine ⟨a1, by rw [h3]; exact a2, ?_⟩
  by_cases e : y = x
  · subst e; exact hx hy
  · exact a3.kept (e2 _ (by omega)) (h1 y) (h2 y) (h4 y e)
/-- a cell's object: what the tables know of its class -/
theorem Rep.obj {z : Nat} {D : DD} {σ : HS} {H : Heap} (h : Rep z D σ H) {x ci : Nat} {q : vw_C} {ty : Nat → FieldType} (ht : tg σ x = ci + 1) (hq : CL[ci]? = some q) (hty : CT[ci]? = some ty) :
    1 ≤ x ∧ t_OB (z + x) (D.1 ci) q.2.2 (D.2.1 ci) H (fun k => cv z σ x (fk (ty k)) k) := by
  obtain ⟨a1, a2, a3⟩ := h.2 x (by omega)
  exact ⟨a1, a3.1 ci q ty ht hq hty⟩
theorem Rep.arr {z : Nat} {D : DD} {σ : HS} {H : Heap} (h : Rep z D σ H) {x ai : Nat} {ty : FieldType} (ht : tg σ x = 100 + ai) (hty : AT[ai]? = some ty) :
    1 ≤ x ∧ H[z + x]? = some (arrV (D.2.2 ai) (ln σ x) (fun j => cv z σ x (fk ty) j)) := by
  obtain ⟨a1, a2, a3⟩ := h.2 x (by omega)
  exact ⟨a1, a3.2 ai ty ht hty⟩
theorem CL_small {ci : Nat} {q : vw_C} (h : CL[ci]? = some q) : ci < 22 := by
  have := (List.getElem?_eq_some_iff.mp h).1
  exact this
theorem AT_small {ai : Nat} {q : FieldType} (h : AT[ai]? = some q) : ai < 8 := by
  have := (List.getElem?_eq_some_iff.mp h).1
  exact this
theorem cv_sI_ne {z : Nat} {σ : HS} {x k : Nat} {v : Int32} {y : Nat} (h : y ≠ x) (t j : Nat) : cv z (sI σ x k v) y t j = cv z σ y t j := by
  match t with
  | 0 => simp [cv, gI, sI, up2, h]
  | 1 => rfl
  | n + 2 => rfl
theorem cv_sJ_ne {z : Nat} {σ : HS} {x k : Nat} {v : Int64} {y : Nat} (h : y ≠ x) (t j : Nat) : cv z (sJ σ x k v) y t j = cv z σ y t j := by
  match t with
  | 0 => rfl
  | 1 => simp [cv, gJ, sJ, up2, h]
  | n + 2 => rfl
theorem cv_sR_ne {z : Nat} {σ : HS} {x k : Nat} {v : Nat} {y : Nat} (h : y ≠ x) (t j : Nat) : cv z (sR σ x k v) y t j = cv z σ y t j := by
  match t with
  | 0 => rfl
  | 1 => rfl
  | n + 2 => simp [cv, gR, sR, up2, h]
/-- the cell itself, behind a store of kind t0 at place k -/
def sV (z : Nat) (σ : HS) (x k : Nat) (a : AV) : HS := match a with
  | .inl v => sI σ x k v
  | .inr (.inl v) => sJ σ x k v
  | .inr (.inr v) => sR σ x k v
def ak (a : AV) : Nat := match a with
  | .inl _ => 0
  | .inr (.inl _) => 1
  | .inr (.inr _) => 2
theorem cv_sV_ne {z : Nat} {σ : HS} {x k : Nat} {a : AV} {y : Nat} (h : y ≠ x) (t j : Nat) : cv z (sV z σ x k a) y t j = cv z σ y t j := by
  match a with
  | .inl v => exact cv_sI_ne h t j
  | .inr (.inl v) => exact cv_sJ_ne h t j
  | .inr (.inr v) => exact cv_sR_ne h t j
theorem cv_sV_at {z : Nat} {σ : HS} {x k : Nat} {a : AV} (j : Nat) {t : Nat} (ht : t = ak a) : cv z (sV z σ x k a) x t j = updV (fun j => cv z σ x t j) k (vl z a) j := by
  subst ht
  match a with
  | .inl v => by_cases h : j = k <;> simp [cv, gI, sI, up2, h, updV, vl, sV, ak]
  | .inr (.inl v) => by_cases h : j = k <;> simp [cv, gJ, sJ, up2, h, updV, vl, sV, ak]
  | .inr (.inr v) => by_cases h : j = k <;> simp [cv, gR, sR, up2, h, updV, vl, sV, ak]
/-- another kind of place of the same cell -/
theorem cv_sV_off {z : Nat} {σ : HS} {x k : Nat} {a : AV} {t j : Nat} (ht : j ≠ k) : cv z (sV z σ x k a) x t j = cv z σ x t j := by
  match a, t with
  | .inl v, 0 => simp [cv, gI, sI, up2, ht, sV]
  | .inl v, 1 => rfl
  | .inl v, n + 2 => rfl
  | .inr (.inl v), 0 => rfl
  | .inr (.inl v), 1 => simp [cv, gJ, sJ, up2, ht, sV]
  | .inr (.inl v), n + 2 => rfl
  | .inr (.inr v), 0 => rfl
  | .inr (.inr v), 1 => rfl
  | .inr (.inr v), n + 2 => simp [cv, gR, sR, up2, ht, sV]
theorem tg_sV {z : Nat} {σ : HS} {x k : Nat} {a : AV} (y : Nat) : tg (sV z σ x k a) y = tg σ y := by
  match a with
  | .inl v => rfl
  | .inr (.inl v) => rfl
  | .inr (.inr v) => rfl
theorem ln_sV {z : Nat} {σ : HS} {x k : Nat} {a : AV} (y : Nat) : ln (sV z σ x k a) y = ln σ y := by
  match a with
  | .inl v => rfl
  | .inr (.inl v) => rfl
  | .inr (.inr v) => rfl
theorem cnt_sV {z : Nat} {σ : HS} {x k : Nat} {a : AV} : cnt (sV z σ x k a) = cnt σ := by
  match a with
  | .inl v => rfl
  | .inr (.inl v) => rfl
  | .inr (.inr v) => rfl
theorem slt_sV {z : Nat} {σ : HS} {x k : Nat} {a : AV} : slt (sV z σ x k a) = slt σ := by
  match a with
  | .inl v => rfl
  | .inr (.inl v) => rfl
  | .inr (.inr v) => rfl
/-- behind a put of field k -/
theorem Rep.put {z : Nat} {D : DD} {σ : HS} {H H' : Heap} (h : Rep z D σ H) {x ci k : Nat} {q : vw_C} {ty : Nat → FieldType} (ht : tg σ x = ci + 1) (hq : CL[ci]? = some q) (hty : CT[ci]? = some ty) {a : AV} (hk : fk (ty k) = ak a)
    (e1 : H'.size = H.size) (e2 : ∀ y, y ≠ z + x → H'[y]? = H[y]?) (e3 : t_OB (z + x) (D.1 ci) q.2.2 (D.2.1 ci) H' (updV (fun k => cv z σ x (fk (ty k)) k) k (vl z a))) : Rep z D (sV z σ x k a) H' := by
  refine h.upd (x := x) tg_sV ln_sV cnt_sV (fun y hy t j => cv_sV_ne hy t j) e1 e2 (fun _ => ⟨fun ci' q' ty' a1 a2 a3 => ?_, fun ai ty' a1 a2 => ?_⟩)
  · rw [tg_sV, ht] at a1
    obtain rfl : ci = ci' := by omega
    cases hq.symm.trans a2
    cases hty.symm.trans a3
    refine e3.to (fun j _ => ?_)
    by_cases hj : j = k
    · subst hj
      rw [cv_sV_at j hk]
      simp [updV]
    · rw [cv_sV_off hj]
      simp [updV, hj]
  · rw [tg_sV, ht] at a1
    have := CL_small hq
    omega
/-- behind a store into an array -/
theorem Rep.ast {z : Nat} {D : DD} {σ : HS} {H H' : Heap} (h : Rep z D σ H) {x ai k : Nat} {ty : FieldType} (ht : tg σ x = 100 + ai) (hty : AT[ai]? = some ty) {a : AV} (hk : fk ty = ak a)
    (e1 : H'.size = H.size) (e2 : ∀ y, y ≠ z + x → H'[y]? = H[y]?) (e3 : H'[z + x]? = some ((arrV (D.2.2 ai) (ln σ x) (fun j => cv z σ x (fk ty) j)).setSlot k (vl z a))) : Rep z D (sV z σ x k a) H' := by
  refine h.upd (x := x) tg_sV ln_sV cnt_sV (fun y hy t j => cv_sV_ne hy t j) e1 e2 (fun _ => ⟨fun ci' q' ty' a1 a2 a3 => ?_, fun ai' ty' a1 a2 => ?_⟩)
  · rw [tg_sV, ht] at a1
    have := CL_small a2
    omega
  · rw [tg_sV, ht] at a1
    obtain rfl : ai = ai' := by omega
    cases hty.symm.trans a2
    rw [e3, arrV_store, ln_sV]
    have e : (fun j => cv z (sV z σ x k a) x (fk ty) j) = updV (fun j => cv z σ x (fk ty) j) k (vl z a) := funext fun j => cv_sV_at j hk
    rw [e]
theorem nw_ne {α : Type} {f : Nat → α} {x y : Nat} {v : α} (h : y ≠ x) : up1 f x v y = f y := if_neg h
theorem nw_at {α : Type} {f : Nat → α} {x : Nat} {v : α} : up1 f x v x = v := if_pos rfl
theorem cv_nw_ne {z : Nat} {σ : HS} {t n s y : Nat} (h : y ≠ cnt σ + 1) (u k : Nat) : cv z (nw σ t n s) y u k = cv z σ y u k := by
  match u with
  | 0 => show Value.int (up1 σ.2.2.1 (cnt σ + 1) (fun _ => 0) y k) = _; rw [nw_ne h]; rfl
  | 1 => show Value.long (up1 σ.2.2.2.1 (cnt σ + 1) (fun _ => 0) y k) = _; rw [nw_ne h]; rfl
  | m + 2 => show rv z (up1 σ.2.2.2.2.1 (cnt σ + 1) (fun _ => 0) y k) = _; rw [nw_ne h]; rfl
theorem cv_nw_at {z : Nat} {σ : HS} {t n s : Nat} (ty : FieldType) (h : fkOk ty = true) (k : Nat) : cv z (nw σ t n s) (cnt σ + 1) (fk ty) k = defaultValue ty := by
  have e0 : gI (nw σ t n s) (cnt σ + 1) k = 0 := by show up1 σ.2.2.1 (cnt σ + 1) (fun _ => 0) (cnt σ + 1) k = 0; rw [nw_at]
  have e1 : gJ (nw σ t n s) (cnt σ + 1) k = 0 := by show up1 σ.2.2.2.1 (cnt σ + 1) (fun _ => 0) (cnt σ + 1) k = 0; rw [nw_at]
  have e2 : gR (nw σ t n s) (cnt σ + 1) k = 0 := by show up1 σ.2.2.2.2.1 (cnt σ + 1) (fun _ => 0) (cnt σ + 1) k = 0; rw [nw_at]
  cases ty <;> first | (exact absurd h (by decide)) | (simp [fk, cv, e0, e1, e2, defaultValue, rv])
/-- behind a new cell -/
theorem Rep.new {z : Nat} {D : DD} {σ : HS} {H H' : Heap} (h : Rep z D σ H) {t n s : Nat} (e1 : H'.size = H.size + 1) (e2 : ∀ y, y < H.size → H'[y]? = H[y]?) (hx : RC z D (nw σ t n s) (cnt σ + 1) H') : Rep z D (nw σ t n s) H' := by
  refine ⟨by rw [e1, h.1]; rfl, fun y hy => ?_⟩
  by_cases e : y = cnt σ + 1
  · subst e
    exact ⟨by omega, Nat.le_refl _, hx⟩
  · have hy' : tg σ y ≠ 0 := by
      intro h0
      apply hy
      show up1 σ.1 (cnt σ + 1) t y = 0
      rw [nw_ne e]; exact h0
    obtain ⟨a1, a2, a3⟩ := h.2 y hy'
    refine ⟨a1, Nat.le_trans a2 (Nat.le_succ _), a3.kept (e2 _ (by rw [h.1]; omega)) (nw_ne e) (nw_ne e) (cv_nw_ne e)⟩
