/-- the state σ' knows less than σ -/
def V.Fg (σ σ' : HS0) : Prop := (∀ x, Jvm.Pilot.CModuleEngineLaw_law_r1006_a0bf7e.tg σ' x ≠ 0 → Jvm.Pilot.CModuleEngineLaw_law_r1006_a0bf7e.tg σ x = Jvm.Pilot.CModuleEngineLaw_law_r1006_a0bf7e.tg σ' x ∧ Jvm.Pilot.CModuleEngineLaw_law_r1006_a0bf7e.ln σ x = Jvm.Pilot.CModuleEngineLaw_law_r1006_a0bf7e.ln σ' x ∧ (∀ k, Jvm.Pilot.CModuleEngineLaw_law_r1006_a0bf7e.gI σ x k = Jvm.Pilot.CModuleEngineLaw_law_r1006_a0bf7e.gI σ' x k) ∧ (∀ k, Jvm.Pilot.CModuleEngineLaw_law_r1006_a0bf7e.gJ σ x k = Jvm.Pilot.CModuleEngineLaw_law_r1006_a0bf7e.gJ σ' x k) ∧ ∀ k, Jvm.Pilot.CModuleEngineLaw_law_r1006_a0bf7e.gR σ x k = Jvm.Pilot.CModuleEngineLaw_law_r1006_a0bf7e.gR σ' x k) ∧ Jvm.Pilot.CModuleEngineLaw_law_r1006_a0bf7e.cnt σ = Jvm.Pilot.CModuleEngineLaw_law_r1006_a0bf7e.cnt σ' ∧ Jvm.Pilot.CModuleEngineLaw_law_r1006_a0bf7e.slt σ = Jvm.Pilot.CModuleEngineLaw_law_r1006_a0bf7e.slt σ'
theorem V.Rep.fg {z : Nat} {D : DD} {σ σ' : HS0} {H : Heap} (f : Fg σ σ') (h : Rep z D σ H) : Rep z D σ' H := by
  refine ⟨by rw [← f.2.1]; exact h.1, fun x hx => ?_⟩
  obtain ⟨e1, e2, e3, e4, e5⟩ := f.1 x hx
  obtain ⟨a1, a2, a3⟩ := h.2 x (by rw [e1]; exact hx)
  refine ⟨a1, by rw [← f.2.1]; exact a2, a3.kept rfl e1.symm e2.symm (fun t k => ?_)⟩
  match t with
  | 0 => show Value.int (Jvm.Pilot.CModuleEngineLaw_law_r1006_a0bf7e.gI σ' x k) = Value.int (Jvm.Pilot.CModuleEngineLaw_law_r1006_a0bf7e.gI σ x k); rw [e3]
  | 1 => show Value.long (Jvm.Pilot.CModuleEngineLaw_law_r1006_a0bf7e.gJ σ' x k) = Value.long (Jvm.Pilot.CModuleEngineLaw_law_r1006_a0bf7e.gJ σ x k); rw [e4]
  | n + 2 => show rv z (Jvm.Pilot.CModuleEngineLaw_law_r1006_a0bf7e.gR σ' x k) = rv z (Jvm.Pilot.CModuleEngineLaw_law_r1006_a0bf7e.gR σ x k); rw [e5]
theorem V.MetX.post {l : Launch} {y : MethodName} {ws : List Cond} {rm : Room} {Pc : Array Value → State → Prop} {Qc Qc' : Array Value → State → Outcome → State → Prop} {mc ms : Nat} {free : Addr → Prop} (hq : ∀ a st o t, Qc a st o t → Qc' a st o t) (h : MetX l y ws rm Pc Qc mc ms free) : MetX l y ws rm Pc Qc' mc ms free := by
  intro p e h1 h2 h3 s m args below h4 h5 h6 h7
  obtain ⟨n, o, a1, a2, a3, a4, L, a5⟩ := h p e h1 h2 h3 s m args below h4 h5 h6 h7
  exact ⟨n, o, a1, a2, a3, hq _ _ _ _ a4, L, a5⟩
theorem V.Ct.fg {y : MethodName} {cc : ByteArray} {nL : Nat} {ret : Option FieldType} {F L : Nat} {τ : Type} {en : Nat → τ → Outcome} {as : List AV} {f g : HS0 → Option (τ × HS0)} (h : Jvm.Pilot.CModuleEngineLaw_law_r1006_a0bf7e.Ct y cc nL ret F L en as f) (hg : ∀ σ r σ', g σ = some (r, σ') → ∃ σ1, f σ = some (r, σ1) ∧ Fg σ1 σ') : Jvm.Pilot.CModuleEngineLaw_law_r1006_a0bf7e.Ct y cc nL ret F L en as g := by
  intro X l z D σ r σ' e
  obtain ⟨σ1, e1, f1⟩ := hg σ r σ' e
  obtain ⟨h1, h2⟩ := h X l z D σ r σ1 e1
  rw [f1.2.1, f1.2.2] at h1
  refine ⟨h1, fun hl mc ms q1 q2 => ?_⟩
  refine MetX.post (fun a st o t q => ⟨q.1, Rep.fg f1 q.2.1, q.2.2⟩) (h2 hl mc ms (by rw [f1.2.1]; exact q1) (by rw [f1.2.2]; exact q2))
theorem V.ctv {y : MethodName} {cc : ByteArray} {nL : Nat} {ret : Option FieldType} {F L : Nat} {τ : Type} {en : Nat → τ → Outcome} {as : List AV} {f : HS0 → Option (τ × HS0)} {g : HS → Option (τ × HS)} (h : Jvm.Pilot.CModuleEngineLaw_law_r1006_a0bf7e.Ct y cc nL ret F L en as f)
    (hg : ∀ v r v', WF v → g v = some (r, v') → WF v' ∧ ∃ σ1, f (ex v) = some (r, σ1) ∧ Fg σ1 (ex v')) : Ct y cc nL ret F L en as g := by
  intro X v wf
  refine ⟨fun r v' e => (hg v r v' wf e).1, Ct.fg h (fun σ r σ' e => ?_)⟩
  by_cases hs : σ = ex v
  · subst hs
    rw [only_at] at e
    cases hv : g v with
    | none => rw [hv] at e; cases e
    | some w =>
      obtain ⟨r1, v1⟩ := w
      rw [hv] at e
      cases e
      exact (hg v r v1 wf hv).2
  · rw [only, @if_neg _ (Classical.propDecidable _) hs] at e; cases e
theorem V.Fg.rfl' {σ : HS0} : Fg σ σ := ⟨fun _ _ => ⟨rfl, rfl, fun _ => rfl, fun _ => rfl, fun _ => rfl⟩, rfl, rfl⟩
/-- what a row is, below -/
theorem V.ex_row {v : HS} (w : WF v) {r : Nat} (h : tg v r = 4) : Jvm.Pilot.CModuleEngineLaw_law_r1006_a0bf7e.tg (ex v) r = 4 ∧ Jvm.Pilot.CModuleEngineLaw_law_r1006_a0bf7e.gI (ex v) r 1 = Int32.ofNat (v.c.W r).length ∧ Jvm.Pilot.CModuleEngineLaw_law_r1006_a0bf7e.gR (ex v) r 0 = v.m.H r ∧ Jvm.Pilot.CModuleEngineLaw_law_r1006_a0bf7e.tg (ex v) (v.m.H r) = 100 ∧ Jvm.Pilot.CModuleEngineLaw_law_r1006_a0bf7e.ln (ex v) (v.m.H r) = v.m.C r ∧ (∀ k, Jvm.Pilot.CModuleEngineLaw_law_r1006_a0bf7e.gI (ex v) (v.m.H r) k = rowC v r k) ∧ v.m.H r ≠ r ∧ v.m.H r ≤ v.m.cnt ∧ v.m.T (v.m.H r) = 0 ∧ v.m.O (v.m.H r) = r ∧ r ≠ 0 := by
  have h' : v.m.T r = 4 := h
  have h0 : r ≠ 0 := fun e => by have := (w.in_ r (by omega)).1; omega
  obtain ⟨a1, a2, a3⟩ := w.row r h'
  have o1 : v.m.O (v.m.H r) ≠ 0 := by rw [a1]; exact h0
  obtain ⟨b1, b2, b3, b4⟩ := w.own _ o1
  have o2 : v.m.H r ≠ r := fun e => by rw [e] at b3; omega
  refine ⟨(ex_tg (by rw [h]; decide)).trans h, ?_, ?_, ?_, ?_, ?_, o2, b4, b3, a1, h0⟩
  · show (if v.m.T r = 4 then (if (1 : Nat) = 1 then _ else _) else _) = _
    rw [if_pos h', if_pos rfl]
  · show (if v.m.T r = 4 then (if (0 : Nat) = 0 then _ else _) else _) = _
    rw [if_pos h', if_pos rfl]
  · show (if v.m.T (v.m.H r) = 0 then (if v.m.O (v.m.H r) = 0 then 0 else 100) else _) = _
    rw [if_pos b3, if_neg o1]
  · show (if v.m.O (v.m.H r) = 0 then _ else v.m.C (v.m.O (v.m.H r))) = _
    rw [if_neg o1, a1]
  · intro k
    show (if v.m.T (v.m.H r) = 4 then _ else if v.m.O (v.m.H r) = 0 then _ else rowC v (v.m.O (v.m.H r)) k) = _
    rw [if_neg (by omega), if_neg o1, a1]
theorem V.WF.len {v : HS} (w : WF v) {r : Nat} (h : tg v r = 4) : (v.c.W r).length ≤ v.m.C r ∧ v.m.C r ≤ 4096 ∧ 8 ≤ v.m.C r := by
  obtain ⟨a1, a2, j, hj, a3⟩ := w.row r h
  have h1 : 2 ^ j ≤ 2 ^ 9 := Nat.pow_le_pow_right (by decide) hj
  have h2 : 1 ≤ 2 ^ j := Nat.one_le_two_pow
  exact ⟨a2, by omega, by omega⟩
theorem V.WF.setW {v : HS} (w : WF v) {r : Nat} (h : tg v r = 4) {l : List Int32} (hl : l.length ≤ v.m.C r) : WF (setW v r l) := by
  refine ⟨w.in_, fun q hq => ?_, w.own, fun x hx => ?_, w.bal1, w.bal2⟩
  · obtain ⟨a1, a2, a3⟩ := w.row q hq
    refine ⟨a1, ?_, a3⟩
    show (up1 v.c.W r l q).length ≤ _
    by_cases e : q = r
    · subst e; rw [nw_at]; exact hl
    · rw [nw_ne e]; exact a2
  · obtain ⟨z1, z2, z3, z4, z5⟩ := w.zero x hx
    refine ⟨z1, z2, z3, ?_, z5⟩
    show up1 v.c.W r l x = []
    have hx : v.m.cnt < x := hx
    have : x ≠ r := fun e => by
      have := (w.in_ r (by rw [show v.m.T r = 4 from h]; decide)).2
      omega
    rw [nw_ne this]; exact z4
def V.Row_size (v : HS) (r : Nat) : Option (Int32 × HS) := ck (tg v r = 4) (some (Int32.ofNat (v.c.W r).length, v))
def V.Row_at (v : HS) (r : Nat) (k : Int32) : Option (Int32 × HS) := ck (tg v r = 4 ∧ inb k (v.c.W r).length) (some ((v.c.W r).getD (ix k) 0, v))
def V.Row_last (v : HS) (r : Nat) : Option (Int32 × HS) := ck (tg v r = 4 ∧ 0 < (v.c.W r).length) (some ((v.c.W r).getD ((v.c.W r).length - 1) 0, v))
def V.Row_set (v : HS) (r : Nat) (k a : Int32) : Option (Unit × HS) := ck (tg v r = 4 ∧ inb k (v.c.W r).length) (some ((), setW v r ((v.c.W r).set (ix k) a)))
def V.cutM (v : HS) (r : Nat) (n : Nat) : Mem := (v.m.T, v.m.N, v.m.C, v.m.H, up1 v.m.G r (fun k => if k < n then v.m.G r k else rowC v r k), v.m.O, v.m.cnt, v.m.slt, v.m.fc, v.m.fx, v.m.rows)
def V.Row_cut (v : HS) (r : Nat) (n : Int32) : Option (Unit × HS) := ck (tg v r = 4 ∧ inb n ((v.c.W r).length + 1)) (some ((), ((setW v r ((v.c.W r).take (ix n))).c, cutM v r (ix n))))
def V.addM (m : Mem) (r : Nat) : Mem := (m.T, m.N, up1 m.C r (2 * m.C r), up1 m.H r (m.cnt + 1), up1 m.G r (fun _ => 0), up1 (up1 m.O (m.H r) 0) (m.cnt + 1) r, m.cnt + 1, m.slt + 2 * m.C r, m.fc, m.fx, m.rows)
def V.Row_add (v : HS) (r : Nat) (a : Int32) : Option (Unit × HS) := ck (tg v r = 4 ∧ (v.c.W r).length < 4096) (some ((), ((setW v r (v.c.W r ++ [a])).c, if (v.c.W r).length < v.m.C r then v.m else addM v.m r)))
theorem V.ctX3_size (x0 : Nat) : Ct yX3_size cX3_size 1 (some .int) 0 0 eI [av x0] (fun σ => Row_size σ x0) := by
  refine ctv (Jvm.Pilot.CModuleEngineLaw_law_r1006_a0bf7e.ctX3_size x0) (fun v r v' wf e => ?_)
  obtain ⟨h, e⟩ := ck_some e
  cases e
  obtain ⟨e1, e2, e3, e4, e5, e6, -⟩ := ex_row wf h
  refine ⟨wf, ex v, ?_, Fg.rfl'⟩
  simp only [Jvm.Pilot.CModuleEngineLaw_law_r1006_a0bf7e.Row_size, ck, e1, e2, if_true]
theorem V.ctX3_at (x0 : Nat) (x1 : Int32) : Ct yX3_at cX3_at 2 (some .int) 0 0 eI [av x0, iv x1] (fun σ => Row_at σ x0 x1) := by
  refine ctv (Jvm.Pilot.CModuleEngineLaw_law_r1006_a0bf7e.ctX3_at x0 x1) (fun v r v' wf e => ?_)
  obtain ⟨⟨h, hk⟩, e⟩ := ck_some e
  cases e
  obtain ⟨e1, e2, e3, e4, e5, e6, -⟩ := ex_row wf h
  obtain ⟨k, k1, rfl, k2⟩ := inb_nat hk
  have hl := wf.len h
  refine ⟨wf, ex v, ?_, Fg.rfl'⟩
  have hi : inb (Int32.ofNat k) (v.m.C x0) := (ofN_inb k2).mpr (by omega)
  simp only [Jvm.Pilot.CModuleEngineLaw_law_r1006_a0bf7e.Row_at, ck, e1, e3, e4, e5, if_true, true_and, if_pos hi, e6, ofN_ix k2, rowC, if_pos k1]
theorem V.ctX3_last (x0 : Nat) : Ct yX3_last cX3_last 1 (some .int) 0 0 eI [av x0] (fun σ => Row_last σ x0) := by
  refine ctv (Jvm.Pilot.CModuleEngineLaw_law_r1006_a0bf7e.ctX3_last x0) (fun v r v' wf e => ?_)
  obtain ⟨⟨h, hk⟩, e⟩ := ck_some e
  cases e
  obtain ⟨e1, e2, e3, e4, e5, e6, -⟩ := ex_row wf h
  have hl := wf.len h
  refine ⟨wf, ex v, ?_, Fg.rfl'⟩
  have ep : Int32.ofNat (v.c.W x0).length - 1 = Int32.ofNat ((v.c.W x0).length - 1) := ofN_pred hk
  have k1 : (v.c.W x0).length - 1 < (v.c.W x0).length := by omega
  have hi : inb (Int32.ofNat ((v.c.W x0).length - 1)) (v.m.C x0) := (ofN_inb (by omega)).mpr (by omega)
  simp only [Jvm.Pilot.CModuleEngineLaw_law_r1006_a0bf7e.Row_last, ck, e1, e2, e3, e4, e5, if_true, true_and, ep, if_pos hi, e6, ofN_ix (show (v.c.W x0).length - 1 < 2 ^ 31 by omega), rowC, if_pos k1]
/-- Fg of two states below, by a row's cell -/
theorem V.Fg.of {σ : HS0} {v : HS} (ht : ∀ x, Jvm.Pilot.CModuleEngineLaw_law_r1006_a0bf7e.tg (ex v) x ≠ 0 → Jvm.Pilot.CModuleEngineLaw_law_r1006_a0bf7e.tg σ x = Jvm.Pilot.CModuleEngineLaw_law_r1006_a0bf7e.tg (ex v) x ∧ Jvm.Pilot.CModuleEngineLaw_law_r1006_a0bf7e.ln σ x = Jvm.Pilot.CModuleEngineLaw_law_r1006_a0bf7e.ln (ex v) x ∧ (∀ k, Jvm.Pilot.CModuleEngineLaw_law_r1006_a0bf7e.gI σ x k = Jvm.Pilot.CModuleEngineLaw_law_r1006_a0bf7e.gI (ex v) x k) ∧ (∀ k, Jvm.Pilot.CModuleEngineLaw_law_r1006_a0bf7e.gJ σ x k = Jvm.Pilot.CModuleEngineLaw_law_r1006_a0bf7e.gJ (ex v) x k) ∧ ∀ k, Jvm.Pilot.CModuleEngineLaw_law_r1006_a0bf7e.gR σ x k = Jvm.Pilot.CModuleEngineLaw_law_r1006_a0bf7e.gR (ex v) x k) (hc : Jvm.Pilot.CModuleEngineLaw_law_r1006_a0bf7e.cnt σ = v.m.cnt) (hs : Jvm.Pilot.CModuleEngineLaw_law_r1006_a0bf7e.slt σ = v.m.slt) : Fg σ (ex v) := ⟨ht, hc, hs⟩
theorem V.ex_gI_def (v : HS) (x k : Nat) : Jvm.Pilot.CModuleEngineLaw_law_r1006_a0bf7e.gI (ex v) x k = exI v.m.T v.m.O v.c.W v.m.G v.c.I x k := rfl
theorem V.gI_sI (σ : HS0) (x k : Nat) (a : Int32) (y j : Nat) : Jvm.Pilot.CModuleEngineLaw_law_r1006_a0bf7e.gI (Jvm.Pilot.CModuleEngineLaw_law_r1006_a0bf7e.sI σ x k a) y j = if y = x ∧ j = k then a else Jvm.Pilot.CModuleEngineLaw_law_r1006_a0bf7e.gI σ y j := rfl
theorem V.ctX3_set (x0 : Nat) (x1 : Int32) (x2 : Int32) : Ct yX3_set cX3_set 3 none 0 0 eV [av x0, iv x1, iv x2] (fun σ => Row_set σ x0 x1 x2) := by
  refine ctv (Jvm.Pilot.CModuleEngineLaw_law_r1006_a0bf7e.ctX3_set x0 x1 x2) (fun v r v' wf e => ?_)
  obtain ⟨⟨h, hk⟩, e⟩ := ck_some e
  cases e
  obtain ⟨e1, e2, e3, e4, e5, e6, e7, e8, e9, e10, e11⟩ := ex_row wf h
  obtain ⟨k, k1, rfl, k2⟩ := inb_nat hk
  have hl := wf.len h
  refine ⟨wf.setW h (by rw [List.length_set]; exact hl.1), Jvm.Pilot.CModuleEngineLaw_law_r1006_a0bf7e.sI (ex v) (v.m.H x0) k x2, ?_, Fg.of (fun x hx => ⟨rfl, rfl, fun j => ?_, fun _ => rfl, fun _ => rfl⟩) rfl rfl⟩
  · have hi : inb (Int32.ofNat k) (v.m.C x0) := (ofN_inb k2).mpr (by omega)
    simp only [Jvm.Pilot.CModuleEngineLaw_law_r1006_a0bf7e.Row_set, ck, e1, e3, e4, e5, if_true, true_and, if_pos hi, ofN_ix k2, bn]
  · rw [gI_sI, ofN_ix k2, ex_gI_def]
    show _ = exI v.m.T v.m.O (up1 v.c.W x0 ((v.c.W x0).set k x2)) v.m.G v.c.I x j
    simp only [exI]
    by_cases c1 : v.m.T x = 4
    · have : x ≠ v.m.H x0 := fun e => by rw [e] at c1; omega
      simp only [this, false_and, if_false, c1, if_true]
      by_cases c2 : x = x0
      · subst c2; rw [nw_at, List.length_set]
      · rw [nw_ne c2]
    · simp only [c1, if_false]
      by_cases c3 : v.m.O x = 0
      · have : x ≠ v.m.H x0 := fun e => by rw [e, e10] at c3; exact e11 c3
        simp only [this, false_and, if_false, c3, if_true]
      · simp only [c3, if_false]
        by_cases c4 : v.m.O x = x0
        · have c5 : x = v.m.H x0 := by rw [← c4]; exact (wf.own x c3).2.1.symm
          rw [c4, nw_at, List.length_set]
          by_cases c6 : j = k
          · subst c6
            rw [if_pos ⟨c5, rfl⟩, if_pos k1]
            simp [List.getD, List.getElem?_set_self k1]
          · rw [if_neg (fun q => c6 q.2)]
            simp [List.getD, List.getElem?_set, Ne.symm c6]
        · have c5 : x ≠ v.m.H x0 := fun e => c4 (by rw [e]; exact e10)
          rw [if_neg (fun q => c5 q.1), nw_ne c4]
theorem V.WF.cut {v : HS} (w : WF v) {r : Nat} (h : tg v r = 4) {n : Nat} : WF ((V.setW v r ((v.c.W r).take n)).c, cutM v r n) := by
  have w1 := w.setW h (l := (v.c.W r).take n) (by rw [List.length_take]; have := (w.len h).1; omega)
  refine ⟨w1.in_, w1.row, w1.own, fun x hx => ?_, w1.bal1, w1.bal2⟩
  obtain ⟨z1, z2, z3, z4, z5⟩ := w1.zero x hx
  refine ⟨z1, z2, z3, z4, fun k => ?_⟩
  show up1 v.m.G r _ x k = 0
  have : x ≠ r := fun e => by
    have := (w.in_ r (by rw [show v.m.T r = 4 from h]; decide)).2
    have hx : v.m.cnt < x := hx
    omega
  rw [nw_ne this]; exact z5 k
theorem V.ctX3_cut (x0 : Nat) (x1 : Int32) : Ct yX3_cut cX3_cut 2 none 0 0 eV [av x0, iv x1] (fun σ => Row_cut σ x0 x1) := by
  refine ctv (Jvm.Pilot.CModuleEngineLaw_law_r1006_a0bf7e.ctX3_cut x0 x1) (fun v r v' wf e => ?_)
  obtain ⟨⟨h, hk⟩, e⟩ := ck_some e
  cases e
  obtain ⟨e1, e2, e3, e4, e5, e6, e7, e8, e9, e10, e11⟩ := ex_row wf h
  obtain ⟨k, k1, rfl, k2⟩ := inb_nat hk
  have hl := wf.len h
  refine ⟨wf.cut h, Jvm.Pilot.CModuleEngineLaw_law_r1006_a0bf7e.sI (ex v) x0 1 (Int32.ofNat k), ?_, Fg.of (fun x hx => ⟨rfl, rfl, fun j => ?_, fun _ => rfl, fun _ => rfl⟩) rfl rfl⟩
  · simp only [Jvm.Pilot.CModuleEngineLaw_law_r1006_a0bf7e.Row_cut, ck, e1, if_true, bn]
  · rw [gI_sI, ofN_ix k2, ex_gI_def]
    show _ = exI v.m.T v.m.O (up1 v.c.W x0 ((v.c.W x0).take k)) (up1 v.m.G x0 (fun i => if i < k then v.m.G x0 i else if i < (v.c.W x0).length then (v.c.W x0).getD i 0 else v.m.G x0 i)) v.c.I x j
    simp only [exI]
    have h' : v.m.T x0 = 4 := h
    by_cases c1 : v.m.T x = 4
    · simp only [c1, if_true]
      by_cases c2 : x = x0
      · subst c2
        rw [nw_at, List.length_take]
        have : min k (v.c.W x).length = k := by omega
        rw [this]
        by_cases c3 : j = 1
        · simp [c3]
        · simp [c3]
      · rw [if_neg (fun q => c2 q.1), nw_ne c2]
    · have c2 : x ≠ x0 := fun e => c1 (by rw [e]; exact h')
      simp only [c1, if_false, c2, false_and]
      by_cases c3 : v.m.O x = 0
      · simp only [c3, if_true]
      · simp only [c3, if_false]
        by_cases c4 : v.m.O x = x0
        · rw [c4, nw_at, nw_at, List.length_take]
          have : min k (v.c.W x0).length = k := by omega
          rw [this]
          by_cases c5 : j < k
          · rw [if_pos c5, if_pos (by omega)]
            simp [List.getD, List.getElem?_take, c5]
          · rw [if_neg c5]
            simp only [if_neg c5]
        · rw [nw_ne c4, nw_ne c4]
theorem V.copy_row (r H : Nat) (a : Int32) (x2 L : Nat) (hL : L < 2 ^ 30) (hx : x2 ≠ H) (hr : x2 ≠ r) : ∀ (d n : Nat) (σ : HS0) (j : Nat), j + d = L → d < n → Jvm.Pilot.CModuleEngineLaw_law_r1006_a0bf7e.tg σ r = 4 → Jvm.Pilot.CModuleEngineLaw_law_r1006_a0bf7e.gI σ r 1 = Int32.ofNat L → Jvm.Pilot.CModuleEngineLaw_law_r1006_a0bf7e.gR σ r 0 = H → Jvm.Pilot.CModuleEngineLaw_law_r1006_a0bf7e.tg σ H = 100 → L ≤ Jvm.Pilot.CModuleEngineLaw_law_r1006_a0bf7e.ln σ H → Jvm.Pilot.CModuleEngineLaw_law_r1006_a0bf7e.tg σ x2 = 100 → L ≤ Jvm.Pilot.CModuleEngineLaw_law_r1006_a0bf7e.ln σ x2 →
    ∃ σ', Row_add_p23 n σ r a x2 (Int32.ofNat j) = Row_add_p51 (Jvm.Pilot.CModuleEngineLaw_law_r1006_a0bf7e.sR σ' r 0 x2) r a ∧ (∀ y, Jvm.Pilot.CModuleEngineLaw_law_r1006_a0bf7e.tg σ' y = Jvm.Pilot.CModuleEngineLaw_law_r1006_a0bf7e.tg σ y) ∧ (∀ y, Jvm.Pilot.CModuleEngineLaw_law_r1006_a0bf7e.ln σ' y = Jvm.Pilot.CModuleEngineLaw_law_r1006_a0bf7e.ln σ y) ∧ (∀ y k, Jvm.Pilot.CModuleEngineLaw_law_r1006_a0bf7e.gJ σ' y k = Jvm.Pilot.CModuleEngineLaw_law_r1006_a0bf7e.gJ σ y k) ∧ (∀ y k, Jvm.Pilot.CModuleEngineLaw_law_r1006_a0bf7e.gR σ' y k = Jvm.Pilot.CModuleEngineLaw_law_r1006_a0bf7e.gR σ y k) ∧ Jvm.Pilot.CModuleEngineLaw_law_r1006_a0bf7e.cnt σ' = Jvm.Pilot.CModuleEngineLaw_law_r1006_a0bf7e.cnt σ ∧ Jvm.Pilot.CModuleEngineLaw_law_r1006_a0bf7e.slt σ' = Jvm.Pilot.CModuleEngineLaw_law_r1006_a0bf7e.slt σ ∧ (∀ y k, y ≠ x2 → Jvm.Pilot.CModuleEngineLaw_law_r1006_a0bf7e.gI σ' y k = Jvm.Pilot.CModuleEngineLaw_law_r1006_a0bf7e.gI σ y k) ∧ ∀ k, Jvm.Pilot.CModuleEngineLaw_law_r1006_a0bf7e.gI σ' x2 k = if j ≤ k ∧ k < L then Jvm.Pilot.CModuleEngineLaw_law_r1006_a0bf7e.gI σ H k else Jvm.Pilot.CModuleEngineLaw_law_r1006_a0bf7e.gI σ x2 k
  | 0, n + 1, σ, j, hj, _, t1, g1, g2, _, _, _, _ => by
    refine ⟨σ, ?_, fun _ => rfl, fun _ => rfl, fun _ _ => rfl, fun _ _ => rfl, rfl, rfl, fun _ _ _ => rfl, fun k => by rw [if_neg (by omega)]⟩
    have hj' : j = L := by omega
    subst hj'
    rw [Row_add_p23]
    simp only [ck, t1, g1, if_true, bn]
    rw [if_pos (Int32.le_refl _)]
  | d + 1, n + 1, σ, j, hj, hn, t1, g1, g2, t2, l2, t3, l3 => by
    have hlt : ¬ Int32.ofNat L ≤ Int32.ofNat j := by rw [ofN_le (by omega) (by omega)]; omega
    have i1 : inb (Int32.ofNat j) (Jvm.Pilot.CModuleEngineLaw_law_r1006_a0bf7e.ln σ H) := (ofN_inb (by omega)).mpr (by omega)
    have i2 : inb (Int32.ofNat j) (Jvm.Pilot.CModuleEngineLaw_law_r1006_a0bf7e.ln σ x2) := (ofN_inb (by omega)).mpr (by omega)
    have rr : ∀ (y k : Nat), y ≠ x2 → Jvm.Pilot.CModuleEngineLaw_law_r1006_a0bf7e.gI (Jvm.Pilot.CModuleEngineLaw_law_r1006_a0bf7e.sI σ x2 j (Jvm.Pilot.CModuleEngineLaw_law_r1006_a0bf7e.gI σ H j)) y k = Jvm.Pilot.CModuleEngineLaw_law_r1006_a0bf7e.gI σ y k := fun y k hy => by rw [gI_sI, if_neg (fun q => hy q.1)]
    obtain ⟨σ', q1, q2, q3, q4, q5, q6, q7, q8, q9⟩ := copy_row r H a x2 L hL hx hr d n (Jvm.Pilot.CModuleEngineLaw_law_r1006_a0bf7e.sI σ x2 j (Jvm.Pilot.CModuleEngineLaw_law_r1006_a0bf7e.gI σ H j)) (j + 1) (by omega) (by omega) t1 (by rw [rr _ _ (Ne.symm hr)]; exact g1) g2 t2 l2 t3 l3
    refine ⟨σ', ?_, q2, q3, q4, q5, q6, q7, fun y k hy => by rw [q8 y k hy, rr y k hy], fun k => ?_⟩
    · rw [Row_add_p23]
      simp only [ck, t1, g1, g2, t2, t3, true_and, if_pos i1, if_pos i2, if_true, bn, ofN_ix (show j < 2 ^ 31 by omega)]
      rw [if_neg hlt]
      rw [ofN_succ]
      exact q1
    · rw [q9, rr _ _ (Ne.symm hx), gI_sI]
      by_cases c : k = j
      · subst c
        rw [if_neg (by omega), if_pos ⟨rfl, rfl⟩, if_pos (by omega)]
      · by_cases c2 : j ≤ k ∧ k < L
        · rw [if_pos (by omega), if_pos c2]
        · rw [if_neg (by omega), if_neg (fun q => c q.2), if_neg c2]
theorem V.add_p51 {σ : HS0} {r H L : Nat} {a : Int32} (t1 : Jvm.Pilot.CModuleEngineLaw_law_r1006_a0bf7e.tg σ r = 4) (g1 : Jvm.Pilot.CModuleEngineLaw_law_r1006_a0bf7e.gI σ r 1 = Int32.ofNat L) (g2 : Jvm.Pilot.CModuleEngineLaw_law_r1006_a0bf7e.gR σ r 0 = H) (t2 : Jvm.Pilot.CModuleEngineLaw_law_r1006_a0bf7e.tg σ H = 100) (hL : L < Jvm.Pilot.CModuleEngineLaw_law_r1006_a0bf7e.ln σ H) (hL2 : L < 2 ^ 30) (hH : H ≠ r) : Row_add_p51 σ r a = some ((), Jvm.Pilot.CModuleEngineLaw_law_r1006_a0bf7e.sI (Jvm.Pilot.CModuleEngineLaw_law_r1006_a0bf7e.sI σ H L a) r 1 (Int32.ofNat (L + 1))) := by
  have i1 : inb (Int32.ofNat L) (Jvm.Pilot.CModuleEngineLaw_law_r1006_a0bf7e.ln σ H) := (ofN_inb (by omega)).mpr hL
  have t1' : Jvm.Pilot.CModuleEngineLaw_law_r1006_a0bf7e.tg (Jvm.Pilot.CModuleEngineLaw_law_r1006_a0bf7e.sI σ H L a) r = 4 := t1
  have g1' : Jvm.Pilot.CModuleEngineLaw_law_r1006_a0bf7e.gI (Jvm.Pilot.CModuleEngineLaw_law_r1006_a0bf7e.sI σ H L a) r 1 = Int32.ofNat L := by rw [gI_sI, if_neg (fun q => hH q.1.symm)]; exact g1
  simp only [Row_add_p51, ck, t1, g1, g2, t2, true_and, if_pos i1, if_true, bn, ofN_ix (show L < 2 ^ 31 by omega), t1', g1', ofN_succ]
theorem V.WF.grow {v : HS} (w : WF v) {r : Nat} (h : tg v r = 4) (h2 : (v.c.W r).length < 4096) (h3 : ¬ (v.c.W r).length < v.m.C r) : WF (v.c, addM v.m r) := by
  obtain ⟨e1, e2, e3, e4, e5, e6, e7, e8, e9, e10, e11⟩ := ex_row w h
  have h' : v.m.T r = 4 := h
  have hr := (w.in_ r (by omega)).2
  obtain ⟨a1, a2, j, hj, a3⟩ := w.row r h
  have hl := w.len h
  have hC : v.m.C r = (v.c.W r).length := by omega
  have hj9 : j < 9 := by
    by_cases q : j = 9
    · subst q; omega
    · omega
  have hc2 : 2 * v.m.C r = 8 * 2 ^ (j + 1) := by rw [a3, Nat.pow_succ]; omega
  have hc3 : 2 * v.m.C r ≤ 4096 := by
    have h1 : 2 ^ (j + 1) ≤ 2 ^ 9 := Nat.pow_le_pow_right (by decide) (by omega)
    omega
  have hp : potS (addM v.m r) + v.m.C r = potS v.m := by
    show sumTo _ (v.m.cnt + 1 + 1) + _ = sumTo _ (v.m.cnt + 1)
    rw [sumTo]
    have o1 : pot (addM v.m r) (v.m.cnt + 1) = 0 := by
      show (if v.m.T (v.m.cnt + 1) = 4 then _ else 0) = 0
      rw [if_neg (by rw [(w.out (x := v.m.cnt + 1) (by omega)).1]; decide)]
    have s1 := sumTo_at (f := pot (addM v.m r)) (g := pot v.m) (r := r) (n := v.m.cnt + 1) (by omega) (fun x hx => by
      show (if v.m.T x = 4 then 4096 - up1 v.m.C r _ x else 0) = _
      rw [nw_ne hx]; rfl)
    have p1 : pot v.m r = 4096 - v.m.C r := if_pos h'
    have p2 : pot (addM v.m r) r = 4096 - 2 * v.m.C r := by
      show (if v.m.T r = 4 then 4096 - up1 v.m.C r _ r else 0) = _
      rw [nw_at, if_pos h']
    rw [p1, p2] at s1
    omega
  refine ⟨fun x hx => ?_, fun q hq => ?_, fun x hx => ?_, fun x hx => ?_, ?_, ?_⟩
  · obtain ⟨b1, b2⟩ := w.in_ x hx
    exact ⟨b1, Nat.le_succ_of_le b2⟩
  · have hq : v.m.T q = 4 := hq
    obtain ⟨b1, b2, b3⟩ := w.row q hq
    show up1 (up1 v.m.O (v.m.H r) 0) (v.m.cnt + 1) r (up1 v.m.H r (v.m.cnt + 1) q) = q ∧ (v.c.W q).length ≤ up1 v.m.C r (2 * v.m.C r) q ∧ ∃ j, j ≤ 9 ∧ up1 v.m.C r (2 * v.m.C r) q = _
    by_cases e : q = r
    · subst e
      rw [nw_at, nw_at, nw_at]
      exact ⟨rfl, by omega, j + 1, by omega, hc2⟩
    · rw [nw_ne e, nw_ne e]
      have q1 := (w.own (v.m.H q) (by rw [b1]; exact fun z => by have := (w.in_ q (by omega)).1; omega)).2.2.2
      rw [nw_ne (by omega), nw_ne (fun z => e (by rw [← b1, z]; exact a1))]
      exact ⟨b1, b2, b3⟩
  · have hx : up1 (up1 v.m.O (v.m.H r) 0) (v.m.cnt + 1) r x ≠ 0 := hx
    show v.m.T (up1 (up1 v.m.O (v.m.H r) 0) (v.m.cnt + 1) r x) = 4 ∧ up1 v.m.H r (v.m.cnt + 1) (up1 (up1 v.m.O (v.m.H r) 0) (v.m.cnt + 1) r x) = x ∧ v.m.T x = 0 ∧ x ≤ v.m.cnt + 1
    by_cases e : x = v.m.cnt + 1
    · subst e
      rw [nw_at, nw_at]
      exact ⟨h', rfl, (w.out (by omega)).1, Nat.le_refl _⟩
    · rw [nw_ne e] at hx ⊢
      by_cases e' : x = v.m.H r
      · subst e'; rw [nw_at] at hx; exact absurd rfl hx
      · rw [nw_ne e'] at hx ⊢
        obtain ⟨b1, b2, b3, b4⟩ := w.own x hx
        have : v.m.O x ≠ r := fun z => e' (by rw [← b2, z])
        rw [nw_ne this]
        exact ⟨b1, b2, b3, by omega⟩
  · have hx : v.m.cnt + 1 < x := hx
    obtain ⟨z1, z2, z3, z4, z5⟩ := w.zero x (by omega)
    refine ⟨z1, z2, z3, z4, fun k => ?_⟩
    show up1 v.m.G r (fun _ => 0) x k = 0
    rw [nw_ne (by omega)]; exact z5 k
  · have := w.bal1
    show v.m.slt + 2 * v.m.C r + 2 * potS (addM v.m r) ≤ v.m.fx + 8176 * v.m.rows
    omega
  · have := w.bal2
    show 8 * (v.m.cnt + 1) + potS (addM v.m r) ≤ 8 * v.m.fc + 4088 * v.m.rows
    omega
theorem V.getD_app {l : List Int32} {a : Int32} (k : Nat) : (l ++ [a]).getD k 0 = if k = l.length then a else l.getD k 0 := by
  by_cases h : k < l.length
  · rw [if_neg (by omega)]
    simp [List.getD, List.getElem?_append_left h]
  · by_cases h2 : k = l.length
    · subst h2; simp [List.getD]
    · rw [if_neg h2]
      simp [List.getD, List.getElem?_append_right (by omega : l.length ≤ k)]
      rw [List.getElem?_eq_none (by simp; omega), List.getElem?_eq_none (by omega)]
theorem V.ctX3_add (x0 : Nat) (x1 : Int32) : Ct yX3_add cX3_add 4 none 0 0 eV [av x0, iv x1] (fun σ => Row_add σ x0 x1) := by
  refine ctv (Jvm.Pilot.CModuleEngineLaw_law_r1006_a0bf7e.ctX3_add x0 x1) (fun v r v' wf e => ?_)
  obtain ⟨⟨h, hk⟩, e⟩ := ck_some e
  cases e
  obtain ⟨e1, e2, e3, e4, e5, e6, e7, e8, e9, e10, e11⟩ := ex_row wf h
  have hl := wf.len h
  have h' : v.m.T x0 = 4 := h
  by_cases hg : (v.c.W x0).length < v.m.C x0
  · rw [if_pos hg]
    refine ⟨wf.setW h (by rw [List.length_append]; exact hg), Jvm.Pilot.CModuleEngineLaw_law_r1006_a0bf7e.sI (Jvm.Pilot.CModuleEngineLaw_law_r1006_a0bf7e.sI (ex v) (v.m.H x0) (v.c.W x0).length x1) x0 1 (Int32.ofNat ((v.c.W x0).length + 1)), ?_, Fg.of (fun x hx => ⟨rfl, rfl, fun j => ?_, fun _ => rfl, fun _ => rfl⟩) rfl rfl⟩
    · have hne : ¬ Int32.ofNat (v.c.W x0).length = Int32.ofNat (v.m.C x0) := by rw [ofN_eq (by omega) (by omega)]; omega
      have hp := add_p51 (σ := ex v) (a := x1) e1 e2 e3 e4 (by rw [e5]; exact hg) (by omega) e7
      simp only [Jvm.Pilot.CModuleEngineLaw_law_r1006_a0bf7e.Row_add, ck, e1, e2, e3, e4, e5, if_true, nI, if_neg hne]
      exact hp
    · rw [gI_sI, gI_sI, ex_gI_def]
      show _ = exI v.m.T v.m.O (up1 v.c.W x0 (v.c.W x0 ++ [x1])) v.m.G v.c.I x j
      simp only [exI]
      by_cases c1 : v.m.T x = 4
      · have : x ≠ v.m.H x0 := fun e => by rw [e] at c1; omega
        simp only [c1, if_true, this, false_and, if_false]
        by_cases c2 : x = x0
        · subst c2; rw [nw_at, List.length_append]
          by_cases c3 : j = 1
          · subst c3; rw [if_pos ⟨rfl, rfl⟩, if_pos rfl]; rfl
          · rw [if_neg (fun q => c3 q.2), if_neg c3, if_neg c3]
        · rw [if_neg (fun q => c2 q.1), nw_ne c2]
      · have c2 : x ≠ x0 := fun e => c1 (by rw [e]; exact h')
        simp only [c1, if_false, c2, false_and]
        by_cases c3 : v.m.O x = 0
        · have : x ≠ v.m.H x0 := fun e => by rw [e, e10] at c3; exact e11 c3
          simp only [this, false_and, if_false, c3, if_true]
        · simp only [c3, if_false]
          by_cases c4 : v.m.O x = x0
          · have c5 : x = v.m.H x0 := by rw [← c4]; exact (wf.own x c3).2.1.symm
            rw [c4, nw_at, List.length_append, getD_app]
            by_cases c6 : j = (v.c.W x0).length
            · rw [if_pos ⟨c5, c6⟩, if_pos (by simp; omega), if_pos c6]
            · rw [if_neg (fun q => c6 q.2)]
              by_cases c7 : j < (v.c.W x0).length
              · rw [if_pos c7, if_pos (by simp; omega), if_neg c6]
              · rw [if_neg c7, if_neg (by simp; omega)]
          · have c5 : x ≠ v.m.H x0 := fun e => c4 (by rw [e]; exact e10)
            rw [if_neg (fun q => c5 q.1), nw_ne c4]
  · rw [if_neg hg]
    have hC : v.m.C x0 = (v.c.W x0).length := by omega
    have w1 := wf.grow h hk hg
    have hr := (wf.in_ x0 (by omega)).2
    refine ⟨w1.setW h (by show _ ≤ up1 v.m.C x0 _ x0; rw [nw_at, List.length_append]; show _ + 1 ≤ _; omega), ?_⟩
    have t0 : ∀ y, y ≠ v.m.cnt + 1 → Jvm.Pilot.CModuleEngineLaw_law_r1006_a0bf7e.tg (Jvm.Pilot.CModuleEngineLaw_law_r1006_a0bf7e.nw (ex v) 100 (2 * v.m.C x0) (2 * v.m.C x0)) y = Jvm.Pilot.CModuleEngineLaw_law_r1006_a0bf7e.tg (ex v) y := fun y hy => nw_ne hy
    have l0 : ∀ y, y ≠ v.m.cnt + 1 → Jvm.Pilot.CModuleEngineLaw_law_r1006_a0bf7e.ln (Jvm.Pilot.CModuleEngineLaw_law_r1006_a0bf7e.nw (ex v) 100 (2 * v.m.C x0) (2 * v.m.C x0)) y = Jvm.Pilot.CModuleEngineLaw_law_r1006_a0bf7e.ln (ex v) y := fun y hy => nw_ne hy
    have i0 : ∀ y k, y ≠ v.m.cnt + 1 → Jvm.Pilot.CModuleEngineLaw_law_r1006_a0bf7e.gI (Jvm.Pilot.CModuleEngineLaw_law_r1006_a0bf7e.nw (ex v) 100 (2 * v.m.C x0) (2 * v.m.C x0)) y k = Jvm.Pilot.CModuleEngineLaw_law_r1006_a0bf7e.gI (ex v) y k := fun y k hy => by
      show up1 (ex v).2.2.1 (v.m.cnt + 1) (fun _ => 0) y k = _
      rw [nw_ne hy]; rfl
    have j0 : ∀ y k, y ≠ v.m.cnt + 1 → Jvm.Pilot.CModuleEngineLaw_law_r1006_a0bf7e.gJ (Jvm.Pilot.CModuleEngineLaw_law_r1006_a0bf7e.nw (ex v) 100 (2 * v.m.C x0) (2 * v.m.C x0)) y k = Jvm.Pilot.CModuleEngineLaw_law_r1006_a0bf7e.gJ (ex v) y k := fun y k hy => by
      show up1 (ex v).2.2.2.1 (v.m.cnt + 1) (fun _ => 0) y k = _
      rw [nw_ne hy]; rfl
    have r0 : ∀ y k, y ≠ v.m.cnt + 1 → Jvm.Pilot.CModuleEngineLaw_law_r1006_a0bf7e.gR (Jvm.Pilot.CModuleEngineLaw_law_r1006_a0bf7e.nw (ex v) 100 (2 * v.m.C x0) (2 * v.m.C x0)) y k = Jvm.Pilot.CModuleEngineLaw_law_r1006_a0bf7e.gR (ex v) y k := fun y k hy => by
      show up1 (ex v).2.2.2.2.1 (v.m.cnt + 1) (fun _ => 0) y k = _
      rw [nw_ne hy]; rfl
    have t1 : Jvm.Pilot.CModuleEngineLaw_law_r1006_a0bf7e.tg (Jvm.Pilot.CModuleEngineLaw_law_r1006_a0bf7e.nw (ex v) 100 (2 * v.m.C x0) (2 * v.m.C x0)) (v.m.cnt + 1) = 100 := nw_at
    have l1 : Jvm.Pilot.CModuleEngineLaw_law_r1006_a0bf7e.ln (Jvm.Pilot.CModuleEngineLaw_law_r1006_a0bf7e.nw (ex v) 100 (2 * v.m.C x0) (2 * v.m.C x0)) (v.m.cnt + 1) = 2 * v.m.C x0 := nw_at
    have n1 : x0 ≠ v.m.cnt + 1 := by omega
    have n2 : v.m.H x0 ≠ v.m.cnt + 1 := by omega
    obtain ⟨σ', q1, q2, q3, q4, q5, q6, q7, q8, q9⟩ := copy_row x0 (v.m.H x0) x1 (v.m.cnt + 1) (v.c.W x0).length (by omega) (Ne.symm n2) (Ne.symm n1) (v.c.W x0).length FU (Jvm.Pilot.CModuleEngineLaw_law_r1006_a0bf7e.nw (ex v) 100 (2 * v.m.C x0) (2 * v.m.C x0)) 0 (by omega) (by show _ < 2 ^ 62; omega)
      (by rw [t0 _ n1]; exact e1) (by rw [i0 _ _ n1]; exact e2) (by rw [r0 _ _ n1]; exact e3) (by rw [t0 _ n2]; exact e4) (by rw [l0 _ n2, e5]; omega) t1 (by rw [l1]; omega)
    have hp := add_p51 (σ := Jvm.Pilot.CModuleEngineLaw_law_r1006_a0bf7e.sR σ' x0 0 (v.m.cnt + 1)) (r := x0) (H := v.m.cnt + 1) (L := (v.c.W x0).length) (a := x1) (by show Jvm.Pilot.CModuleEngineLaw_law_r1006_a0bf7e.tg σ' x0 = 4; rw [q2, t0 _ n1]; exact e1) (by show Jvm.Pilot.CModuleEngineLaw_law_r1006_a0bf7e.gI σ' x0 1 = _; rw [q8 _ _ n1, i0 _ _ n1]; exact e2) (if_pos ⟨rfl, rfl⟩) (by show Jvm.Pilot.CModuleEngineLaw_law_r1006_a0bf7e.tg σ' _ = _; rw [q2]; exact t1) (by show _ < Jvm.Pilot.CModuleEngineLaw_law_r1006_a0bf7e.ln σ' _; rw [q3, l1]; omega) (by omega) (Ne.symm n1)
    refine ⟨Jvm.Pilot.CModuleEngineLaw_law_r1006_a0bf7e.sI (Jvm.Pilot.CModuleEngineLaw_law_r1006_a0bf7e.sI (Jvm.Pilot.CModuleEngineLaw_law_r1006_a0bf7e.sR σ' x0 0 (v.m.cnt + 1)) (v.m.cnt + 1) (v.c.W x0).length x1) x0 1 (Int32.ofNat ((v.c.W x0).length + 1)), ?_, Fg.of (fun x hx => ?_) ?_ ?_⟩
    · have heq : Int32.ofNat (v.c.W x0).length = Int32.ofNat (v.m.C x0) := by rw [hC]
      have e2C : (2 : Int32) * Int32.ofNat (v.c.W x0).length = Int32.ofNat (2 * v.m.C x0) := by
        rw [hC]; exact (Int32.ofNat_mul 2 _).symm
      have lk : lenok (Int32.ofNat (2 * v.m.C x0)) := by
        refine ⟨?_, ?_⟩
        · intro q
          have := (ofN_lt (a := 2 * v.m.C x0) (b := 0) (by omega) (by decide)).mp q
          omega
        · rw [ofN_ix (by omega)]; omega
      have ei : ix (Int32.ofNat (2 * v.m.C x0)) = 2 * v.m.C x0 := ofN_ix (by omega)
      simp only [Jvm.Pilot.CModuleEngineLaw_law_r1006_a0bf7e.Row_add, ck, e1, e2, e3, e4, e5, if_true, nI, heq]
      rw [← heq, e2C, if_pos lk, Jvm.Pilot.CModuleEngineLaw_law_r1006_a0bf7e.newa, ei]
      have z0 : (0 : Int32) = Int32.ofNat 0 := rfl
      have c0 : Jvm.Pilot.CModuleEngineLaw_law_r1006_a0bf7e.cnt (ex v) = v.m.cnt := rfl
      rw [z0, c0]
      exact q1.trans hp
    · show Jvm.Pilot.CModuleEngineLaw_law_r1006_a0bf7e.tg σ' x = _ ∧ Jvm.Pilot.CModuleEngineLaw_law_r1006_a0bf7e.ln σ' x = _ ∧ _
      by_cases cx : x = v.m.cnt + 1
      · subst cx
        have tz : v.m.T (v.m.cnt + 1) = 0 := (wf.out (by omega)).1
        refine ⟨?_, ?_, fun k => ?_, fun k => ?_, fun k => ?_⟩
        · rw [q2, t1]
          show _ = if v.m.T (v.m.cnt + 1) = 0 then (if up1 (up1 v.m.O (v.m.H x0) 0) (v.m.cnt + 1) x0 (v.m.cnt + 1) = 0 then 0 else 100) else _
          rw [if_pos tz, nw_at, if_neg e11]
        · rw [q3, l1]
          show _ = if up1 (up1 v.m.O (v.m.H x0) 0) (v.m.cnt + 1) x0 (v.m.cnt + 1) = 0 then _ else up1 v.m.C x0 (2 * v.m.C x0) (up1 (up1 v.m.O (v.m.H x0) 0) (v.m.cnt + 1) x0 (v.m.cnt + 1))
          rw [nw_at, if_neg e11, nw_at]
        · rw [gI_sI, gI_sI, if_neg (fun q => n1 q.1.symm)]
          show (if v.m.cnt + 1 = v.m.cnt + 1 ∧ k = _ then x1 else Jvm.Pilot.CModuleEngineLaw_law_r1006_a0bf7e.gI σ' (v.m.cnt + 1) k) = exI v.m.T (up1 (up1 v.m.O (v.m.H x0) 0) (v.m.cnt + 1) x0) (up1 v.c.W x0 (v.c.W x0 ++ [x1])) (up1 v.m.G x0 (fun _ => 0)) v.c.I (v.m.cnt + 1) k
          rw [exI, if_neg (by rw [tz]; decide : ¬ v.m.T (v.m.cnt + 1) = 4), nw_at, if_neg e11, q9]
          rw [nw_at, nw_at, List.length_append, getD_app]
          by_cases c6 : k = (v.c.W x0).length
          · rw [if_pos ⟨rfl, c6⟩, if_pos (by simp; omega), if_pos c6]
          · rw [if_neg (fun q => c6 q.2)]
            by_cases c7 : k < (v.c.W x0).length
            · rw [if_pos ⟨Nat.zero_le k, c7⟩, if_pos (by simp; omega), if_neg c6, i0 _ _ n2, e6, rowC, if_pos c7]
            · rw [if_neg (by omega), if_neg (by simp; omega)]
              show up1 (ex v).2.2.1 (v.m.cnt + 1) (fun _ => 0) (v.m.cnt + 1) k = 0
              rw [nw_at]
        · show Jvm.Pilot.CModuleEngineLaw_law_r1006_a0bf7e.gJ σ' (v.m.cnt + 1) k = v.c.J (v.m.cnt + 1) k
          rw [q4]
          show up1 (ex v).2.2.2.1 (v.m.cnt + 1) (fun _ => 0) (v.m.cnt + 1) k = _
          rw [nw_at]; exact ((wf.zero (v.m.cnt + 1) (by omega)).2.1 k).symm
        · show (if v.m.cnt + 1 = x0 ∧ k = 0 then _ else Jvm.Pilot.CModuleEngineLaw_law_r1006_a0bf7e.gR σ' (v.m.cnt + 1) k) = if v.m.T (v.m.cnt + 1) = 4 then _ else v.c.R (v.m.cnt + 1) k
          rw [if_neg (fun q => n1 q.1.symm), q5, if_neg (by rw [tz]; decide)]
          show up1 (ex v).2.2.2.2.1 (v.m.cnt + 1) (fun _ => 0) (v.m.cnt + 1) k = _
          rw [nw_at]; exact ((wf.zero (v.m.cnt + 1) (by omega)).2.2.1 k).symm
      · have hx2 : x ≠ v.m.H x0 := fun q => by
          apply hx
          show (if v.m.T x = 0 then (if up1 (up1 v.m.O (v.m.H x0) 0) (v.m.cnt + 1) x0 x = 0 then 0 else 100) else _) = 0
          rw [nw_ne cx, q, nw_at, if_pos e9, if_pos rfl]
        have hOx : up1 (up1 v.m.O (v.m.H x0) 0) (v.m.cnt + 1) x0 x = v.m.O x := by rw [nw_ne cx, nw_ne hx2]
        refine ⟨?_, ?_, fun k => ?_, fun k => ?_, fun k => ?_⟩
        · rw [q2, t0 _ cx]
          show _ = if v.m.T x = 0 then (if up1 (up1 v.m.O (v.m.H x0) 0) (v.m.cnt + 1) x0 x = 0 then 0 else 100) else v.m.T x
          rw [hOx]; rfl
        · rw [q3, l0 _ cx]
          show _ = if up1 (up1 v.m.O (v.m.H x0) 0) (v.m.cnt + 1) x0 x = 0 then v.m.N x else up1 v.m.C x0 (2 * v.m.C x0) (up1 (up1 v.m.O (v.m.H x0) 0) (v.m.cnt + 1) x0 x)
          rw [hOx]
          by_cases c3 : v.m.O x = 0
          · show (if v.m.O x = 0 then v.m.N x else _) = _
            rw [if_pos c3, if_pos c3]
          · have c4 : v.m.O x ≠ x0 := fun q => hx2 (by rw [← q]; exact (wf.own x c3).2.1.symm)
            rw [nw_ne c4]; rfl
        · rw [gI_sI, gI_sI, if_neg (fun q : x = v.m.cnt + 1 ∧ _ => cx q.1)]
          show (if x = x0 ∧ k = 1 then _ else Jvm.Pilot.CModuleEngineLaw_law_r1006_a0bf7e.gI σ' x k) = exI v.m.T (up1 (up1 v.m.O (v.m.H x0) 0) (v.m.cnt + 1) x0) (up1 v.c.W x0 (v.c.W x0 ++ [x1])) (up1 v.m.G x0 (fun _ => 0)) v.c.I x k
          rw [q8 _ _ cx, i0 _ _ cx, ex_gI_def]
          simp only [exI]
          rw [hOx]
          by_cases c1 : v.m.T x = 4
          · simp only [c1, if_true]
            by_cases c2 : x = x0
            · subst c2
              rw [nw_at, List.length_append]
              by_cases c3 : k = 1
              · subst c3; simp
              · rw [if_neg (fun q => c3 q.2), if_neg c3, if_neg c3]
            · rw [if_neg (fun q => c2 q.1), nw_ne c2]
          · have c2 : x ≠ x0 := fun e => c1 (by rw [e]; exact h')
            simp only [c1, if_false, c2, false_and]
            by_cases c3 : v.m.O x = 0
            · simp only [c3, if_true]
            · have c4 : v.m.O x ≠ x0 := fun q => hx2 (by rw [← q]; exact (wf.own x c3).2.1.symm)
              simp only [c3, if_false]
              rw [nw_ne c4, nw_ne c4]
        · show Jvm.Pilot.CModuleEngineLaw_law_r1006_a0bf7e.gJ σ' x k = v.c.J x k
          rw [q4, j0 _ _ cx]; rfl
        · show (if x = x0 ∧ k = 0 then v.m.cnt + 1 else Jvm.Pilot.CModuleEngineLaw_law_r1006_a0bf7e.gR σ' x k) = if v.m.T x = 4 then (if k = 0 then up1 v.m.H x0 (v.m.cnt + 1) x else 0) else v.c.R x k
          rw [q5, r0 _ _ cx]
          show _ = _
          by_cases c2 : x = x0
          · subst c2
            rw [if_pos h', nw_at]
            by_cases c3 : k = 0
            · simp [c3]
            · rw [if_neg (fun q => c3 q.2), if_neg c3]
              show (if v.m.T x = 4 then (if k = 0 then v.m.H x else 0) else v.c.R x k) = 0
              rw [if_pos h', if_neg c3]
          · rw [if_neg (fun q => c2 q.1), nw_ne c2]; rfl
    · show Jvm.Pilot.CModuleEngineLaw_law_r1006_a0bf7e.cnt σ' = v.m.cnt + 1
      rw [q6]; rfl
    · show Jvm.Pilot.CModuleEngineLaw_law_r1006_a0bf7e.slt σ' = v.m.slt + 2 * v.m.C x0
      rw [q7]; rfl
/-- a new row -/
def V.nwrM (m : Mem) : Mem := (up1 m.T (m.cnt + 1) 4, up1 m.N (m.cnt + 1) 0, up1 m.C (m.cnt + 1) 8, up1 m.H (m.cnt + 1) (m.cnt + 2), m.G, up1 m.O (m.cnt + 2) (m.cnt + 1), m.cnt + 2, m.slt + 10, m.fc + 2, m.fx + 10, m.rows + 1)
def V.nwr (v : HS) : HS := (v.c, nwrM v.m)
def V.newr {β : Type} (v : HS) (k : Nat → HS → β) : β := k (cnt v + 1) (nwr v)
theorem V.WF.nwr {v : HS} (w : WF v) : WF (nwr v) := by
  have z1 := w.out (x := v.m.cnt + 1) (by omega)
  have z2 := w.out (x := v.m.cnt + 2) (by omega)
  have hp : potS (V.nwr v).m = potS v.m + 4088 := by
    show sumTo _ (v.m.cnt + 1 + 1 + 1) = sumTo _ (v.m.cnt + 1) + 4088
    rw [sumTo, sumTo]
    have e1 : pot (V.nwr v).m (v.m.cnt + 1) = 4088 := by
      show (if up1 v.m.T (v.m.cnt + 1) 4 (v.m.cnt + 1) = 4 then 4096 - up1 v.m.C (v.m.cnt + 1) 8 (v.m.cnt + 1) else 0) = 4088
      rw [nw_at, nw_at, if_pos rfl]
    have e2 : pot (V.nwr v).m (v.m.cnt + 1 + 1) = 0 := by
      show (if up1 v.m.T (v.m.cnt + 1) 4 (v.m.cnt + 2) = 4 then _ else 0) = 0
      rw [nw_ne (by omega), if_neg (by rw [z2.1]; decide)]
    have e3 : sumTo (pot (V.nwr v).m) (v.m.cnt + 1) = sumTo (pot v.m) (v.m.cnt + 1) := sumTo_congr (fun x hx => by
      show (if up1 v.m.T (v.m.cnt + 1) 4 x = 4 then 4096 - up1 v.m.C (v.m.cnt + 1) 8 x else 0) = _
      rw [nw_ne (by omega), nw_ne (by omega)]; rfl)
    rw [e1, e2, e3]
  refine ⟨fun x hx => ?_, fun r hr => ?_, fun x hx => ?_, fun x hx => w.zero x (by have : v.m.cnt + 2 < x := hx; omega), ?_, ?_⟩
  · show 1 ≤ x ∧ x ≤ v.m.cnt + 2
    by_cases e : x = v.m.cnt + 1
    · omega
    · have h1 : v.m.T x ≠ 0 := by
        intro h0; apply hx; show up1 v.m.T (v.m.cnt + 1) 4 x = 0; rw [nw_ne e]; exact h0
      have := w.in_ x h1
      omega
  · have hr : up1 v.m.T (v.m.cnt + 1) 4 r = 4 := hr
    show up1 v.m.O (v.m.cnt + 2) (v.m.cnt + 1) (up1 v.m.H (v.m.cnt + 1) (v.m.cnt + 2) r) = r ∧ (v.c.W r).length ≤ up1 v.m.C (v.m.cnt + 1) 8 r ∧ ∃ j, j ≤ 9 ∧ up1 v.m.C (v.m.cnt + 1) 8 r = 8 * 2 ^ j
    by_cases e : r = v.m.cnt + 1
    · subst e
      rw [nw_at, nw_at, nw_at, (w.zero (v.m.cnt + 1) (by omega)).2.2.2.1]
      exact ⟨rfl, by simp, 0, by omega, by omega⟩
    · rw [nw_ne e] at hr
      rw [nw_ne e, nw_ne e]
      obtain ⟨b1, b2, b3⟩ := w.row r hr
      have q1 := (w.own (v.m.H r) (by rw [b1]; exact fun z => by have := (w.in_ r (by omega)).1; omega)).2.2.2
      rw [nw_ne (by omega)]
      exact ⟨b1, b2, b3⟩
  · have hx : up1 v.m.O (v.m.cnt + 2) (v.m.cnt + 1) x ≠ 0 := hx
    show up1 v.m.T (v.m.cnt + 1) 4 (up1 v.m.O (v.m.cnt + 2) (v.m.cnt + 1) x) = 4 ∧ up1 v.m.H (v.m.cnt + 1) (v.m.cnt + 2) (up1 v.m.O (v.m.cnt + 2) (v.m.cnt + 1) x) = x ∧ up1 v.m.T (v.m.cnt + 1) 4 x = 0 ∧ x ≤ v.m.cnt + 2
    by_cases e : x = v.m.cnt + 2
    · subst e
      rw [nw_at, nw_at, nw_at, nw_ne (by omega)]
      exact ⟨rfl, rfl, z2.1, Nat.le_refl _⟩
    · rw [nw_ne e] at hx ⊢
      obtain ⟨b1, b2, b3, b4⟩ := w.own x hx
      have q1 : v.m.O x ≠ v.m.cnt + 1 := fun q => by rw [q, z1.1] at b1; cases b1
      rw [nw_ne q1, nw_ne q1, nw_ne (by omega)]
      exact ⟨b1, b2, b3, by omega⟩
  · have := w.bal1
    show v.m.slt + 10 + 2 * potS (V.nwr v).m ≤ v.m.fx + 10 + 8176 * (v.m.rows + 1)
    omega
  · have := w.bal2
    show 8 * (v.m.cnt + 2) + potS (V.nwr v).m ≤ 8 * (v.m.fc + 2) + 4088 * (v.m.rows + 1)
    omega
theorem V.ex_nwr {v : HS} (w : WF v) : ex (nwr v) = Jvm.Pilot.CModuleEngineLaw_law_r1006_a0bf7e.sR (Jvm.Pilot.CModuleEngineLaw_law_r1006_a0bf7e.nw (Jvm.Pilot.CModuleEngineLaw_law_r1006_a0bf7e.nw (ex v) 4 0 2) 100 8 8) (v.m.cnt + 1) 0 (v.m.cnt + 2) := by
  have z1 := w.out (x := v.m.cnt + 1) (by omega)
  have z2 := w.out (x := v.m.cnt + 2) (by omega)
  obtain ⟨y1, y2, y3, y4, y5⟩ := w.zero (v.m.cnt + 1) (by omega)
  obtain ⟨x1, x2, x3, x4, x5⟩ := w.zero (v.m.cnt + 2) (by omega)
  have c1 : Jvm.Pilot.CModuleEngineLaw_law_r1006_a0bf7e.cnt (Jvm.Pilot.CModuleEngineLaw_law_r1006_a0bf7e.nw (ex v) 4 0 2) + 1 = v.m.cnt + 2 := rfl
  have c2 : Jvm.Pilot.CModuleEngineLaw_law_r1006_a0bf7e.cnt (ex v) + 1 = v.m.cnt + 1 := rfl
  refine Prod.ext ?_ (Prod.ext ?_ (Prod.ext ?_ (Prod.ext ?_ (Prod.ext ?_ rfl))))
  · funext y
    show (if up1 v.m.T (v.m.cnt + 1) 4 y = 0 then (if up1 v.m.O (v.m.cnt + 2) (v.m.cnt + 1) y = 0 then 0 else 100) else up1 v.m.T (v.m.cnt + 1) 4 y) = up1 (up1 (ex v).1 (v.m.cnt + 1) 4) (v.m.cnt + 2) 100 y
    by_cases h2 : y = v.m.cnt + 2
    · subst h2
      rw [nw_ne (by omega), nw_at, nw_at, if_pos z2.1, if_neg (by omega)]
    · rw [nw_ne h2, nw_ne h2]
      by_cases h1 : y = v.m.cnt + 1
      · subst h1; rw [nw_at, nw_at]; rfl
      · rw [nw_ne h1, nw_ne h1]; rfl
  · funext y
    show (if up1 v.m.O (v.m.cnt + 2) (v.m.cnt + 1) y = 0 then up1 v.m.N (v.m.cnt + 1) 0 y else up1 v.m.C (v.m.cnt + 1) 8 (up1 v.m.O (v.m.cnt + 2) (v.m.cnt + 1) y)) = up1 (up1 (ex v).2.1 (v.m.cnt + 1) 0) (v.m.cnt + 2) 8 y
    by_cases h2 : y = v.m.cnt + 2
    · subst h2
      rw [nw_at, nw_at, nw_at, if_neg (by omega)]
    · rw [nw_ne h2, nw_ne h2]
      by_cases h1 : y = v.m.cnt + 1
      · subst h1; rw [nw_at, nw_at, if_pos z1.2]
      · rw [nw_ne h1, nw_ne h1]
        by_cases h0 : v.m.O y = 0
        · rw [if_pos h0]; show _ = if v.m.O y = 0 then _ else _; rw [if_pos h0]
        · rw [if_neg h0]; show _ = if v.m.O y = 0 then _ else _; rw [if_neg h0]
          rw [nw_ne (fun q => by have := (w.own y h0).1; rw [q, z1.1] at this; cases this)]
  · funext y j
    show (if up1 v.m.T (v.m.cnt + 1) 4 y = 4 then (if j = 1 then Int32.ofNat (v.c.W y).length else 0) else if up1 v.m.O (v.m.cnt + 2) (v.m.cnt + 1) y = 0 then v.c.I y j else (if j < (v.c.W (up1 v.m.O (v.m.cnt + 2) (v.m.cnt + 1) y)).length then (v.c.W (up1 v.m.O (v.m.cnt + 2) (v.m.cnt + 1) y)).getD j 0 else v.m.G (up1 v.m.O (v.m.cnt + 2) (v.m.cnt + 1) y) j)) = up1 (up1 (ex v).2.2.1 (v.m.cnt + 1) (fun _ => 0)) (v.m.cnt + 2) (fun _ => 0) y j
    by_cases h2 : y = v.m.cnt + 2
    · subst h2
      rw [nw_ne (by omega), nw_at, nw_at, if_neg (by rw [z2.1]; decide), if_neg (by omega), y4, y5]
      simp
    · rw [nw_ne h2, nw_ne h2]
      by_cases h1 : y = v.m.cnt + 1
      · subst h1; rw [nw_at, nw_at, if_pos rfl, y4]; simp
      · rw [nw_ne h1, nw_ne h1]; rfl
  · funext y j
    show v.c.J y j = up1 (up1 (ex v).2.2.2.1 (v.m.cnt + 1) (fun _ => 0)) (v.m.cnt + 2) (fun _ => 0) y j
    by_cases h2 : y = v.m.cnt + 2
    · subst h2; rw [nw_at]; exact x2 j
    · rw [nw_ne h2]
      by_cases h1 : y = v.m.cnt + 1
      · subst h1; rw [nw_at]; exact y2 j
      · rw [nw_ne h1]; rfl
  · funext y j
    show (if up1 v.m.T (v.m.cnt + 1) 4 y = 4 then (if j = 0 then up1 v.m.H (v.m.cnt + 1) (v.m.cnt + 2) y else 0) else v.c.R y j) = if y = v.m.cnt + 1 ∧ j = 0 then v.m.cnt + 2 else up1 (up1 (ex v).2.2.2.2.1 (v.m.cnt + 1) (fun _ => 0)) (v.m.cnt + 2) (fun _ => 0) y j
    by_cases h2 : y = v.m.cnt + 2
    · subst h2
      rw [nw_ne (by omega), if_neg (by rw [z2.1]; decide), if_neg (by omega), nw_at]; exact x3 j
    · rw [nw_ne h2]
      by_cases h1 : y = v.m.cnt + 1
      · subst h1
        rw [nw_at, if_pos rfl, nw_at, nw_at]
        by_cases h0 : j = 0
        · simp [h0]
        · simp [h0]
      · rw [if_neg (show ¬ (y = v.m.cnt + 1 ∧ j = 0) from fun q => h1 q.1), nw_ne h1, nw_ne h1, nw_ne h1]; rfl
theorem V.row_init {v : HS} (w : WF v) : Jvm.Pilot.CModuleEngineLaw_law_r1006_a0bf7e.Row_init (Jvm.Pilot.CModuleEngineLaw_law_r1006_a0bf7e.nw (ex v) 4 0 2) (v.m.cnt + 1) = some ((), ex (nwr v)) := by
  rw [ex_nwr w]
  have t1 : Jvm.Pilot.CModuleEngineLaw_law_r1006_a0bf7e.tg (Jvm.Pilot.CModuleEngineLaw_law_r1006_a0bf7e.nw (Jvm.Pilot.CModuleEngineLaw_law_r1006_a0bf7e.nw (ex v) 4 0 2) 100 8 8) (v.m.cnt + 1) = 4 := by
    show up1 (up1 (ex v).1 (v.m.cnt + 1) 4) (v.m.cnt + 2) 100 (v.m.cnt + 1) = 4
    rw [nw_ne (by omega), nw_at]
  have e8 : ix (8 : Int32) = 8 := by decide
  have l8 : lenok (8 : Int32) := by decide
  simp only [Jvm.Pilot.CModuleEngineLaw_law_r1006_a0bf7e.Row_init, ck, if_pos (show ¬ v.m.cnt + 1 = 0 by omega), if_pos l8, Jvm.Pilot.CModuleEngineLaw_law_r1006_a0bf7e.newa, e8, t1, if_true, bn]
  rfl
section NewRow
variable {X : CX} {own nm : String} {cc : ByteArray} {nL : Nat} {ret : Option FieldType} {F L : Nat} {τ : Type} {en : τ → Outcome} {pc : Nat} {lv : List (Nat × AV)} {st : List AV} {σ : V.HS}
theorem V.g_newr {icl ic : Nat} {k : Nat → HS → Option (τ × HS)} (hn : ND own icl 3 2) (hin : Cond.instanceMethod yX3_init ∈ lw_all) (hm : MD own ic yX3_init cX3_init 1 none 0) (hw8 : wt (av 0 :: st) ≤ 8) (hF : 2 ≤ F) (hL : 44 ≤ L) (hd1 : decode cc pc = .ok (.new icl, 3)) (hd2 : decode cc (pc + 3) = .ok (.dup, 1)) (hd3 : decode cc (pc + 4) = .ok (.invokespecial ic, 3))
    (kk : ∀ (x : Nat) (σ1 : HS), G X own nm cc nL ret F L en (pc + 7) lv (av x :: st) σ1 (k x σ1)) : G X own nm cc nL ret F L en pc lv st σ (newr σ k) := fun wf => by
  have k1 := kk (cnt σ + 1) (nwr σ) wf.nwr
  have k2 : Jvm.Pilot.CModuleEngineLaw_law_r1006_a0bf7e.G X own nm cc nL ret F L en (pc + 7) lv (puV () (av (cnt σ + 1) :: st)) (ex (nwr σ)) (exo (k (cnt σ + 1) (nwr σ))) := k1.2
  have h1 := Jvm.Pilot.CModuleEngineLaw_law_r1006_a0bf7e.g_callI (X := X) (own := own) (nm := nm) (cc := cc) (nL := nL) (ret := ret) (F := F) (L := L) (en := en) (pc := pc + 4) (lv := lv) (st := av (cnt σ + 1) :: st) (σ := Jvm.Pilot.CModuleEngineLaw_law_r1006_a0bf7e.nw (ex σ) 4 0 2) (x := cnt σ + 1) (as := []) (k := only2 () (ex (nwr σ)) (exo (k (cnt σ + 1) (nwr σ)))) rfl hin hm (Jvm.Pilot.CModuleEngineLaw_law_r1006_a0bf7e.ctX3_init (cnt σ + 1)) rfl hw8 hF hL pu_V hd3 (only2_G (sk := fun r => puV r (av (cnt σ + 1) :: st)) k2)
  have e0 : Jvm.Pilot.CModuleEngineLaw_law_r1006_a0bf7e.Row_init (Jvm.Pilot.CModuleEngineLaw_law_r1006_a0bf7e.nw (ex σ) 4 0 2) (cnt σ + 1) = some ((), ex (nwr σ)) := row_init wf
  rw [if_pos (show ¬ cnt σ + 1 = 0 by omega), e0] at h1
  have e1 : Jvm.Pilot.CModuleEngineLaw_law_r1006_a0bf7e.cl (some ((), ex (nwr σ))) (only2 () (ex (nwr σ)) (exo (k (cnt σ + 1) (nwr σ)))) = exo (k (cnt σ + 1) (nwr σ)) := only2_at _ _ _
  rw [e1] at h1
  have h2 := Jvm.Pilot.CModuleEngineLaw_law_r1006_a0bf7e.g_dup (pc := pc + 3) hd2 rfl h1
  have h3 := Jvm.Pilot.CModuleEngineLaw_law_r1006_a0bf7e.g_newo (σ := ex σ) (k := only2 (cnt σ + 1) (Jvm.Pilot.CModuleEngineLaw_law_r1006_a0bf7e.nw (ex σ) 4 0 2) (exo (k (cnt σ + 1) (nwr σ)))) hn hd1 (only2_G (sk := fun x => av x :: st) h2)
  refine ⟨k1.1, ?_⟩
  have e2 : Jvm.Pilot.CModuleEngineLaw_law_r1006_a0bf7e.newo (ex σ) (3 + 1) 2 (only2 (cnt σ + 1) (Jvm.Pilot.CModuleEngineLaw_law_r1006_a0bf7e.nw (ex σ) 4 0 2) (exo (k (cnt σ + 1) (nwr σ)))) = exo (newr σ k) := only2_at _ _ _
  rw [e2] at h3
  exact h3
end NewRow
