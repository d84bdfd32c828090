/-! rows of G: fields, arrays, new cells, constants of the class, returns -/
abbrev inb (i : Int32) (n : Nat) : Prop := ¬ (i < 0 ∨ n ≤ i.toNatClampNeg)
abbrev ix (i : Int32) : Nat := i.toNatClampNeg
section Heaps
variable {X : CX} {own nm : String} {cc : ByteArray} {nL : Nat} {ret : Option FieldType} {F L : Nat} {τ : Type} {en : τ → Outcome} {pc pc' : Nat} {lv lv' : List (Nat × AV)} {st st' : List AV} {σ σ1 : HS} {o o1 o2 : Option (τ × HS)}
theorem G.rd (h : Cx X own nm cc nL ret F L → ∀ (H : Heap) (locs : List Loc) (kc ks : Nat) (Q : State → Prop) (ls : Array Slot), Rep (cxz X) (cxD X) σ H → WX X H locs kc ks Q (F0 (cxm X) pc' ls (st'.map (vl (cxz X)))) → WX X H locs kc ks Q (F0 (cxm X) pc ls (st.map (vl (cxz X))))) (k : G X own nm cc nL ret F L en pc' lv st' σ o) : G X own nm cc nL ret F L en pc lv st σ o := by
  intro r σ' ho
  obtain ⟨h1, h2⟩ := k r σ' ho
  refine ⟨h1, ?_⟩
  intro C mc ms e1 e2 e3 e4 kc ks H locs ls e5 e6 hR hO hL hl
  exact h C H locs kc ks _ ls hR (h2 C mc ms e1 e2 e3 e4 kc ks H locs ls e5 e6 hR hO hL hl)
/-- a write of one cell x -/
theorem G.wr {x : Nat} (hx : tg σ x ≠ 0) (hc : cnt σ1 = cnt σ) (hs : slt σ1 = slt σ) (h : Cx X own nm cc nL ret F L → ∀ (H : Heap) (locs : List Loc) (kc ks : Nat) (Q : State → Prop) (ls : Array Slot), Rep (cxz X) (cxD X) σ H → (∀ (H' : Heap) (i : Nat), Rep (cxz X) (cxD X) σ1 H' → (∀ q, q ≠ cxz X + x → H'[q]? = H[q]?) → WX X H' (locs ++ [⟨cxz X + x, i⟩]) kc ks Q (F0 (cxm X) pc' ls (st'.map (vl (cxz X))))) → WX X H locs kc ks Q (F0 (cxm X) pc ls (st.map (vl (cxz X))))) (k : G X own nm cc nL ret F L en pc' lv st' σ1 o) : G X own nm cc nL ret F L en pc lv st σ o := by
  intro r σ' ho
  obtain ⟨h1, h2⟩ := k r σ' ho
  rw [hc, hs] at h1
  refine ⟨h1, ?_⟩
  intro C mc ms e1 e2 e3 e4 kc ks H locs ls e5 e6 hR hO hL hl
  refine h C H locs kc ks _ ls hR (fun H' i hR' hH' => h2 C mc ms e1 e2 e3 e4 kc ks H' _ ls (by rw [hc]; exact e5) (by rw [hs]; exact e6) hR' (fun q hq => ?_) (fun q hq => ?_) hl)
  · rw [hH' q (by have := (hR.2 x hx).1; omega)]; exact hO q hq
  · rcases List.mem_append.mp hq with hq | hq
    · exact hL q hq
    · rw [List.mem_singleton.mp hq]; show cxz X < cxz X + x; have := (hR.2 x hx).1; omega
/-- a new cell -/
theorem G.nw {t n sl : Nat} (h : Cx X own nm cc nL ret F L → ∀ (H : Heap) (locs : List Loc) (kc ks : Nat) (Q : State → Prop) (ls : Array Slot), Rep (cxz X) (cxD X) σ H → kc + 1 ≤ (cxR X).cells → ks + sl ≤ (cxR X).slots → (∀ (H' : Heap), Rep (cxz X) (cxD X) (nw σ t n sl) H' → (∀ q, q < H.size → H'[q]? = H[q]?) → WX X H' locs (kc + 1) (ks + sl) Q (F0 (cxm X) pc' ls (st'.map (vl (cxz X))))) → WX X H locs kc ks Q (F0 (cxm X) pc ls (st.map (vl (cxz X))))) (k : G X own nm cc nL ret F L en pc' lv st' (nw σ t n sl) o) : G X own nm cc nL ret F L en pc lv st σ o := by
  intro r σ' ho
  obtain ⟨h1, h2⟩ := k r σ' ho
  have ec : cnt (Jvm.Pilot.CModuleEngineLaw_law_r1006_a0bf7e.nw σ t n sl) = cnt σ + 1 := rfl
  have es : slt (Jvm.Pilot.CModuleEngineLaw_law_r1006_a0bf7e.nw σ t n sl) = slt σ + sl := rfl
  rw [ec, es] at h1
  refine ⟨⟨by omega, by omega⟩, ?_⟩
  intro C mc ms e1 e2 e3 e4 kc ks H locs ls e5 e6 hR hO hL hl
  refine h C H locs kc ks _ ls hR (by rw [e3]; omega) (by rw [e4]; omega) (fun H' hR' hH' => h2 C mc ms e1 e2 e3 e4 _ _ H' _ ls (by rw [ec]; omega) (by rw [es]; omega) hR' (fun q hq => ?_) hL hl)
  rw [hH' q (by rw [hR.1]; omega)]; exact hO q hq
theorem KK.u {z : Nat} {D : DD} {s : State} (h : KK z D s) {ci : Nat} {q : vw_C} (hq : CL[ci]? = some q) : u_Kn s q.1 q.2.1 q.2.2 (D.1 ci) (D.2.1 ci) := h.1.1 ci q hq
/-- the machine's getfield over a represented object -/
theorem w_getf (C : Cx X own nm cc nL ret F L) {idx ci x k : Nat} {q : vw_C} {ty : Nat → FieldType} (hq : CL[ci]? = some q) (hty : CT[ci]? = some ty) (hin : ∀ w ∈ u_ws q.1 q.2.1 q.2.2, w ∈ lw_all) (hk : k < q.2.2) (hl : Cond.fieldLink own idx (q.2.1 k).1 (q.2.1 k).2.1 (q.2.1 k).2.2.1 ∈ lw_all) (hd : decode cc pc = .ok (.getfield idx, 3)) (ht : tg σ x = ci + 1)
    {H : Heap} {locs : List Loc} {kc ks : Nat} {Q : State → Prop} {ls : Array Slot} {rest : List Value} (hR : Rep (cxz X) (cxD X) σ H) (w : WX X H locs kc ks Q (F0 (cxm X) (pc + 3) ls (cv (cxz X) σ x (fk (ty k)) k :: rest))) : WX X H locs kc ks Q (F0 (cxm X) pc ls (rv (cxz X) x :: rest)) := by
  obtain ⟨hx1, cell, q1, q2, q3, q4⟩ := hR.obj ht hq hty
  rw [rv_pos hx1]
  obtain ⟨hS, hfc, kC, hkC, hkind⟩ := C.kk.u hq
  obtain ⟨cf, kf, fi, f, hi, hsl⟩ := hS k hk
  refine W.getf C.hx C.hb C.ho (C.ht _ hl) hi (u_facts hfc hkC (u_lays C.ht hin hk) hi).1 q1 (by rw [q3]; exact fun h => by cases h) (v := cv (cxz X) σ x (fk (ty k)) k) ?_ rfl rfl hd w
  rw [hsl, q4 k hk]
theorem w_getfN (C : Cx X own nm cc nL ret F L) {idx ci x k : Nat} {host : String} {q : vw_C} {ty : Nat → FieldType} (hq : CL[ci]? = some q) (hty : CT[ci]? = some ty) (hin : ∀ w ∈ u_ws q.1 q.2.1 q.2.2, w ∈ lw_all) (hk : k < q.2.2) (hl : Cond.fieldLinkNest own idx (q.2.1 k).1 (q.2.1 k).2.1 (q.2.1 k).2.2.1 host ∈ lw_tbl) (hd : decode cc pc = .ok (.getfield idx, 3)) (ht : tg σ x = ci + 1)
    {H : Heap} {locs : List Loc} {kc ks : Nat} {Q : State → Prop} {ls : Array Slot} {rest : List Value} (hR : Rep (cxz X) (cxD X) σ H) (w : WX X H locs kc ks Q (F0 (cxm X) (pc + 3) ls (cv (cxz X) σ x (fk (ty k)) k :: rest))) : WX X H locs kc ks Q (F0 (cxm X) pc ls (rv (cxz X) x :: rest)) := by
  obtain ⟨hx1, cell, q1, q2, q3, q4⟩ := hR.obj ht hq hty
  rw [rv_pos hx1]
  obtain ⟨hS, hfc, kC, hkC, hkind⟩ := C.kk.u hq
  obtain ⟨cf, kf, fi, f, hi, hsl⟩ := hS k hk
  refine va_Wgetf C.hx C.hb C.ho (va_Nw.use rfl (C.kk.2.2.1 _ (nw_in hl rfl))) hi (u_facts hfc hkC (u_lays C.ht hin hk) hi).1 q1 (by rw [q3]; exact fun h => by cases h) (v := cv (cxz X) σ x (fk (ty k)) k) ?_ rfl rfl hd w
  rw [hsl, q4 k hk]
/-- own link or nest mate's link -/
def FL (own : String) (idx : Nat) (ref name desc : String) : Prop := Cond.fieldLink own idx ref name desc ∈ lw_all ∨ ∃ host, Cond.fieldLinkNest own idx ref name desc host ∈ lw_tbl
theorem w_get (C : Cx X own nm cc nL ret F L) {idx ci x k : Nat} {q : vw_C} {ty : Nat → FieldType} (hq : CL[ci]? = some q) (hty : CT[ci]? = some ty) (hin : ∀ w ∈ u_ws q.1 q.2.1 q.2.2, w ∈ lw_all) (hk : k < q.2.2) (hl : FL own idx (q.2.1 k).1 (q.2.1 k).2.1 (q.2.1 k).2.2.1) (hd : decode cc pc = .ok (.getfield idx, 3)) (ht : tg σ x = ci + 1)
    {H : Heap} {locs : List Loc} {kc ks : Nat} {Q : State → Prop} {ls : Array Slot} {rest : List Value} (hR : Rep (cxz X) (cxD X) σ H) (w : WX X H locs kc ks Q (F0 (cxm X) (pc + 3) ls (cv (cxz X) σ x (fk (ty k)) k :: rest))) : WX X H locs kc ks Q (F0 (cxm X) pc ls (rv (cxz X) x :: rest)) := by
  rcases hl with hl | ⟨host, hl⟩
  · exact w_getf C hq hty hin hk hl hd ht hR w
  · exact w_getfN C hq hty hin hk hl hd ht hR w
/-- what a class's field needs: its class's number and types, its words, its kind -/
def FD (own : String) (idx ci k t : Nat) : Prop := ∃ (q : vw_C) (ty : Nat → FieldType), CL[ci]? = some q ∧ CT[ci]? = some ty ∧ (∀ w ∈ u_ws q.1 q.2.1 q.2.2, w ∈ lw_all) ∧ k < q.2.2 ∧ FL own idx (q.2.1 k).1 (q.2.1 k).2.1 (q.2.1 k).2.2.1 ∧ fk (ty k) = t
theorem g_getI {idx ci k x : Nat} (hf : FD own idx ci k 0) (hd : decode cc pc = .ok (.getfield idx, 3)) (kk : G X own nm cc nL ret F L en (pc + 3) lv (iv (gI σ x k) :: st) σ o) : G X own nm cc nL ret F L en pc lv (av x :: st) σ (if tg σ x = ci + 1 then o else none) := by
  obtain ⟨q, ty, h1, h2, h3, h4, h5, h6⟩ := hf
  exact G.chk fun ht => G.rd (fun C H locs kc ks Q ls hR w => w_get C h1 h2 h3 h4 h5 hd ht hR (by rw [h6]; exact w)) kk
theorem g_getJ {idx ci k x : Nat} (hf : FD own idx ci k 1) (hd : decode cc pc = .ok (.getfield idx, 3)) (kk : G X own nm cc nL ret F L en (pc + 3) lv (jv (gJ σ x k) :: st) σ o) : G X own nm cc nL ret F L en pc lv (av x :: st) σ (if tg σ x = ci + 1 then o else none) := by
  obtain ⟨q, ty, h1, h2, h3, h4, h5, h6⟩ := hf
  exact G.chk fun ht => G.rd (fun C H locs kc ks Q ls hR w => w_get C h1 h2 h3 h4 h5 hd ht hR (by rw [h6]; exact w)) kk
theorem g_getR {idx ci k x : Nat} (hf : FD own idx ci k 2) (hd : decode cc pc = .ok (.getfield idx, 3)) (kk : G X own nm cc nL ret F L en (pc + 3) lv (av (gR σ x k) :: st) σ o) : G X own nm cc nL ret F L en pc lv (av x :: st) σ (if tg σ x = ci + 1 then o else none) := by
  obtain ⟨q, ty, h1, h2, h3, h4, h5, h6⟩ := hf
  exact G.chk fun ht => G.rd (fun C H locs kc ks Q ls hR w => w_get C h1 h2 h3 h4 h5 hd ht hR (by rw [h6]; exact w)) kk
/-- fields' slots are apart -/
theorem w_apart (C : Cx X own nm cc nL ret F L) {ci : Nat} {q : vw_C} {ty : Nat → FieldType} (hq : CL[ci]? = some q) (hin : ∀ w ∈ u_ws q.1 q.2.1 q.2.2, w ∈ lw_all) (hp : ∀ k, k < q.2.2 → parseFieldDescriptor (q.2.1 k).2.2.1 = some (ty k)) (hnm : ∀ a, a < q.2.2 → ∀ b, b < q.2.2 → a ≠ b → (q.2.1 a).2.1 ≠ (q.2.1 b).2.1) : ∀ a b, a < q.2.2 → b < q.2.2 → a ≠ b → (cxD X).2.1 ci a ≠ (cxD X).2.1 ci b :=
  fun a b ha hb hne => va_apart (own := own) (C := q.1) (T := q.2.1) (N := q.2.2) (D := ((cxD X).1, (cxD X).2.1)) C.ht hin ty hp hnm C.kk.1 hq a b ha hb hne
def okput (ty : FieldType) (v : Value) : Prop := narrow ty v = v ∧ fits ty v = true
/-- what a put needs beside: types and names apart; the field isn't final, or it's set in its own class's constructor -/
def FP (own nm : String) (idx ci k : Nat) (ty0 : FieldType) : Prop := ∃ (q : vw_C) (ty : Nat → FieldType), CL[ci]? = some q ∧ CT[ci]? = some ty ∧ (∀ w ∈ u_ws q.1 q.2.1 q.2.2, w ∈ lw_all) ∧ k < q.2.2 ∧ (∀ j, j < q.2.2 → parseFieldDescriptor (q.2.1 j).2.2.1 = some (ty j)) ∧ (∀ a, a < q.2.2 → ∀ b, b < q.2.2 → a ≠ b → (q.2.1 a).2.1 ≠ (q.2.1 b).2.1) ∧ ty k = ty0 ∧
  (((q.2.1 k).2.2.2 = false ∧ FL own idx (q.2.1 k).1 (q.2.1 k).2.1 (q.2.1 k).2.2.1) ∨ ((q.2.1 k).2.2.2 = true ∧ nm = "<init>" ∧ (q.2.1 k).1 = own ∧ Cond.fieldLink own idx (q.2.1 k).1 (q.2.1 k).2.1 (q.2.1 k).2.2.1 ∈ lw_all))
theorem w_put (C : Cx X own nm cc nL ret F L) {idx ci x k : Nat} {ty0 : FieldType} (hf : FP own nm idx ci k ty0) {a : AV} (ha : fk ty0 = ak a) (hok : okput ty0 (vl (cxz X) a)) (hd : decode cc pc = .ok (.putfield idx, 3)) (ht : tg σ x = ci + 1)
    {H : Heap} {locs : List Loc} {kc ks : Nat} {Q : State → Prop} {ls : Array Slot} {rest : List Value} (hR : Rep (cxz X) (cxD X) σ H) (w : ∀ (H' : Heap) (i : Nat), Rep (cxz X) (cxD X) (sV (cxz X) σ x k a) H' → (∀ q, q ≠ cxz X + x → H'[q]? = H[q]?) → WX X H' (locs ++ [⟨cxz X + x, i⟩]) kc ks Q (F0 (cxm X) (pc + 3) ls rest)) : WX X H locs kc ks Q (F0 (cxm X) pc ls (vl (cxz X) a :: rv (cxz X) x :: rest)) := by
  obtain ⟨q, ty, hq, hty, hin, hk, hp, hnm, rfl, hfin⟩ := hf
  have hap := w_apart C hq hin hp hnm
  obtain ⟨hx1, cell, q1, q2, q3, q4⟩ := hR.obj ht hq hty
  rw [rv_pos hx1]
  obtain ⟨hS, hfc, kC, hkC, hkind⟩ := C.kk.u hq
  obtain ⟨cf, kf, fi, f, hi, hsl⟩ := hS k hk
  have hlay := C.ht _ (hin _ (u_in_lay hk))
  unfold u_lay at hlay
  have hst := (u_facts hfc hkC (u_lays C.ht hin hk) hi).1
  have fin : ∀ H' : Heap, H'[cxz X + x]? = some (cell.setSlot f.slot (vl (cxz X) a)) → H'.size = H.size → (∀ q, q ≠ cxz X + x → H'[q]? = H[q]?) → WX X H' (locs ++ [⟨cxz X + x, f.slot⟩]) kc ks Q (F0 (cxm X) (pc + 3) ls rest) := by
    intro H' e1 e2 e3
    rw [hsl] at e1
    refine w H' _ (hR.put ht hq hty ha e2 e3 ?_) e3
    exact ⟨_, e1, q2, q3, t_set q4 hap hk _⟩
  rcases hfin with ⟨h1, hl | ⟨host, hl⟩⟩ | ⟨h1, h2, h3, h4⟩
  · rw [if_neg (by rw [h1]; decide)] at hlay
    have h6 := u_store hfc hkC hkind hlay hi (hp k hk) hok.1 hok.2
    exact W.putK C.hx C.hb (f := f) ⟨C.ho, C.ht _ hl, ⟨_, _, _, hi⟩, hst⟩ (by rw [q2]; exact h6) q1 q3 (by rw [hsl]; exact k2_hasslot (q4 k hk)) rfl rfl hd fin
  · rw [if_neg (by rw [h1]; decide)] at hlay
    have h6 := u_store hfc hkC hkind hlay hi (hp k hk) hok.1 hok.2
    exact va_WputK C.hx C.hb (f := f) C.ho (va_Nw.use rfl (C.kk.2.2.1 _ (nw_in hl rfl))) hi hst (by rw [q2]; exact h6) q1 q3 (by rw [hsl]; exact k2_hasslot (q4 k hk)) rfl rfl hd fin
  · rw [if_pos h1] at hlay
    have hcf : (cxm X).cls = cf := by
      obtain ⟨_, _, c', _, _, _, -, -, hf', -, -, -, hown2, -⟩ := Cond.laysFinal_spec hlay
      have e1 : c' = cf := by have := hi.symm.trans hf'; simp at this; exact this.1.symm
      rw [h3] at hown2
      rw [← e1]; exact Option.some.inj (C.ho.symm.trans hown2)
    have h6 := u_fits hfc hkC hkind (Or.inr hlay) hi (hp k hk) hok.1 hok.2
    exact W.putFinK C.hx C.hb C.ho (C.ht _ h4) hi hst hcf (by rw [C.nn]; exact h2) (by rw [q2]; exact h6) q1 q3 (by rw [hsl]; exact k2_hasslot (q4 k hk)) rfl rfl hd fin
theorem okput_ref {z x : Nat} {ty : FieldType} (h : fk ty = 2) : okput ty (rv z x) := by
  cases ty <;> first | (cases x <;> exact ⟨rfl, rfl⟩) | exact absurd h (by simp [fk])
end Heaps
