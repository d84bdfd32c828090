/-! rows of G: new cells, stores of references, returns, contracts and calls, switches -/
section News
variable {X : CX} {own nm : String} {cc : ByteArray} {nL : Nat} {ret : Option FieldType} {F L : Nat} {τ : Type} {en : τ → Outcome} {pc pc' : Nat} {lv lv' : List (Nat × AV)} {st st' : List AV} {σ σ1 : HS} {o o1 o2 : Option (τ × HS)} {f : HS → Option (τ × HS)}
/-- what 'new' of class ci needs -/
def ND (own : String) (idx ci n : Nat) : Prop := ∃ (q : vw_C) (ty : Nat → FieldType), CL[ci]? = some q ∧ CT[ci]? = some ty ∧ (∀ w ∈ u_ws q.1 q.2.1 q.2.2, w ∈ lw_all) ∧ (∀ j, j < q.2.2 → parseFieldDescriptor (q.2.1 j).2.2.1 = some (ty j)) ∧ (∀ j, j < q.2.2 → fkOk (ty j) = true) ∧ Cond.classLink own idx q.1 ∈ lw_all ∧ Cond.instantiable q.1 n ∈ lw_all ∧ Cond.initialized q.1 ∈ lw_all
/-- a new object's number, then the heap with it -/
def newo {β : Type} (σ : HS) (t n : Nat) (k : Nat → HS → β) : β := k (cnt σ + 1) (nw σ t 0 n)
theorem G.gn {α : Type} (a : α) {P : α → Prop} (h : ∀ x, P x) : P a := h a
theorem g_newo {idx ci n : Nat} {k : Nat → HS → Option (τ × HS)} (hn : ND own idx ci n) (hd : decode cc pc = .ok (.new idx, 3)) (kk : ∀ (x : Nat) (σ1 : HS), G X own nm cc nL ret F L en (pc + 3) lv (av x :: st) σ1 (k x σ1)) : G X own nm cc nL ret F L en pc lv st σ (newo σ (ci + 1) n k) := by
  obtain ⟨q, ty, h1, h2, h3, h4, h5, h6, h7, h8⟩ := hn
  refine G.nw (t := ci + 1) (n := 0) (sl := n) (st' := av (cnt σ + 1) :: st) (pc' := pc + 3) (fun C H locs kc ks Q ls hR hc hs w => ?_) (kk _ _)
  have hKn := C.kk.u h1
  refine W.newcK C.hx C.hb C.ho (C.ht _ h6) (C.ht _ h7) (C.ht _ h8) rfl hd hc hs hKn.2.1 rfl fun H1 kC hkC e1 z1 o1 => ?_
  have hsz : H.size = cxz X + (cnt σ + 1) := by rw [hR.1]; omega
  rw [hsz] at e1 ⊢
  refine w H1 (hR.new z1 o1 ⟨fun ci' q' ty' a1 a2 a3 => ?_, fun ai ty' a1 a2 => ?_⟩) o1
  · have a1 : up1 σ.1 (cnt σ + 1) (ci + 1) (cnt σ + 1) = ci' + 1 := a1
    rw [nw_at] at a1
    obtain rfl : ci = ci' := by omega
    cases h1.symm.trans a2
    cases h2.symm.trans a3
    exact (u_born ty C.ht h3 hKn hkC e1 h4).to (fun j hj => (cv_nw_at (ty j) (h5 j hj) j).symm)
  · have a1 : up1 σ.1 (cnt σ + 1) (ci + 1) (cnt σ + 1) = 100 + ai := a1
    rw [nw_at] at a1
    have := CL_small h1
    omega
/-- a new array of kind t with n places -/
def newa {β : Type} (σ : HS) (t : Nat) (n : Int32) (k : Nat → HS → β) : β := k (cnt σ + 1) (nw σ t (ix n) (ix n))
abbrev lenok (n : Int32) : Prop := ¬ n < 0 ∧ ix n ≤ 16777216
theorem KK.ra {z : Nat} {D : DD} {s : State} (h : KK z D s) {ai : Nat} {ty : FieldType} (hq : AT[ai]? = some ty) : va_RA s (D.2.2 ai) ty := (h.2.1 ai ty hq).2
theorem rc_newarr {z : Nat} {D : DD} {σ : HS} {ai n : Nat} {ty : FieldType} (hty : AT[ai]? = some ty) (hok : fkOk ty = true) {H' : Heap} (e : H'[z + (cnt σ + 1)]? = some (arrV (D.2.2 ai) n (fun _ => defaultValue ty))) : RC z D (nw σ (100 + ai) n n) (cnt σ + 1) H' := by
  refine ⟨fun ci' q' ty' a1 a2 a3 => ?_, fun ai' ty' a1 a2 => ?_⟩
  · have a1 : up1 σ.1 (cnt σ + 1) (100 + ai) (cnt σ + 1) = ci' + 1 := a1
    rw [nw_at] at a1
    have := CL_small a2
    omega
  · have a1 : up1 σ.1 (cnt σ + 1) (100 + ai) (cnt σ + 1) = 100 + ai' := a1
    rw [nw_at] at a1
    obtain rfl : ai = ai' := by omega
    cases hty.symm.trans a2
    rw [e]
    have e2 : ln (nw σ (100 + ai) n n) (cnt σ + 1) = n := by show up1 σ.2.1 (cnt σ + 1) n (cnt σ + 1) = n; rw [nw_at]
    rw [e2]
    have e3 : (fun j => cv z (nw σ (100 + ai) n n) (cnt σ + 1) (fk ty) j) = (fun _ => defaultValue ty) := funext fun j => cv_nw_at ty hok j
    rw [e3]
theorem g_newarray (ai : Nat) {atype : ArrayType} {n : Int32} {k : Nat → HS → Option (τ × HS)} (hty : AT[ai]? = some (newarray.typeOf atype)) (hok : fkOk (newarray.typeOf atype) = true) (hprim : ∀ U cA, va_RA U cA (newarray.typeOf atype) → U.vm.findClass ("[" ++ (newarray.typeOf atype).toString) = some cA) (hw : Cond.arrayClass (newarray.typeOf atype) ∈ lw_all) (hb8 : componentBytes (newarray.typeOf atype) ≤ 8) (hd : decode cc pc = .ok (.newarray atype, 2))
    (kk : ∀ (x : Nat) (σ1 : HS), G X own nm cc nL ret F L en (pc + 2) lv (av x :: st) σ1 (k x σ1)) : G X own nm cc nL ret F L en pc lv (iv n :: st) σ (if lenok n then newa σ (100 + ai) n k else none) :=
  G.chk fun ht => G.nw (t := 100 + ai) (n := ix n) (sl := ix n) (st' := av (cnt σ + 1) :: st) (pc' := pc + 2) (fun C H locs kc ks Q ls hR hc hs w => by
    refine W.newa C.hx C.hb (C.ht _ hw) rfl hd rfl ht.1 (by have h : n.toNatClampNeg ≤ 16777216 := ht.2; have h2 := Nat.mul_le_mul h hb8; omega) hc hs fun cA kA comp a1 a2 a3 => ?_
    have hsz : H.size = cxz X + (cnt σ + 1) := by rw [hR.1]; omega
    have hA : cA = (cxD X).2.2 ai := Option.some.inj (a1.symm.trans (hprim _ _ (C.kk.ra hty)))
    subst hA
    rw [arrV_new]
    show WX X _ locs (kc + 1) (ks + ix n) Q (F0 (cxm X) (pc + 2) ls (.ref H.size :: st.map (vl (cxz X))))
    have o1 : ∀ q, q < H.size → (H.push (arrV ((cxD X).2.2 ai) (ix n) (fun _ => defaultValue (newarray.typeOf atype))))[q]? = H[q]? := fun q hq => by rw [Array.getElem?_push, if_neg (Nat.ne_of_lt hq)]
    rw [show (Value.ref H.size) = rv (cxz X) (cnt σ + 1) by rw [hsz]; rfl]
    refine w _ (hR.new (by simp) o1 (rc_newarr hty hok (by rw [← hsz]; simp))) o1) (kk _ _)
theorem g_anewarray (ai : Nat) {idx : Nat} {Cn : String} {n : Int32} {k : Nat → HS → Option (τ × HS)} (hty : AT[ai]? = some (.object Cn)) (hcl : Cond.classLink own idx Cn ∈ lw_all) (hao : Cn ∈ AOs) (hd : decode cc pc = .ok (.anewarray idx, 3))
    (kk : ∀ (x : Nat) (σ1 : HS), G X own nm cc nL ret F L en (pc + 3) lv (av x :: st) σ1 (k x σ1)) : G X own nm cc nL ret F L en pc lv (iv n :: st) σ (if lenok n then newa σ (100 + ai) n k else none) :=
  G.chk fun ht => G.nw (t := 100 + ai) (n := ix n) (sl := ix n) (st' := av (cnt σ + 1) :: st) (pc' := pc + 3) (fun C H locs kc ks Q ls hR hc hs w => by
    refine W.anew C.hx C.hb C.ho (C.ht _ hcl) (va_AO.use (C.kk.2.2.2.1 _ hao)) rfl hd rfl ht.1 (by have h : n.toNatClampNeg ≤ 16777216 := ht.2; omega) hc hs fun cA kA comp a1 a2 a3 a4 => ?_
    have hsz : H.size = cxz X + (cnt σ + 1) := by rw [hR.1]; omega
    have hA : cA = (cxD X).2.2 ai := by
      obtain ⟨kA', comp', -, -, -, h4⟩ := C.kk.ra hty
      exact Option.some.inj (a1.symm.trans h4)
    subst hA
    rw [arrV_new]
    show WX X _ locs (kc + 1) (ks + ix n) Q (F0 (cxm X) (pc + 3) ls (.ref H.size :: st.map (vl (cxz X))))
    have o1 : ∀ q, q < H.size → (H.push (arrV ((cxD X).2.2 ai) (ix n) (fun _ => Value.null)))[q]? = H[q]? := fun q hq => by rw [Array.getElem?_push, if_neg (Nat.ne_of_lt hq)]
    rw [show (Value.ref H.size) = rv (cxz X) (cnt σ + 1) by rw [hsz]; rfl]
    refine w _ (hR.new (by simp) o1 (rc_newarr hty rfl (by rw [← hsz]; simp [defaultValue]))) o1) (kk _ _)
theorem g_aastore (ai ci : Nat) {q : vw_C} {ty : Nat → FieldType} {x v : Nat} {i : Int32} (hty : AT[ai]? = some (.object q.1)) (hq : CL[ci]? = some q) (hct : CT[ci]? = some ty) (hd : decode cc pc = .ok (.aastore, 1)) (kk : ∀ σ1, G X own nm cc nL ret F L en (pc + 1) lv st σ1 (f σ1)) : G X own nm cc nL ret F L en pc lv (av v :: iv i :: av x :: st) σ (if tg σ x = 100 + ai ∧ inb i (ln σ x) ∧ tg σ v = ci + 1 then bn (sR σ x (ix i) v) f else none) :=
  G.chk fun ht => G.wr (σ1 := sR σ x (ix i) v) (x := x) (by omega) rfl rfl (fun C H locs kc ks Q ls hR w => by
    obtain ⟨hx1, hc⟩ := hR.arr ht.1 hty
    obtain ⟨hv1, cellV, g1, g2, g3, -⟩ := hR.obj ht.2.2 hq hct
    have hcls := (C.kk.u hq).2
    obtain ⟨kA, comp, k1, k2, k3, -⟩ := C.kk.ra hty
    have hcomp : comp = (cxD X).1 ci := Option.some.inj (k3.symm.trans hcls.1)
    subst hcomp
    obtain ⟨kC, hkC, -⟩ := hcls.2
    have h0 : ¬ i < 0 := fun q => ht.2.1 (Or.inl q)
    show WX X H locs kc ks Q (F0 (cxm X) pc ls (rv (cxz X) v :: .int i :: rv (cxz X) x :: st.map (vl (cxz X))))
    rw [rv_pos hx1, rv_pos hv1]
    exact W.aast C.hx C.hb hc (fun q h => by cases h) (fun h => by cases h) k1 k2 rfl hkC ⟨h0, by show _ < (arrV _ _ _).slots.size; rw [arrV_size]; exact inb_lt ht.2.1⟩ g1 (fun q h => by rw [g3] at h; cases h) (by rw [g2]; exact hkC) (by rw [g2]; exact va_assign hcls) rfl rfl hd fun H1 e1 e2 e3 => w H1 _ (hR.ast (a := av v) ht.1 hty rfl e2 e3 (by rw [e1]; show some (Cell.setSlot _ _ (.ref _)) = some (Cell.setSlot _ _ (rv (cxz X) v)); rw [rv_pos hv1])) e3) (kk _)
/-- ends -/
abbrev enI (x : Int32) : Outcome := .returned (some (.int x))
abbrev enJ (x : Int64) : Outcome := .returned (some (.long x))
abbrev enR (z x : Nat) : Outcome := .returned (some (rv z x))
abbrev enV (_ : Unit) : Outcome := .returned none
theorem G.fin {v : τ} (h : Cx X own nm cc nL ret F L → ∀ (H : Heap) (locs : List Loc) (kc ks : Nat) (ls : Array Slot), Rep (cxz X) (cxD X) σ H → (∀ q, q ≤ cxz X → H[q]? = (cxs X).heap[q]?) → (∀ q ∈ locs, cxz X < q.base) → WX X H locs kc ks (MQ (cxb X) (QQ X en v σ) (cxa X) (cxs X) kc ks (fun q => cxz X < q)) (F0 (cxm X) pc ls (st.map (vl (cxz X))))) : G X own nm cc nL ret F L en pc lv st σ (some (v, σ)) := by
  intro r σ' ho
  cases ho
  refine ⟨⟨Nat.le_refl _, Nat.le_refl _⟩, ?_⟩
  intro C mc ms e1 e2 e3 e4 kc ks H locs ls e5 e6 hR hO hL hl
  obtain rfl : mc = kc := by omega
  obtain rfl : ms = ks := by omega
  exact W.mono (fun t ht => MQx.of ht) (h C H locs mc ms ls hR hO hL)
theorem g_ireturn {v : τ} {x : Int32} (hen : en v = enI x) (hd : decode cc pc = .ok (.ireturn, 1)) : G X own nm cc nL (some .int) F L en pc lv [iv x] σ (some (v, σ)) :=
  G.fin fun C H locs kc ks ls hR hO hL => W.iret C.hx C.hb C.hr (fun t ht hW => ⟨hen.symm, by rw [ht]; exact hR, fun q hq => by rw [ht]; exact hO q hq⟩) hL hd (hlocks := C.lk)
theorem g_zreturn {v : τ} {x : Int32} (hen : en v = enI x) (hz : narrow .boolean (.int x) = .int x) (hd : decode cc pc = .ok (.ireturn, 1)) : G X own nm cc nL (some .boolean) F L en pc lv [iv x] σ (some (v, σ)) :=
  G.fin fun C H locs kc ks ls hR hO hL => W.zret C.hx C.hb C.hr hz (fun t ht hW => ⟨hen.symm, by rw [ht]; exact hR, fun q hq => by rw [ht]; exact hO q hq⟩) hL hd (hlocks := C.lk)
theorem g_zreturnc {v : τ} {x : Int32} (hen : en v = enI x) (hd : decode cc pc = .ok (.ireturn, 1)) : G X own nm cc nL (some .boolean) F L en pc lv [iv x] σ (if zb x then some (v, σ) else none) :=
  G.chk fun h => g_zreturn hen (zb_ok h).1 hd
theorem g_lreturn {v : τ} {x : Int64} (hen : en v = enJ x) (hd : decode cc pc = .ok (.lreturn, 1)) : G X own nm cc nL (some .long) F L en pc lv [jv x] σ (some (v, σ)) :=
  G.fin fun C H locs kc ks ls hR hO hL => W.lret C.hx C.hb C.hr (fun t ht hW => ⟨hen.symm, by rw [ht]; exact hR, fun q hq => by rw [ht]; exact hO q hq⟩) hL hd (hlocks := C.lk)
theorem g_areturn {Cn : String} {v : τ} {x : Nat} (hen : en v = enR (cxz X) x) (hd : decode cc pc = .ok (.areturn, 1)) : G X own nm cc nL (some (.object Cn)) F L en pc lv [av x] σ (some (v, σ)) :=
  G.fin fun C H locs kc ks ls hR hO hL => W.aret C.hx C.hb C.hr (Or.inl ⟨_, rfl⟩) (rv_cases _ _) (fun t ht hW => ⟨hen.symm, by rw [ht]; exact hR, fun q hq => by rw [ht]; exact hO q hq⟩) hL hd (hlocks := C.lk)
theorem g_return {v : τ} (hen : en v = enV ()) (hd : decode cc pc = .ok (.return_, 1)) : G X own nm cc nL none F L en pc lv [] σ (some (v, σ)) :=
  G.fin fun C H locs kc ks ls hR hO hL => W.vret C.hx C.hb C.hr (fun t ht hW => ⟨hen.symm, by rw [ht]; exact hR, fun q hq => by rw [ht]; exact hO q hq⟩) hL hd (hlocks := C.lk)
end News
