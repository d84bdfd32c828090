/-! THE LAW'S OWN WALK: the judgement GL, as G, with the script (an old cell) in the local 0 -/
def R_law : String := "ModuleEngineLaw"
def lw_Q (_ : Array Value) (s : State) (o : Outcome) (t : State) : Prop := o = .returned (some (.int 1)) ∧ Framed s o t [] 283473 8251061
def lw_Z (below : List Frame) (a : Array Value) (s : State) : State → Prop := fun t => ∃ o, t.status = .running ∧ Ended t below o ∧ lw_Q a s o t
theorem lw_ret {p : Program} {l : Launch} {e : Env} {s : State} {m : MethodId} {below : List Frame} {meth : Method} {c : Code} {b : Nat} (hx : p.tables.exec = Jvm.exec) (hb : c.code = code) (hr : meth.sig.returnType = ret) (hlocks : meth.locks = false) {pc : Nat} {H : Heap} {ls : Array Slot} (hdg : decode code pc = .ok (.ireturn, 1)) : W p l e room_1 s m #[Value.ref b] below meth c H [] 283473 8251061 (lw_Z below #[Value.ref b] s) (F0 m pc ls [.int 1]) := by
  intro T hT X
  obtain ⟨fs, hret, hrun, hended, hW, hframe⟩ := X.leave (v := some (.int 1)) (hlocks := hlocks) (fun h => by rw [hr] at h; cases h)
  have hmeth' : T.vm.method? m = some meth := X.method'
  refine ⟨T.setFrames fs, ?_, .returned (some (.int 1)), hrun, hended, rfl, ⟨_, rfl⟩, hW, hframe⟩
  jvm_step X.here [X.here.top, hx, hb, hdg, hmeth', hr, ret, narrow_b1]
  (try refine ⟨rfl, ?_⟩); (try refine ⟨rfl, ?_⟩)
  first | (intro acts; rw [hret _ acts rfl rfl rfl]) | rw [hret _ _ rfl rfl rfl]
  exact Steps.refl _
abbrev CxL (X : CX) (b Ln : Nat) (xs : Nat → Int32) : Prop := Cx X R_law "law" code 4 ret 23 1032 ∧ cxR X = room_1 ∧ cxa X = #[.ref b] ∧ va_X b Ln xs (cxs X) (cxs X).heap ∧ b ≤ cxz X ∧ (cxs X).heap.size = cxz X + 1
abbrev lvL (b z : Nat) (lv : List (Nat × AV)) : List (Nat × Value) := (0, Value.ref b) :: lvm z lv
theorem lv_rdL {z b : Nat} {ls : Array Slot} {nL : Nat} {lv : List (Nat × AV)} (h : lv_has ls nL (lvL b z lv)) {k i : Nat} {a : AV} (hk : lv[k]? = some (i, a)) : ls[i]? = some (.val (vl z a)) :=
  h.2.2 (i, vl z a) (List.mem_cons_of_mem _ (List.mem_map.mpr ⟨(i, a), List.mem_of_getElem? hk, rfl⟩))
def GL (X : CX) (b Ln : Nat) (xs : Nat → Int32) (pc : Nat) (lv : List (Nat × AV)) (st : List AV) (σ : HS) (o : Option (Int32 × HS)) : Prop :=
  ∀ (σ' : HS), o = some (1, σ') → (cnt σ ≤ cnt σ' ∧ slt σ ≤ slt σ') ∧ (CxL X b Ln xs → cnt σ' ≤ 283473 → slt σ' ≤ 8251061 →
    ∀ (H : Heap) (locs : List Loc) (ls : Array Slot), Rep (cxz X) (cxD X) σ H → (∀ q, q ≤ cxz X → H[q]? = (cxs X).heap[q]?) → (∀ q ∈ locs, cxz X < q.base) → lv_has ls (cxc X).maxLocals (lvL b (cxz X) lv) →
      WX X H locs (cnt σ) (slt σ) (lw_Z (cxb X) #[.ref b] (cxs X)) (F0 (cxm X) pc ls (st.map (vl (cxz X)))))
theorem CxL.cells {X : CX} {b Ln : Nat} {xs : Nat → Int32} (C : CxL X b Ln xs) : (cxR X).cells = 283473 := by rw [C.2.1]; rfl
theorem CxL.slots {X : CX} {b Ln : Nat} {xs : Nat → Int32} (C : CxL X b Ln xs) : (cxR X).slots = 8251061 := by rw [C.2.1]; rfl
section LawLifts
variable {X : CX} {b Ln : Nat} {xs : Nat → Int32} {pc pc' pc1 pc2 : Nat} {lv lv' : List (Nat × AV)} {st st' : List AV} {σ : HS} {o o1 o2 : Option (Int32 × HS)}
theorem GL.nul : GL X b Ln xs pc lv st σ none := fun _ h => by cases h
theorem GL.pure (h : CxL X b Ln xs → ∀ (H : Heap) (locs : List Loc) (kc ks : Nat) (Q : State → Prop) (ls : Array Slot), (∀ q, q ≤ cxz X → H[q]? = (cxs X).heap[q]?) → lv_has ls (cxc X).maxLocals (lvL b (cxz X) lv) → WX X H locs kc ks Q (F0 (cxm X) pc' ls (st'.map (vl (cxz X)))) → WX X H locs kc ks Q (F0 (cxm X) pc ls (st.map (vl (cxz X))))) (k : GL X b Ln xs pc' lv st' σ o) : GL X b Ln xs pc lv st σ o := by
  intro σ' ho
  obtain ⟨h1, h2⟩ := k σ' ho
  refine ⟨h1, ?_⟩
  intro C e1 e2 H locs ls hR hO hL hl
  exact h C H locs _ _ _ ls hO hl (h2 C e1 e2 H locs ls hR hO hL hl)
theorem GL.str (h : CxL X b Ln xs → ∀ (H : Heap) (locs : List Loc) (kc ks : Nat) (Q : State → Prop) (ls : Array Slot), lv_has ls (cxc X).maxLocals (lvL b (cxz X) lv) → (∀ ls', lv_has ls' (cxc X).maxLocals (lvL b (cxz X) lv') → WX X H locs kc ks Q (F0 (cxm X) pc' ls' (st'.map (vl (cxz X))))) → WX X H locs kc ks Q (F0 (cxm X) pc ls (st.map (vl (cxz X))))) (k : GL X b Ln xs pc' lv' st' σ o) : GL X b Ln xs pc lv st σ o := by
  intro σ' ho
  obtain ⟨h1, h2⟩ := k σ' ho
  refine ⟨h1, ?_⟩
  intro C e1 e2 H locs ls hR hO hL hl
  exact h C H locs _ _ _ ls hl (fun ls' hl' => h2 C e1 e2 H locs ls' hR hO hL hl')
theorem GL.br {c : Prop} [Decidable c] (h : CxL X b Ln xs → ∀ (H : Heap) (locs : List Loc) (kc ks : Nat) (Q : State → Prop) (ls : Array Slot), (c → WX X H locs kc ks Q (F0 (cxm X) pc1 ls (st'.map (vl (cxz X))))) → (¬ c → WX X H locs kc ks Q (F0 (cxm X) pc2 ls (st'.map (vl (cxz X))))) → WX X H locs kc ks Q (F0 (cxm X) pc ls (st.map (vl (cxz X)))))
    (k1 : GL X b Ln xs pc1 lv st' σ o1) (k2 : GL X b Ln xs pc2 lv st' σ o2) : GL X b Ln xs pc lv st σ (if c then o1 else o2) := by
  intro σ' ho
  by_cases hc : c
  · rw [if_pos hc] at ho
    obtain ⟨h1, h2⟩ := k1 σ' ho
    refine ⟨h1, ?_⟩
    intro C e1 e2 H locs ls hR hO hL hl
    exact h C H locs _ _ _ ls (fun _ => h2 C e1 e2 H locs ls hR hO hL hl) (fun hn => absurd hc hn)
  · rw [if_neg hc] at ho
    obtain ⟨h1, h2⟩ := k2 σ' ho
    refine ⟨h1, ?_⟩
    intro C e1 e2 H locs ls hR hO hL hl
    exact h C H locs _ _ _ ls (fun hy => absurd hy hc) (fun _ => h2 C e1 e2 H locs ls hR hO hL hl)
theorem GL.chk {c : Prop} [Decidable c] (k : c → GL X b Ln xs pc lv st σ o) : GL X b Ln xs pc lv st σ (if c then o else none) := by
  by_cases hc : c
  · rw [if_pos hc]; exact k hc
  · rw [if_neg hc]; exact GL.nul
theorem GL.sub (ks : List Nat) (hl : ks.filterMap (fun k => lv[k]?) = lv') (k : GL X b Ln xs pc lv' st σ o) : GL X b Ln xs pc lv st σ o := by
  intro σ' ho
  obtain ⟨h1, h2⟩ := k σ' ho
  refine ⟨h1, ?_⟩
  intro C e1 e2 H locs ls hR hO hL hl'
  refine h2 C e1 e2 H locs ls hR hO hL ⟨hl'.1, hl'.2.1, fun q hq => ?_⟩
  subst hl
  rcases List.mem_cons.mp hq with hq | hq
  · rw [hq]; exact hl'.2.2 _ List.mem_cons_self
  · obtain ⟨q0, hq0, rfl⟩ := List.mem_map.mp hq
    obtain ⟨i, -, hi⟩ := List.mem_filterMap.mp hq0
    exact hl'.2.2 _ (List.mem_cons_of_mem _ (List.mem_map.mpr ⟨q0, List.mem_of_getElem? hi, rfl⟩))
/-- a store besides the local 0 -/
theorem lvL_st {i : Nat} {v : AV} {z : Nat} {ls : Array Slot} {n : Nat} (hi : ¬ i = 0) (h : lv_has ls n ((i, vl z v) :: (lvL b z lv).filter (fun q => !(q.1 == i) && !(q.1 + 1 == i && q.2.category == 2)))) : lv_has ls n (lvL b z (st1 i v lv)) := by
  have e : (lvL b z lv).filter (fun q => !(q.1 == i) && !(q.1 + 1 == i && q.2.category == 2)) = (0, Value.ref b) :: (lvm z lv).filter (fun q => !(q.1 == i) && !(q.1 + 1 == i && q.2.category == 2)) := by
    rw [lvL, List.filter_cons, if_pos]
    have h0 : (0 == i) = false := by simpa using fun h : 0 = i => hi h.symm
    have h1 : ((Value.ref b).category == 2) = false := rfl
    show (!(0 == i) && !(0 + 1 == i && (Value.ref b).category == 2)) = true
    rw [h0, h1]; simp
  rw [e] at h
  refine ⟨h.1, h.2.1, fun q hq => ?_⟩
  rw [lvL, ← st1_map] at hq
  refine h.2.2 q ?_
  simp only [List.mem_cons] at hq ⊢
  rcases hq with h | h | h
  · exact Or.inr (Or.inl h)
  · exact Or.inl h
  · exact Or.inr (Or.inr h)
theorem gl_stI {x : Int32} {j : Fin 4} (i : Nat) (hd : decode code pc = .ok (.istore_n j, 1)) (hi : (j : Nat) = i) (hi0 : ¬ i = 0) (hn : i < 4) (hl' : st1 i (iv x) lv = lv') (k : GL X b Ln xs (pc + 1) lv' st σ o) : GL X b Ln xs pc lv (iv x :: st) σ o :=
  GL.str (fun C H locs kc ks Q ls hl w => lv_istore_n C.1.hx C.1.hb hd hi hl (by rw [C.1.ml]; exact hn) rfl (fun ls' h => w ls' (by rw [← hl']; exact lvL_st (v := iv x) hi0 h))) k
theorem gl_stA {x : Nat} {j : Fin 4} (i : Nat) (hd : decode code pc = .ok (.astore_n j, 1)) (hi : (j : Nat) = i) (hi0 : ¬ i = 0) (hn : i < 4) (hl' : st1 i (av x) lv = lv') (k : GL X b Ln xs (pc + 1) lv' st σ o) : GL X b Ln xs pc lv (av x :: st) σ o :=
  GL.str (fun C H locs kc ks Q ls hl w => by
    cases x with
    | zero => exact lv_astore_nN C.1.hx C.1.hb hd hi hl (by rw [C.1.ml]; exact hn) rfl (fun ls' h => w ls' (by rw [← hl']; exact lvL_st (v := av 0) hi0 h))
    | succ m => exact lv_astore_n C.1.hx C.1.hb hd hi hl (by rw [C.1.ml]; exact hn) rfl (fun ls' h => w ls' (by rw [← hl']; exact lvL_st (v := av (m + 1)) hi0 h))) k
theorem gl_iincB {i : Nat} {n : Int} {x w : Int32} {lv' : Int32 → List (Nat × AV)} {f : Int32 → Option (Int32 × HS)} (q : Nat) (hd : decode code pc = .ok (.iinc i n, 3)) (hi0 : ¬ i = 0) (hq : lv[q]? = some (i, iv x)) (hw : Int32.ofInt n = w) (hn : i < 4) (hl' : ∀ v, st1 i (iv v) lv = lv' v) (k : ∀ v, GL X b Ln xs (pc + 3) (lv' v) st σ (f v)) : GL X b Ln xs pc lv st σ (bn (x + w) f) :=
  GL.str (fun C H locs kc ks Q ls hl w' => lv_iinc C.1.hx C.1.hb hd hl (k := q + 1) (v := x + w) (by show (lvm (cxz X) lv)[q]? = _; rw [List.getElem?_map, hq]; rfl) (by rw [hw]) (by rw [C.1.ml]; exact hn) rfl (fun ls' h => w' ls' (by rw [← hl']; exact lvL_st (v := iv (x + w)) hi0 h))) (k _)
theorem gl_slen {j : Fin 4} (hd : decode code pc = .ok (.aload_n j, 1)) (hj : (j : Nat) = 0) (hd2 : decode code (pc + 1) = .ok (.arraylength, 1)) (k : GL X b Ln xs (pc + 2) lv (iv (Int32.ofNat Ln) :: st) σ o) : GL X b Ln xs pc lv st σ o :=
  GL.pure (fun C H locs kc ks Q ls hO hl w => lv_aload_n C.1.hx C.1.hb hd hj (hl.2.2 (0, Value.ref b) List.mem_cons_self) (by
    obtain ⟨scr, h1, h2, h3, h4, h5⟩ := C.2.2.2.1
    exact W.alen (n := Int32.ofNat Ln) C.1.hx C.1.hb (by rw [hO b C.2.2.2.2.1]; exact h1) h2 (by rw [h4] <;> rfl) rfl rfl hd2 w)) k
theorem gl_rd (C : CxL X b Ln xs) {H : Heap} {locs : List Loc} {kc ks : Nat} {Q : State → Prop} {ls : Array Slot} (hO : ∀ q, q ≤ cxz X → H[q]? = (cxs X).heap[q]?) {i : Int32} (hin : inb i Ln) (hd : decode code pc = .ok (.iaload, 1)) {rest : List Value} (w : WX X H locs kc ks Q (F0 (cxm X) (pc + 1) ls (.int (xs (ix i)) :: rest))) : WX X H locs kc ks Q (F0 (cxm X) pc ls (.int i :: .ref b :: rest)) := by
  obtain ⟨scr, h1, h2, h3, h4, h5⟩ := C.2.2.2.1
  have hlt : i.toNatClampNeg < Ln := Nat.not_le.mp fun q => hin (Or.inr q)
  exact W.iald (v := .int (xs i.toNatClampNeg)) C.1.hx C.1.hb (by rw [hO b C.2.2.2.2.1]; exact h1) h2 h3 (by rw [h4]; exact hin) (h5 _ hlt) rfl rfl hd w
theorem gl_sld {j j2 : Fin 4} {i : Int32} (q : Nat) (hd : decode code pc = .ok (.aload_n j, 1)) (hj : (j : Nat) = 0) (hd2 : decode code (pc + 1) = .ok (.iload_n j2, 1)) (hj2 : (j2 : Nat) = 3) (hq : lv[q]? = some (3, iv i)) (hd3 : decode code (pc + 2) = .ok (.iaload, 1)) (k : GL X b Ln xs (pc + 3) lv (iv (xs (ix i)) :: st) σ o) : GL X b Ln xs pc lv st σ (if inb i Ln then o else none) :=
  GL.chk fun hin => GL.pure (fun C H locs kc ks Q ls hO hl w => lv_aload_n C.1.hx C.1.hb hd hj (hl.2.2 (0, Value.ref b) List.mem_cons_self) (lv_iload_n C.1.hx C.1.hb hd2 hj2 (lv_rdL hl hq) (gl_rd C hO hin hd3 w))) k
theorem gl_sldk {j j2 : Fin 4} {i v : Int32} {n : Int} (q : Nat) (hd : decode code pc = .ok (.aload_n j, 1)) (hj : (j : Nat) = 0) (hd2 : decode code (pc + 1) = .ok (.iload_n j2, 1)) (hj2 : (j2 : Nat) = 3) (hq : lv[q]? = some (3, iv i)) (hd3 : decode code (pc + 2) = .ok (.iconst n, 1)) (hv : Int32.ofInt n = v) (hd4 : decode code (pc + 3) = .ok (.iadd, 1)) (hd5 : decode code (pc + 4) = .ok (.iaload, 1)) (k : GL X b Ln xs (pc + 5) lv (iv (xs (ix (i + v))) :: st) σ o) : GL X b Ln xs pc lv st σ (if inb (i + v) Ln then o else none) :=
  GL.chk fun hin => GL.pure (fun C H locs kc ks Q ls hO hl w => lv_aload_n C.1.hx C.1.hb hd hj (hl.2.2 (0, Value.ref b) List.mem_cons_self) (lv_iload_n C.1.hx C.1.hb hd2 hj2 (lv_rdL hl hq) (lv_iconst C.1.hx C.1.hb hd3 hv (lv_iadd C.1.hx C.1.hb hd4 (gl_rd C hO hin hd5 w))))) k
/-- the end -/
theorem gl_ret1 {x : Int32} (hd : decode code pc = .ok (.ireturn, 1)) : GL X b Ln xs pc lv [iv x] σ (some (x, σ)) := by
  intro σ' ho
  cases ho
  refine ⟨⟨Nat.le_refl _, Nat.le_refl _⟩, ?_⟩
  intro C e1 e2 H locs ls hR hO hL hl
  intro T hT XX
  have X2 : Stand (cxp X) (cxl X) (cxe X) (cxR X) (cxs X) (cxm X) (cxa X) (cxb X) (cxM X) (cxc X) T ([] ++ locs) (cnt σ) (slt σ) := XX
  have X3 := Stand.forget X2 (fun y hy => by have := hL y hy; rw [C.2.2.2.2.2]; omega)
  have X4 : Stand (cxp X) (cxl X) (cxe X) (cxR X) (cxs X) (cxm X) (cxa X) (cxb X) (cxM X) (cxc X) T [] 283473 8251061 := { X3 with same := X3.same.weaken (fun y hy _ => hy) e1 e2 }
  have w := lw_ret (p := cxp X) (l := cxl X) (e := cxe X) (s := cxs X) (m := cxm X) (below := cxb X) (meth := cxM X) (c := cxc X) (b := b) (H := T.heap) (ls := ls) C.1.hx C.1.hb C.1.hr C.1.lk hd
  rw [← C.2.1, ← C.2.2.1] at w
  obtain ⟨t, a1, b1⟩ := w T rfl X4
  exact ⟨t, a1, by rw [C.2.2.1] at b1; exact b1⟩
theorem gl_ret0 {x : Int32} : GL X b Ln xs pc lv [iv x] σ (if x = 1 then none else some (x, σ)) := by
  intro σ' ho
  by_cases h : x = 1
  · rw [if_pos h] at ho; cases ho
  · rw [if_neg h] at ho; exact absurd (congrArg Prod.fst (Option.some.inj ho)) h
end LawLifts
section LawOps
variable {X : CX} {b Ln : Nat} {xs : Nat → Int32} {pc pc' : Nat} {lv lv' : List (Nat × AV)} {st st' : List AV} {σ : HS} {o o1 o2 : Option (Int32 × HS)}
theorem gl_iconst  {n : Int} {v : Int32} (hd : decode code pc = .ok (.iconst n, 1)) (hv : Int32.ofInt n = v) (k : GL X b Ln xs (pc + 1) lv (iv v :: st) σ o) : GL X b Ln xs pc lv (st) σ o := GL.pure (fun C H locs kc ks Q ls hO hl w => lv_iconst C.1.hx C.1.hb hd hv w) k
theorem gl_bipush  {n : Int} {v : Int32} (hd : decode code pc = .ok (.bipush n, 2)) (hv : (Int8.ofInt n).toInt32 = v) (k : GL X b Ln xs (pc + 2) lv (iv v :: st) σ o) : GL X b Ln xs pc lv (st) σ o := GL.pure (fun C H locs kc ks Q ls hO hl w => lv_bipush C.1.hx C.1.hb hd hv w) k
theorem gl_iload_n  {j : Fin 4} {x : Int32} (i q : Nat) (hd : decode code pc = .ok (.iload_n j, 1)) (hi : (j : Nat) = i) (hq : lv[q]? = some (i, iv x)) (k : GL X b Ln xs (pc + 1) lv (iv x :: st) σ o) : GL X b Ln xs pc lv st σ o := GL.pure (fun C H locs kc ks Q ls hO hl w => lv_iload_n C.1.hx C.1.hb hd hi (lv_rdL hl hq) w) k
theorem gl_aload_n  {j : Fin 4} {x : Nat} (i q : Nat) (hd : decode code pc = .ok (.aload_n j, 1)) (hi : (j : Nat) = i) (hq : lv[q]? = some (i, av x)) (k : GL X b Ln xs (pc + 1) lv (av x :: st) σ o) : GL X b Ln xs pc lv st σ o := GL.pure (fun C H locs kc ks Q ls hO hl w => by
  have h := lv_rdL hl hq
  cases x with
  | zero => exact lv_aload_nN C.1.hx C.1.hb hd hi h w
  | succ n => exact lv_aload_n C.1.hx C.1.hb hd hi h w) k
theorem gl_iadd  {x y : Int32} (hd : decode code pc = .ok (.iadd, 1)) (k : GL X b Ln xs (pc + 1) lv (iv (x + y) :: st) σ o) : GL X b Ln xs pc lv (iv y :: iv x :: st) σ o := GL.pure (fun C H locs kc ks Q ls hO hl w => lv_iadd C.1.hx C.1.hb hd w) k
theorem gl_isub  {x y : Int32} (hd : decode code pc = .ok (.isub, 1)) (k : GL X b Ln xs (pc + 1) lv (iv (x - y) :: st) σ o) : GL X b Ln xs pc lv (iv y :: iv x :: st) σ o := GL.pure (fun C H locs kc ks Q ls hO hl w => lv_isub C.1.hx C.1.hb hd w) k
theorem gl_iand  {x y : Int32} (hd : decode code pc = .ok (.iand, 1)) (k : GL X b Ln xs (pc + 1) lv (iv (x &&& y) :: st) σ o) : GL X b Ln xs pc lv (iv y :: iv x :: st) σ o := GL.pure (fun C H locs kc ks Q ls hO hl w => lv_iand C.1.hx C.1.hb hd w) k
theorem gl_land  {x y : Int64} (hd : decode code pc = .ok (.land, 1)) (k : GL X b Ln xs (pc + 1) lv (jv (x &&& y) :: st) σ o) : GL X b Ln xs pc lv (jv y :: jv x :: st) σ o := GL.pure (fun C H locs kc ks Q ls hO hl w => lv_land C.1.hx C.1.hb hd w) k
theorem gl_lor  {x y : Int64} (hd : decode code pc = .ok (.lor, 1)) (k : GL X b Ln xs (pc + 1) lv (jv (x ||| y) :: st) σ o) : GL X b Ln xs pc lv (jv y :: jv x :: st) σ o := GL.pure (fun C H locs kc ks Q ls hO hl w => lv_lor C.1.hx C.1.hb hd w) k
theorem gl_lshl  {x : Int64} {y : Int32} (hd : decode code pc = .ok (.lshl, 1)) (k : GL X b Ln xs (pc + 1) lv (jv (lshl x y) :: st) σ o) : GL X b Ln xs pc lv (iv y :: jv x :: st) σ o := GL.pure (fun C H locs kc ks Q ls hO hl w => lv_lshl C.1.hx C.1.hb hd rfl w) k
theorem gl_i2l  {x : Int32} (hd : decode code pc = .ok (.i2l, 1)) (k : GL X b Ln xs (pc + 1) lv (jv x.toInt64 :: st) σ o) : GL X b Ln xs pc lv (iv x :: st) σ o := GL.pure (fun C H locs kc ks Q ls hO hl w => lv_i2l C.1.hx C.1.hb hd rfl w) k
theorem gl_dup  {a : AV} (hd : decode code pc = .ok (.dup, 1)) (h : isJ a = false) (k : GL X b Ln xs (pc + 1) lv (a :: a :: st) σ o) : GL X b Ln xs pc lv (a :: st) σ o := GL.pure (fun C H locs kc ks Q ls hO hl w => lv_dup C.1.hx C.1.hb hd (cat1 h) w) k
theorem gl_goto  {off : Int} (tgt : Nat) (hd : decode code pc = .ok (.goto off, 3)) (ht : (pc : Int) + off = (tgt : Int)) (k : GL X b Ln xs tgt lv st σ o) : GL X b Ln xs pc lv st σ o := GL.pure (fun C H locs kc ks Q ls hO hl w => lv_goto C.1.hx C.1.hb hd ht w) k
theorem gl_ldc2 {idx : Nat} {v : Int64} (hw : Cond.constantLong R_law idx v ∈ lw_all) (hd : decode code pc = .ok (.ldc2_w idx, 3)) (kk : GL X b Ln xs (pc + 3) lv (jv v :: st) σ o) : GL X b Ln xs pc lv st σ o :=
  GL.pure (fun C H locs kc ks Q ls hO hl w => lv_ldc2 C.1.hx C.1.hb C.1.ho (C.1.ht _ hw) hd w) kk
theorem gl_tsw {dflt lo hi : Int} {offs : Array Int} {len : Nat} {x : Int32} (hd : decode code pc = .ok (.tableswitch dflt lo hi offs, len)) (hok : tswOk pc dflt lo hi offs = true) (k : GL X b Ln xs (tswT pc dflt lo hi offs x) lv st σ o) : GL X b Ln xs pc lv (iv x :: st) σ o := by
  have hok' := hok
  simp only [tswOk, Bool.and_eq_true, List.all_eq_true, decide_eq_true_eq] at hok
  refine GL.pure (fun C H locs kc ks Q ls hO hl w => ?_) k
  by_cases hr : x.toInt < lo ∨ hi < x.toInt
  · rw [tswT, if_pos hr] at w
    exact lv_tableOut C.1.hx C.1.hb hd hr (Int.toNat_of_nonneg hok.1).symm w
  · rw [tswT, if_neg hr] at w
    have h1 : (x.toInt - lo).toNat < offs.size := by omega
    have h2 : offs[(x.toInt - lo).toNat]? = some (offs.getD (x.toInt - lo).toNat 0) := by
      simp [Array.getD, h1]
    have h3 : 0 ≤ (pc : Int) + offs.getD (x.toInt - lo).toNat 0 := by
      refine hok.2.1 _ ?_
      rw [Array.mem_toList_iff]
      exact Array.mem_of_getElem? h2
    exact lv_tableIn C.1.hx C.1.hb hd (fun h => hr (Or.inl h)) (fun h => hr (Or.inr h)) h2 (Int.toNat_of_nonneg h3).symm w
theorem gl_icmp_eq  {x y : Int32} {off : Int} (tgt : Nat) (hd : decode code pc = .ok (.if_icmp .eq off, 3)) (ht : (pc : Int) + off = (tgt : Int)) (k1 : GL X b Ln xs tgt lv st σ o1) (k2 : GL X b Ln xs (pc + 3) lv st σ o2) : GL X b Ln xs pc lv (iv y :: iv x :: st) σ (if x = y then o1 else o2) := GL.br (fun C H locs kc ks Q ls w1 w2 => lv_icmp_eq C.1.hx C.1.hb hd ht w1 w2) k1 k2
theorem gl_icmp_gt  {x y : Int32} {off : Int} (tgt : Nat) (hd : decode code pc = .ok (.if_icmp .gt off, 3)) (ht : (pc : Int) + off = (tgt : Int)) (k1 : GL X b Ln xs tgt lv st σ o1) (k2 : GL X b Ln xs (pc + 3) lv st σ o2) : GL X b Ln xs pc lv (iv y :: iv x :: st) σ (if y < x then o1 else o2) := GL.br (fun C H locs kc ks Q ls w1 w2 => lv_icmp_gt C.1.hx C.1.hb hd ht w1 w2) k1 k2
theorem gl_lcmp_eq  {x y : Int64} {off : Int} (tgt : Nat) (hd : decode code pc = .ok (.lcmp, 1)) (hd2 : decode code (pc + 1) = .ok (.ifCond .eq off, 3)) (ht : ((pc + 1 : Nat) : Int) + off = (tgt : Int)) (k1 : GL X b Ln xs tgt lv st σ o1) (k2 : GL X b Ln xs (pc + 4) lv st σ o2) : GL X b Ln xs pc lv (jv y :: jv x :: st) σ (if x = y then o1 else o2) := GL.br (fun C H locs kc ks Q ls w1 w2 => W.lcmp C.1.hx C.1.hb hd (lv_if_eq C.1.hx C.1.hb hd2 ht (fun h => w1 ((lg_cmp_eq x y).mp h)) (fun h => w2 (fun h2 => h ((lg_cmp_eq x y).mpr h2))))) k1 k2
theorem gl_nmI {e : Int32} {f : Int32 → Option (Int32 × HS)} (k : ∀ v, GL X b Ln xs pc lv (iv v :: st) σ (f v)) : GL X b Ln xs pc lv (iv e :: st) σ (bn e f) := k e
theorem gl_nmJ {e : Int64} {f : Int64 → Option (Int32 × HS)} (k : ∀ v, GL X b Ln xs pc lv (jv v :: st) σ (f v)) : GL X b Ln xs pc lv (jv e :: st) σ (bn e f) := k e
theorem gl_nmA {e : Nat} {f : Nat → Option (Int32 × HS)} (k : ∀ v, GL X b Ln xs pc lv (av v :: st) σ (f v)) : GL X b Ln xs pc lv (av e :: st) σ (bn e f) := k e
theorem gl_case {T : Int32 → Nat} {x : Int32} {ex : List Int32} {key : Int32} {t : Nat} {rest : List (Int32 × Option (Int32 × HS))} (hx : ∀ k ∈ ex, ¬ x = k) (hk : T key = t) (k1 : GL X b Ln xs t lv st σ o1) (k2 : (∀ k ∈ key :: ex, ¬ x = k) → GL X b Ln xs (T x) lv st σ (swx x rest o)) : GL X b Ln xs (T x) lv st σ (swx x ((key, o1) :: rest) o) := by
  show GL X b Ln xs (T x) lv st σ (if x = key then o1 else swx x rest o)
  by_cases h : x = key
  · rw [if_pos h, h, hk]; exact k1
  · rw [if_neg h]
    exact k2 (fun k hk => by
      rcases List.mem_cons.mp hk with e | e
      · rw [e]; exact h
      · exact hx k e)
theorem gl_dflt {T : Int32 → Nat} {x : Int32} {t : Nat} (h : T x = t) (k1 : GL X b Ln xs t lv st σ o) : GL X b Ln xs (T x) lv st σ (swx x [] o) := by
  rw [h]; exact k1
theorem GL.nw {t n sl : Nat} (h : CxL X b Ln xs → ∀ (H : Heap) (locs : List Loc) (kc ks : Nat) (Q : State → Prop) (ls : Array Slot), Rep (cxz X) (cxD X) σ H → kc + 1 ≤ (cxR X).cells → ks + sl ≤ (cxR X).slots → (∀ (H' : Heap), Rep (cxz X) (cxD X) (nw σ t n sl) H' → (∀ q, q < H.size → H'[q]? = H[q]?) → WX X H' locs (kc + 1) (ks + sl) Q (F0 (cxm X) pc' ls (st'.map (vl (cxz X))))) → WX X H locs kc ks Q (F0 (cxm X) pc ls (st.map (vl (cxz X))))) (k : GL X b Ln xs pc' lv st' (nw σ t n sl) o) : GL X b Ln xs pc lv st σ o := by
  intro σ' ho
  obtain ⟨h1, h2⟩ := k σ' ho
  have ec : cnt (Jvm.Pilot.CModuleEngineLaw_law_r1006_a0bf7e.nw σ t n sl) = cnt σ + 1 := rfl
  have es : slt (Jvm.Pilot.CModuleEngineLaw_law_r1006_a0bf7e.nw σ t n sl) = slt σ + sl := rfl
  rw [ec, es] at h1
  refine ⟨⟨by omega, by omega⟩, ?_⟩
  intro C e1 e2 H locs ls hR hO hL hl
  refine h C H locs _ _ _ ls hR (by rw [C.cells]; omega) (by rw [C.slots]; omega) (fun H' hR' hH' => h2 C e1 e2 H' _ ls hR' (fun q hq => ?_) hL hl)
  rw [hH' q (by rw [hR.1]; omega)]; exact hO q hq
theorem gl_newo {idx ci n : Nat} {k : Nat → HS → Option (Int32 × HS)} (hn : ND R_law idx ci n) (hd : decode code pc = .ok (.new idx, 3)) (kk : ∀ (x : Nat) (σ1 : HS), GL X b Ln xs (pc + 3) lv (av x :: st) σ1 (k x σ1)) : GL X b Ln xs pc lv st σ (newo σ (ci + 1) n k) := by
  obtain ⟨q, ty, h1, h2, h3, h4, h5, h6, h7, h8⟩ := hn
  refine GL.nw (t := ci + 1) (n := 0) (sl := n) (st' := av (cnt σ + 1) :: st) (pc' := pc + 3) (fun C H locs kc ks Q ls hR hc hs w => ?_) (kk _ _)
  have hKn := C.1.kk.u h1
  refine W.newcK C.1.hx C.1.hb C.1.ho (C.1.ht _ h6) (C.1.ht _ h7) (C.1.ht _ h8) rfl hd hc hs hKn.2.1 rfl fun H1 kC hkC e1 z1 o1 => ?_
  have hsz : H.size = cxz X + (cnt σ + 1) := by rw [hR.1]; omega
  rw [hsz] at e1 ⊢
  refine w H1 (hR.new z1 o1 ⟨fun ci' q' ty' a1 a2 a3 => ?_, fun ai ty' a1 a2 => ?_⟩) o1
  · have a1 : up1 σ.1 (cnt σ + 1) (ci + 1) (cnt σ + 1) = ci' + 1 := a1
    rw [nw_at] at a1
    obtain rfl : ci = ci' := by omega
    cases h1.symm.trans a2
    cases h2.symm.trans a3
    exact (u_born ty C.1.ht h3 hKn hkC e1 h4).to (fun j hj => (cv_nw_at (ty j) (h5 j hj) j).symm)
  · have a1 : up1 σ.1 (cnt σ + 1) (ci + 1) (cnt σ + 1) = 100 + ai := a1
    rw [nw_at] at a1
    have := CL_small h1
    omega
end LawOps
section LawCalls
variable {X : CX} {b Ln : Nat} {xs : Nat → Int32} {pc : Nat} {lv : List (Nat × AV)} {st : List AV} {σ : HS}
  {idx ci n : Nat} {y : MethodName} {bytes : ByteArray} {maxL Fc Lc : Nat} {rt : Option FieldType} {τc : Type} {enc : Nat → τc → Outcome} {push : τc → List AV → List AV} {x : Nat} {as : List AV} {fc : HS → Option (τc × HS)} {k : τc → HS → Option (Int32 × HS)} {hh : List (Nat × Nat × Nat × Nat)}
theorem GL.call {stk : List AV} (hp : Pu enc push) (hC : Ct y bytes maxL rt Fc Lc enc as fc)
    (hrun : CxL X b Ln xs → ∀ (H : Heap) (locs : List Loc) (kc ks mc ms : Nat) (ls : Array Slot) (r : τc) (σ1 : HS), Rep (cxz X) (cxD X) σ H → (∀ q, q ≤ cxz X → H[q]? = (cxs X).heap[q]?) → ls.size = 4 → kc + mc ≤ (cxR X).cells → ks + ms ≤ (cxR X).slots →
      Met (cxl X) y (ws_ y bytes maxL rt) ({ frames := Fc, cells := mc, slots := ms, locals := Lc }) (CPc (cxz X) (cxD X) σ as) (CQc (cxz X) (cxD X) enc r σ1) mc ms (fun q => cxz X < q) →
      CallRun (cxp X) (cxl X) (cxe X) (cxR X) (cxs X) (cxm X) (cxa X) (cxb X) (cxM X) (cxc X) H locs kc ks mc ms (F0 (cxm X) pc ls (stk.map (vl (cxz X)))) (st.map (vl (cxz X))) (CQc (cxz X) (cxD X) enc r σ1 (as.map (vl (cxz X))).toArray) (fun q => cxz X < q))
    (kk : ∀ (r : τc) (σ1 : HS), GL X b Ln xs (pc + 3) lv (push r st) σ1 (k r σ1)) : GL X b Ln xs pc lv stk σ (cl (fc σ) k) := by
  intro σ' ho
  cases hf : fc σ with
  | none => rw [hf] at ho; cases ho
  | some q =>
    obtain ⟨r1, σ1⟩ := q
    rw [hf] at ho
    have ho : k r1 σ1 = some (1, σ') := ho
    obtain ⟨⟨m1, m2⟩, hM⟩ := hC X (cxl X) (cxz X) (cxD X) σ r1 σ1 hf
    obtain ⟨⟨m3, m4⟩, hW⟩ := kk r1 σ1 σ' ho
    refine ⟨⟨Nat.le_trans m1 m3, Nat.le_trans m2 m4⟩, ?_⟩
    intro C e1 e2 H locs ls hR hO hL hl
    obtain ⟨mc1, hmc⟩ := Nat.exists_eq_add_of_le m1
    obtain ⟨ms1, hms⟩ := Nat.exists_eq_add_of_le m2
    have hrun := hrun C H locs (cnt σ) (slt σ) mc1 ms1 ls r1 σ1 hR hO (by rw [← C.1.ml]; exact hl.1) (by rw [C.cells]; omega) (by rw [C.slots]; omega) ((hM C.1.nt mc1 ms1 hmc hms).met (fun a st o t h => by obtain ⟨v', hv1, -⟩ := hp (cxz X) r1 []; exact ⟨v', h.1.trans hv1⟩))
    intro T hT XX
    obtain ⟨v, st₀, t, T', Lo, h0, X', hLo, f1, ⟨hv, hRep, hold⟩, hst⟩ := hrun T hT XX
    obtain ⟨v', hv1, hv2⟩ := hp (cxz X) r1 st
    rw [hv1] at hv
    cases hv
    have hW2 := hW C e1 e2 t.heap (locs ++ Lo) ls hRep (fun q hq => by rw [hold q hq, h0]; exact hO q hq) (fun q hq => by
      rcases List.mem_append.mp hq with hq | hq
      · exact hL q hq
      · exact hLo q hq) hl
    rw [← hv2, hmc, hms] at hW2
    obtain ⟨t2, a1, b1⟩ := hW2 T' f1 X'
    exact ⟨t2, hst t2 a1, b1⟩
theorem gl_callV {q : vw_C} {ty : Nat → FieldType} (hq : CL[ci]? = some q) (hct : CT[ci]? = some ty) (hyc : y.cls = q.1) (hin : Cond.instanceMethod y ∈ lw_all) (hse : Cond.selects q.1 y y ∈ lw_all) (hm : MD R_law idx y bytes maxL rt n) (hC : Ct y bytes maxL rt Fc Lc enc (av x :: as) fc) (hn : as.length = n) (hw8 : wt st ≤ 8) (hF : Fc + 1 ≤ 23) (hL : 8 + (maxL + 11) + Lc ≤ 1032) (hp : Pu enc push) (hd : decode code pc = .ok (.invokevirtual idx, 3))
    (kk : ∀ (r : τc) (σ1 : HS), GL X b Ln xs (pc + 3) lv (push r st) σ1 (k r σ1)) : GL X b Ln xs pc lv (rvs as (av x :: st)) σ (if tg σ x = ci + 1 then cl (fc σ) k else none) := by
  obtain ⟨hl, hi, hco, hy1, hy2, hy3⟩ := hm
  refine GL.chk fun ht => GL.call hp hC (fun C H locs kc ks mc ms ls r σ1 hR hO hsz h1 h2 hM => ?_) kk
  obtain ⟨hx1, cell, q1, q2, q3, q4⟩ := hR.obj ht hq hct
  have hpre : PreV (cxs X) H q.1 (cxz X + x) (CPc (cxz X) (cxD X) σ (av x :: as)) (as.map (vl (cxz X))) := ⟨CPc.blind, ⟨cell, q1, by rw [q3]; rfl, by rw [q2]; exact (C.1.kk.u hq).2.1⟩, fun U hU hW => ⟨by show _ = (rv (cxz X) x :: as.map (vl (cxz X))).toArray; rw [rv_pos hx1], by rw [hU]; exact hR, C.1.kk.moved hW (by rw [hU]; exact hO)⟩⟩
  have hstk : (rvs as (av x :: st)).map (vl (cxz X)) = (as.map (vl (cxz X))).reverse ++ .ref (cxz X + x) :: st.map (vl (cxz X)) := by rw [rvs_map]; show _ ++ rv (cxz X) x :: _ = _; rw [rv_pos hx1]
  have hroom : 2 * (F0 (cxm X) pc ls ((rvs as (av x :: st)).map (vl (cxz X)))).monitorRoom + ((st.map (vl (cxz X))).map fun v => v.category).sum ≤ 8 := lv_room (by rw [wt_map]; exact hw8)
  have hargs : ((av x :: as).map (vl (cxz X))) = Value.ref (cxz X + x) :: as.map (vl (cxz X)) := by show rv (cxz X) x :: _ = _; rw [rv_pos hx1]
  rw [hargs]
  rcases hl with hl | ⟨host, hl⟩
  · exact W.runV (cfix C.1) hM (cwV (C := q.1) n C.1.ht (lw_V hl hin hse (hyc ▸ hi) hco) rfl rfl rfl ⟨hyc, hy1, hy2, hy3⟩ (cx_room C.1 hF hL)) hpre rfl (by rw [List.length_map]; exact hn) hsz hstk hroom hd ⟨h1, h2⟩
  · exact run_of_va (va_runVN (cfix C.1) hM ⟨va_cnB n C.1.ht (lw_meth hco) rfl rfl rfl (C.1.kk.2.2.1 _ (nw_in hl rfl)) (C.1.ht _ hi) ⟨hy1, hy2, hy3⟩ (cx_room C.1 hF hL), C.1.ht _ hin, C.1.ht _ hse⟩ hpre rfl (by rw [List.length_map]; exact hn) hsz hstk hroom hd ⟨h1, h2⟩)
theorem gl_callI (hyn : y.name = "<init>") (hin : Cond.instanceMethod y ∈ lw_all) (hm : MD R_law idx y bytes maxL none n) (hC : Ct y bytes maxL none Fc Lc enc (av x :: as) fc) (hn : as.length = n) (hw8 : wt st ≤ 8) (hF : Fc + 1 ≤ 23) (hL : 8 + (maxL + 11) + Lc ≤ 1032) (hp : Pu enc push) (hd : decode code pc = .ok (.invokespecial idx, 3))
    (kk : ∀ (r : τc) (σ1 : HS), GL X b Ln xs (pc + 3) lv (push r st) σ1 (k r σ1)) : GL X b Ln xs pc lv (rvs as (av x :: st)) σ (if ¬ x = 0 then cl (fc σ) k else none) := by
  obtain ⟨hl, hi, hco, hy1, hy2, hy3⟩ := hm
  refine GL.chk fun hx => GL.call hp hC (fun C H locs kc ks mc ms ls r σ1 hR hO hsz h1 h2 hM => ?_) kk
  have hx1 : 1 ≤ x := Nat.one_le_iff_ne_zero.mpr hx
  have hargs : ((av x :: as).map (vl (cxz X))) = Value.ref (cxz X + x) :: as.map (vl (cxz X)) := by show rv (cxz X) x :: _ = _; rw [rv_pos hx1]
  have hpre : PreS (cxs X) H (CPc (cxz X) (cxD X) σ (av x :: as)) (.ref (cxz X + x) :: as.map (vl (cxz X))) := ⟨CPc.blind, fun U hU hW => ⟨by rw [hargs], by rw [hU]; exact hR, C.1.kk.moved hW (by rw [hU]; exact hO)⟩⟩
  have hstk : (rvs as (av x :: st)).map (vl (cxz X)) = (as.map (vl (cxz X))).reverse ++ .ref (cxz X + x) :: st.map (vl (cxz X)) := by rw [rvs_map]; show _ ++ rv (cxz X) x :: _ = _; rw [rv_pos hx1]
  have hroom : 2 * (F0 (cxm X) pc ls ((rvs as (av x :: st)).map (vl (cxz X)))).monitorRoom + ((st.map (vl (cxz X))).map fun v => v.category).sum ≤ 8 := lv_room (by rw [wt_map]; exact hw8)
  rw [hargs]
  rcases hl with hl | ⟨host, hl⟩
  · exact W.runI (cfix C.1) hM (cwI n C.1.ht (lw_meth hco) rfl rfl rfl (C.1.ht _ hi) (C.1.ht _ hl) (C.1.ht _ hin) hyn ⟨hy1, hy2, hy3⟩ (cx_room C.1 hF hL)) hpre rfl (by rw [List.length_map]; exact hn) hsz hstk hroom hd ⟨h1, h2⟩
  · exact run_of_va (va_runIN (cfix C.1) hM ⟨va_cnB n C.1.ht (lw_meth hco) rfl rfl rfl (C.1.kk.2.2.1 _ (nw_in hl rfl)) (C.1.ht _ hi) ⟨hy1, hy2, hy3⟩ (cx_room C.1 hF hL), hyn, C.1.ht _ hin⟩ hpre rfl (by rw [List.length_map]; exact hn) hsz hstk hroom hd ⟨h1, h2⟩)
theorem gl_callVW {fc : HS → Option (τc × HS)} {k : τc → HS → Option (Int32 × HS)} {q : vw_C} {ty : Nat → FieldType} (hq : CL[ci]? = some q) (hct : CT[ci]? = some ty) (hin : Cond.instanceMethod y ∈ lw_all) (hse : Cond.selects q.1 y y ∈ lw_all) (hm : MDW R_law idx y bytes maxL rt hh n) (hC : CtW y hh bytes maxL rt Fc Lc enc (av x :: as) fc) (hn : as.length = n) (hw8 : wt st ≤ 8) (hF : Fc + 1 ≤ 23) (hL : 8 + (maxL + 11) + Lc ≤ 1032) (hp : Pu enc push) (hd : decode code pc = .ok (.invokevirtual idx, 3))
    (kk : ∀ (r : τc) (σ1 : HS), GL X b Ln xs (pc + 3) lv (push r st) σ1 (k r σ1)) : GL X b Ln xs pc lv (rvs as (av x :: st)) σ (if tg σ x = ci + 1 then cl (fc σ) k else none) := by
  obtain ⟨hl, hi, hco, hy1, hy2, hy3⟩ := hm
  refine GL.chk fun ht => ?_
  intro σ' ho
  cases hf : fc σ with
  | none => rw [hf] at ho; cases ho
  | some w =>
    obtain ⟨r1, σ1⟩ := w
    rw [hf] at ho
    have ho : k r1 σ1 = some (1, σ') := ho
    obtain ⟨⟨m1, m2⟩, hM⟩ := hC X (cxl X) (cxz X) (cxD X) σ r1 σ1 hf
    obtain ⟨⟨m3, m4⟩, hW⟩ := kk r1 σ1 σ' ho
    refine ⟨⟨Nat.le_trans m1 m3, Nat.le_trans m2 m4⟩, ?_⟩
    intro C e1 e2 H locs ls hR hO hLo hlv
    obtain ⟨mc1, hmc⟩ := Nat.exists_eq_add_of_le m1
    obtain ⟨ms1, hms⟩ := Nat.exists_eq_add_of_le m2
    intro T hT XX
    obtain ⟨hx1, cell, q1, q2, q3, q4⟩ := hR.obj ht hq hct
    have hstk : (rvs as (av x :: st)).map (vl (cxz X)) = (as.map (vl (cxz X))).reverse ++ .ref (cxz X + x) :: st.map (vl (cxz X)) := by rw [rvs_map]; show _ ++ rv (cxz X) x :: _ = _; rw [rv_pos hx1]
    have hargs : ((av x :: as).map (vl (cxz X))) = Value.ref (cxz X + x) :: as.map (vl (cxz X)) := by show rv (cxz X) x :: _ = _; rw [rv_pos hx1]
    have hlen : ∀ sig, parseMethodDescriptor y.desc = some sig → (as.map (vl (cxz X))).length = sig.parameters.length := fun sig h => by
      rw [h] at hy3
      rw [List.length_map, hn]
      exact (Option.some.inj hy3).symm
    have hCI : CI (cxs X) y maxL := ci_of (C.1.ht _ hco)
    obtain ⟨mk, vm₁, hnm, X₁, st₁⟩ := callVY XX C.1.hx C.1.ho (C.1.ht _ hl) (C.1.ht _ hin) (C.1.ht _ hse) hCI ⟨hy1, hy2⟩ (b := cxz X + x) (cellB := cell) (by rw [hT]; exact q1) (by rw [q3]; rfl) (by rw [q2]; exact (C.1.kk.u hq).2.1) (g := F0 (cxm X) pc ls ((rvs as (av x :: st)).map (vl (cxz X)))) rfl hlen hstk (by rw [C.1.hb]; exact hd)
    have hpc : CPc (cxz X) (cxD X) σ (av x :: as) (Value.ref (cxz X + x) :: as.map (vl (cxz X))).toArray (T.setVm vm₁) := ⟨by rw [hargs], by show Rep _ _ _ T.heap; rw [hT]; exact hR, C.1.kk.moved X₁.warmed (by show ∀ q, q ≤ _ → T.heap[q]? = _; rw [hT]; exact hO)⟩
    have hr := cx_room (Fc := Fc) (Lc := Lc) (maxL := maxL) (mc := mc1) (ms := ms1) C.1 hF hL
    have hsz : ls.size = 4 := by rw [← C.1.ml]; exact hlv.1
    obtain ⟨o, s₂, Lo, hst, hend, ⟨ho', hrep, hold⟩, hfe, hfr⟩ := backY (Wn := 8) (maxL := maxL) (hM C.1.nt mc1 ms1 hmc hms) CPc.blind rfl rfl hr.1 hr.2 (pay_in C.1.ht (lw_methW hco)) hCI (fun a' U hW => word_at hW (Or.inl (by first | rfl | simp [Cond.onTables, Cond.keeps, Cond.steady])) (C.1.ht _ hi)) X₁ (g := F0 (cxm X) pc ls (st.map (vl (cxz X)))) rfl (by rw [C.1.ml]; exact hsz) (by rw [C.1.hb]; exact hd) (by have := wt_map (cxz X) st; show 2 * 0 + _ ≤ 8; rw [this]; omega) hnm (by rw [C.cells]; omega) (by rw [C.slots]; omega) hpc
    obtain ⟨v', hv1, hv2⟩ := hp (cxz X) r1 st
    rw [hv1] at ho'
    subst ho'
    obtain ⟨T', X', hheap, htt⟩ := outOfReturned X₁ rfl (by rw [C.1.hb]; exact hd) hend hfe.1 hfe.2
    have hW2 := hW C e1 e2 T'.heap (locs ++ Lo) ls (by rw [hheap]; exact hrep) (fun q hq => by rw [hheap, hold q hq]; show T.heap[q]? = _; rw [hT]; exact hO q hq) (fun q hq => by
      rcases List.mem_append.mp hq with hq | hq
      · exact hLo q hq
      · exact hfr q hq) hlv
    rw [← hv2, hmc, hms] at hW2
    obtain ⟨t2, a1, b1⟩ := hW2 T' rfl X'
    exact ⟨t2, st₁ t2 (hst.trans (by rw [htt]; exact a1)), b1⟩
end LawCalls
