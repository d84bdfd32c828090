/-! what a run keeps of the tables, the walk's context, the judgement G and its rows for locals, stack, numbers and branches -/
def nestWord : Cond → Bool
  | .fieldLinkNest .. => true
  | .methodLinkNest .. => true
  | .castable .. => true
  | .declares .. => true
  | _ => false
def NW : List Cond := lw_tbl.filter nestWord
theorem nw_in {w : Cond} (h : w ∈ lw_tbl) (g : nestWord w = true) : w ∈ NW := List.mem_filter.mpr ⟨h, g⟩
abbrev AOs : List String := ["ModuleEngine$Row", "ModuleEngine$Module", "ModuleEngine$Walker", "ModuleEngineModel$Plan"]
abbrev fwy (c : String) (n d : String) : MethodName := ⟨c, n, d⟩
abbrev FWs : List (String × String) := [("count", "()I"), ("parameters", "(I)I"), ("parameter", "(II)I"), ("results", "(I)I"), ("result", "(II)I")]
/-- a static reference of Throwable's, in a cell that is as old as z -/
def ST (z : Nat) (n d : String) (U : State) : Prop := ∃ (c : ClassId) (k : Class) (i : Nat) (f : Field) (a : Nat) (cell : Cell) (v : Value), U.vm.findClass "java/lang/Throwable" = some c ∧ U.fieldFound? "java/lang/Throwable" n d = some (c, k, i, f) ∧ f.isStatic = true ∧ k.statics = some a ∧ a ≤ z ∧ U.heap[a]? = some cell ∧ cell.vm.isStatics = true ∧ cell.cls = c ∧ f.slot < cell.slots.size ∧ k.staticTypes[f.slot]? = some f.type ∧ (Cond.isRef (.static "java/lang/Throwable" n d)).before #[] U = true ∧ cell.slots[f.slot]? = some v
theorem ST.lays {z : Nat} {n d : String} {U : State} {A : Array Value} (h : ST z n d U) : (Cond.laysStatic "java/lang/Throwable" n d).before A U = true := by
  obtain ⟨c, k, i, f, a, cell, v, h1, h2, h3, h4, -, h5, h6, h7, h8, h9, -⟩ := h
  simp [Cond.before, Cond.holds, Cond.value, h1, h2, h3, h4, h5, h6, h7, h8, h9]
theorem isRef_any {n d : String} {U : State} {A B : Array Value} (h : (Cond.isRef (.static "java/lang/Throwable" n d)).before A U = true) : (Cond.isRef (.static "java/lang/Throwable" n d)).before B U = true := h
theorem ST.isr {z : Nat} {n d : String} {U : State} {A : Array Value} (h : ST z n d U) : (Cond.isRef (.static "java/lang/Throwable" n d)).before A U = true := by
  obtain ⟨c, k, i, f, a, cell, v, -, -, -, -, -, -, -, -, -, -, h10, -⟩ := h
  exact isRef_any h10
theorem ST.moved {z : Nat} {n d : String} {s U : State} (hvm : s.vm.Alike U.vm) (hh : ∀ q, q ≤ z → U.heap[q]? = s.heap[q]?) (h : ST z n d s) : ST z n d U := by
  obtain ⟨c, k, i, f, a, cell, v, h1, h2, h3, h4, h4b, h5, h6, h7, h8, h9, h10, h11⟩ := h
  obtain ⟨k', hi', he⟩ := State.fieldFound?_setVm hvm h2
  have hi' : U.fieldFound? "java/lang/Throwable" n d = some (c, k', i, f) := hi'
  have hs' : k'.statics = some a := by rw [he]; exact h4
  have hc' : U.heap[a]? = some cell := by rw [hh a h4b]; exact h5
  refine ⟨c, k', i, f, a, cell, v, by rw [hvm.findClass]; exact h1, hi', h3, hs', h4b, hc', h6, h7, h8, by rw [he]; exact h9, ?_, h11⟩
  have e1 : (Term.static "java/lang/Throwable" n d).eval #[] s none [] s = some v := by
    simp [Term.eval, State.fieldNamed?, h2, h3, h4, h5, h6, h11]
  have e2 : (Term.static "java/lang/Throwable" n d).eval #[] U none [] U = some v := by
    simp [Term.eval, State.fieldNamed?, hi', h3, hs', hc', h6, h11]
  simp only [Cond.before, Cond.holds, Cond.value, e1] at h10
  simp only [Cond.before, Cond.holds, Cond.value, e2]
  exact h10
theorem ST.of {z : Nat} {n d : String} {s : State} {A : Array Value} (hz : s.heap.size ≤ z + 1) (h1 : (Cond.laysStatic "java/lang/Throwable" n d).before A s = true) (h2 : (Cond.isRef (.static "java/lang/Throwable" n d)).before A s = true) : ST z n d s := by
  obtain ⟨c, k, i, f, a, cell, q1, q2, q3, q4, q5, q6, q7, q8, q9⟩ := Cond.laysStatic_spec h1
  have hlt := (Array.getElem?_eq_some_iff.mp q5).1
  have hsl : cell.slots[f.slot]? = some (cell.slots[f.slot]) := Array.getElem?_eq_getElem q8
  exact ⟨c, k, i, f, a, cell, _, q1, q2, q3, q4, by omega, q5, q6, q7, q8, q9, h2, hsl⟩
/-- what is known of the classes and the links, at any state of the run -/
def KK (z : Nat) (D : DD) (U : State) : Prop := va_K (D.1, D.2.1) CL [] U ∧ (∀ (ai : Nat) (ty : FieldType), AT[ai]? = some ty → ArrOfT U (D.2.2 ai) ty ∧ va_RA U (D.2.2 ai) ty) ∧ (∀ w ∈ NW, va_Nw w U) ∧ (∀ C ∈ AOs, va_AO C U) ∧ (∀ q ∈ FWs, va_Fw "ModuleEngine$ModuleTypes" (fwy "ModuleEngine$Types" q.1 q.2) (fwy "ModuleEngine$ModuleTypes" q.1 q.2) U) ∧ ST z "UNASSIGNED_STACK" "[Ljava/lang/StackTraceElement;" U ∧ ST z "SUPPRESSED_SENTINEL" "Ljava/util/List;" U
theorem KK.moved {z : Nat} {D : DD} {s U : State} (hW : s.WarmedH U.vm) (hh : ∀ q, q ≤ z → U.heap[q]? = s.heap[q]?) (h : KK z D s) : KK z D U := by
  obtain ⟨h1, h2, h3, h4, h5, h6, h7⟩ := h
  refine ⟨h1.moved hW.alike, fun ai ty e => ⟨arrOfT_moved hW.alike (h2 ai ty e).1, (h2 ai ty e).2.moved hW.alike⟩, fun w hw => ?_, fun C hC => va_AO.moved hW.alike (h4 C hC), fun q hq => va_Fw.moved ⟨by show "ModuleEngine$Types" ≠ _; decide, by show "ModuleEngine$Types" ≠ _; decide⟩ hW.alike (h5 q hq), h6.moved hW.alike hh, h7.moved hW.alike hh⟩
  have hn : nestWord w = true := (List.mem_filter.mp hw).2
  have h0 := h3 w hw
  cases w <;> first | exact Bool.noConfusion (show false = true from hn) | exact va_Nw.warmF hW h0 | exact va_Nw.warmM hW h0 | exact va_Nw.warmC hW h0 | exact va_Nw.warmD hW h0
theorem KK.same {z : Nat} {D : DD} {s U : State} (hvm : s.vm = U.vm) (hh : U.heap = s.heap) (h : KK z D s) : KK z D U := by
  obtain ⟨h1, h2, h3, h4, h5, h6, h7⟩ := h
  have hA : s.vm.Alike U.vm := hvm ▸ Vm.Alike.refl s.vm
  have hh' : ∀ q, q ≤ z → U.heap[q]? = s.heap[q]? := fun q _ => by rw [hh]
  refine ⟨h1.moved hA, fun ai ty e => ⟨arrOfT_moved hA (h2 ai ty e).1, (h2 ai ty e).2.moved hA⟩, fun w hw => ?_, fun C hC => va_AO.moved hA (h4 C hC), fun q hq => va_Fw.moved ⟨by show "ModuleEngine$Types" ≠ _; decide, by show "ModuleEngine$Types" ≠ _; decide⟩ hA (h5 q hq), h6.moved hA hh', h7.moved hA hh'⟩
  have hn : nestWord w = true := (List.mem_filter.mp hw).2
  have h0 := h3 w hw
  cases w <;> first | exact Bool.noConfusion (show false = true from hn) | exact va_Nw.same rfl hvm h0
/-- the walk's context: machine and invocation; z, the classes' numbers, cells and slots at the start -/
abbrev CX : Type := (Program × Launch × Env × Room × State × MethodId × Array Value × List Frame × Method × Code) × Nat × DD × Nat × Nat
abbrev cxp (X : CX) : Program := X.1.1
abbrev cxl (X : CX) : Launch := X.1.2.1
abbrev cxe (X : CX) : Env := X.1.2.2.1
abbrev cxR (X : CX) : Room := X.1.2.2.2.1
abbrev cxs (X : CX) : State := X.1.2.2.2.2.1
abbrev cxm (X : CX) : MethodId := X.1.2.2.2.2.2.1
abbrev cxa (X : CX) : Array Value := X.1.2.2.2.2.2.2.1
abbrev cxb (X : CX) : List Frame := X.1.2.2.2.2.2.2.2.1
abbrev cxM (X : CX) : Method := X.1.2.2.2.2.2.2.2.2.1
abbrev cxc (X : CX) : Code := X.1.2.2.2.2.2.2.2.2.2
abbrev cxz (X : CX) : Nat := X.2.1
abbrev cxD (X : CX) : DD := X.2.2.1
abbrev cxn (X : CX) : Nat := X.2.2.2.1
abbrev cxo (X : CX) : Nat := X.2.2.2.2
abbrev WX (X : CX) (H : Heap) (locs : List Loc) (kc ks : Nat) (Q : State → Prop) (g : JFrame) : Prop := W (cxp X) (cxl X) (cxe X) (cxR X) (cxs X) (cxm X) (cxa X) (cxb X) (cxM X) (cxc X) H locs kc ks Q g
/-- the handlers of the methods that have any -/
def hnd (own nm : String) : List (Nat × Nat × Nat × Nat) :=
  if own = "ModuleEngine$Bytes" ∧ nm = "read" then [(37, 41, 44, 65)] else
  if own = "ModuleEngine$Loader" ∧ nm = "load" then [(34, 38, 41, 50)] else
  if own = "ModuleEngine$Checker" ∧ nm = "step" then [(10, 17, 20, 64)] else
  if own = "ModuleEngineModel" ∧ nm = "module" then [(111, 147, 150, 20)] else []
def tabOf (c : Code) : List (Nat × Nat × Nat × Nat) := c.exceptionTable.toList.map (fun h => (h.startPc, h.endPc, h.handlerPc, h.catchType))
/-- method nm of class own with code cc, nL locals, answer ret; F frames and L words of room -/
def Cx (X : CX) (own nm : String) (cc : ByteArray) (nL : Nat) (ret : Option FieldType) (F L : Nat) : Prop :=
  (cxp X).tables.exec = Jvm.exec ∧ (cxc X).code = cc ∧ (cxM X).sig.returnType = ret ∧ (cxM X).locks = false ∧ (cxc X).maxLocals = nL ∧ (cxs X).vm.findClass own = some (cxm X).cls ∧ (∀ w ∈ lw_all, w.before (cxa X) (cxs X) = true) ∧ KK (cxz X) (cxD X) (cxs X) ∧ (cxM X).name = nm ∧ (cxR X).frames = F ∧ (cxR X).locals = L ∧ tabOf (cxc X) = hnd own nm ∧ (cxl X).flags = flags0
section CxParts
variable {X : CX} {own nm : String} {cc : ByteArray} {nL : Nat} {ret : Option FieldType} {F L : Nat}
theorem Cx.hx (C : Cx X own nm cc nL ret F L) : (cxp X).tables.exec = Jvm.exec := C.1
theorem Cx.hb (C : Cx X own nm cc nL ret F L) : (cxc X).code = cc := C.2.1
theorem Cx.hr (C : Cx X own nm cc nL ret F L) : (cxM X).sig.returnType = ret := C.2.2.1
theorem Cx.lk (C : Cx X own nm cc nL ret F L) : (cxM X).locks = false := C.2.2.2.1
theorem Cx.ml (C : Cx X own nm cc nL ret F L) : (cxc X).maxLocals = nL := C.2.2.2.2.1
theorem Cx.ho (C : Cx X own nm cc nL ret F L) : (cxs X).vm.findClass own = some (cxm X).cls := C.2.2.2.2.2.1
theorem Cx.ht (C : Cx X own nm cc nL ret F L) : ∀ w ∈ lw_all, w.before (cxa X) (cxs X) = true := C.2.2.2.2.2.2.1
theorem Cx.kk (C : Cx X own nm cc nL ret F L) : KK (cxz X) (cxD X) (cxs X) := C.2.2.2.2.2.2.2.1
theorem Cx.nn (C : Cx X own nm cc nL ret F L) : (cxM X).name = nm := C.2.2.2.2.2.2.2.2.1
theorem Cx.fr (C : Cx X own nm cc nL ret F L) : (cxR X).frames = F := C.2.2.2.2.2.2.2.2.2.1
theorem Cx.lo (C : Cx X own nm cc nL ret F L) : (cxR X).locals = L := C.2.2.2.2.2.2.2.2.2.2.1
theorem Cx.tb (C : Cx X own nm cc nL ret F L) : tabOf (cxc X) = hnd own nm := C.2.2.2.2.2.2.2.2.2.2.2.1
theorem Cx.nt (C : Cx X own nm cc nL ret F L) : (cxl X).flags = flags0 := C.2.2.2.2.2.2.2.2.2.2.2.2
end CxParts
abbrev lvm (z : Nat) (lv : List (Nat × AV)) : List (Nat × Value) := lv.map (fun q => (q.1, vl z q.2))
/-- behind the method: outcome, the abstract heap's new state, nothing old changed -/
def QQ (X : CX) {τ : Type} (en : τ → Outcome) (r : τ) (σ' : HS) : Array Value → State → Outcome → State → Prop := fun _ st o t => o = en r ∧ Rep (cxz X) (cxD X) σ' t.heap ∧ ∀ q, q ≤ cxz X → t.heap[q]? = st.heap[q]?
/-- the method's end, by a return or by an exception: what has moved -/
def FEx (first : State) (t : State) (L : List Loc) (k n : Nat) : Prop := first.WarmedH t.vm ∧ first.sameButNew ({ t with vm := first.vm } : State) L k n
def MQx (below : List Frame) (Qc : Array Value → State → Outcome → State → Prop) (a : Array Value) (s : State) (mc ms : Nat) (free : Addr → Prop) : State → Prop := fun t =>
  ∃ o, t.status = .running ∧ Ended t below o ∧ Qc a s o t ∧ ∃ L, FEx s t L mc ms ∧ ∀ q ∈ L, free q.base
theorem MQx.of {below : List Frame} {Qc : Array Value → State → Outcome → State → Prop} {a : Array Value} {s : State} {mc ms : Nat} {free : Addr → Prop} {t : State} (h : MQ below Qc a s mc ms free t) : MQx below Qc a s mc ms free t := by
  obtain ⟨o, h1, h2, h3, L, h4, h5⟩ := h
  exact ⟨o, h1, h2, h3, L, h4.2, h5⟩
theorem W.mono {p : Program} {l : Launch} {e : Env} {R : Room} {s : State} {m : MethodId} {args : Array Value} {below : List Frame} {meth : Method} {c : Code} {H : Heap} {locs : List Loc} {cells slots : Nat} {Q Q' : State → Prop} {g : JFrame} (h : ∀ t, Q t → Q' t) (w : W p l e R s m args below meth c H locs cells slots Q g) : W p l e R s m args below meth c H locs cells slots Q' g := by
  intro T hT X
  obtain ⟨t, a, b⟩ := w T hT X
  exact ⟨t, a, h t b⟩
/-- G: the walk at pc with locals lv, stack st, abstract heap σ comes to what o says, if o says anything -/
def G (X : CX) (own nm : String) (cc : ByteArray) (nL : Nat) (ret : Option FieldType) (F L : Nat) {τ : Type} (en : τ → Outcome) (pc : Nat) (lv : List (Nat × AV)) (st : List AV) (σ : HS) (o : Option (τ × HS)) : Prop :=
  ∀ (r : τ) (σ' : HS), o = some (r, σ') → (cnt σ ≤ cnt σ' ∧ slt σ ≤ slt σ') ∧ (Cx X own nm cc nL ret F L → ∀ (mc ms : Nat), cnt σ' = cxn X + mc → slt σ' = cxo X + ms → (cxR X).cells = mc → (cxR X).slots = ms →
    ∀ (kc ks : Nat) (H : Heap) (locs : List Loc) (ls : Array Slot), cnt σ = cxn X + kc → slt σ = cxo X + ks → Rep (cxz X) (cxD X) σ H → (∀ q, q ≤ cxz X → H[q]? = (cxs X).heap[q]?) → (∀ q ∈ locs, cxz X < q.base) → lv_has ls (cxc X).maxLocals (lvm (cxz X) lv) →
      WX X H locs kc ks (MQx (cxb X) (QQ X en r σ') (cxa X) (cxs X) mc ms (fun q => cxz X < q)) (F0 (cxm X) pc ls (st.map (vl (cxz X)))))
section Lifts
variable {X : CX} {own nm : String} {cc : ByteArray} {nL : Nat} {ret : Option FieldType} {F L : Nat} {τ : Type} {en : τ → Outcome} {pc pc' pc1 pc2 : Nat} {lv lv' : List (Nat × AV)} {st st' : List AV} {σ : HS} {o o1 o2 : Option (τ × HS)}
theorem G.nul : G X own nm cc nL ret F L en pc lv st σ none := fun _ _ h => by cases h
theorem G.pure (h : Cx X own nm cc nL ret F L → ∀ (H : Heap) (locs : List Loc) (kc ks : Nat) (Q : State → Prop) (ls : Array Slot), lv_has ls (cxc X).maxLocals (lvm (cxz X) lv) → WX X H locs kc ks Q (F0 (cxm X) pc' ls (st'.map (vl (cxz X)))) → WX X H locs kc ks Q (F0 (cxm X) pc ls (st.map (vl (cxz X))))) (k : G X own nm cc nL ret F L en pc' lv st' σ o) : G X own nm cc nL ret F L en pc lv st σ o := by
  intro r σ' ho
  obtain ⟨h1, h2⟩ := k r σ' ho
  refine ⟨h1, ?_⟩
  intro C mc ms e1 e2 e3 e4 kc ks H locs ls e5 e6 hR hO hL hl
  exact h C H locs kc ks _ ls hl (h2 C mc ms e1 e2 e3 e4 kc ks H locs ls e5 e6 hR hO hL hl)
theorem G.str (h : Cx X own nm cc nL ret F L → ∀ (H : Heap) (locs : List Loc) (kc ks : Nat) (Q : State → Prop) (ls : Array Slot), lv_has ls (cxc X).maxLocals (lvm (cxz X) lv) → (∀ ls', lv_has ls' (cxc X).maxLocals (lvm (cxz X) lv') → WX X H locs kc ks Q (F0 (cxm X) pc' ls' (st'.map (vl (cxz X))))) → WX X H locs kc ks Q (F0 (cxm X) pc ls (st.map (vl (cxz X))))) (k : G X own nm cc nL ret F L en pc' lv' st' σ o) : G X own nm cc nL ret F L en pc lv st σ o := by
  intro r σ' ho
  obtain ⟨h1, h2⟩ := k r σ' ho
  refine ⟨h1, ?_⟩
  intro C mc ms e1 e2 e3 e4 kc ks H locs ls e5 e6 hR hO hL hl
  exact h C H locs kc ks _ ls hl (fun ls' hl' => h2 C mc ms e1 e2 e3 e4 kc ks H locs ls' e5 e6 hR hO hL hl')
theorem G.br {c : Prop} [Decidable c] (h : Cx X own nm cc nL ret F L → ∀ (H : Heap) (locs : List Loc) (kc ks : Nat) (Q : State → Prop) (ls : Array Slot), (c → WX X H locs kc ks Q (F0 (cxm X) pc1 ls (st'.map (vl (cxz X))))) → (¬ c → WX X H locs kc ks Q (F0 (cxm X) pc2 ls (st'.map (vl (cxz X))))) → WX X H locs kc ks Q (F0 (cxm X) pc ls (st.map (vl (cxz X)))))
    (k1 : G X own nm cc nL ret F L en pc1 lv st' σ o1) (k2 : G X own nm cc nL ret F L en pc2 lv st' σ o2) : G X own nm cc nL ret F L en pc lv st σ (if c then o1 else o2) := by
  intro r σ' ho
  by_cases hc : c
  · rw [if_pos hc] at ho
    obtain ⟨h1, h2⟩ := k1 r σ' ho
    refine ⟨h1, ?_⟩
    intro C mc ms e1 e2 e3 e4 kc ks H locs ls e5 e6 hR hO hL hl
    exact h C H locs kc ks _ ls (fun _ => h2 C mc ms e1 e2 e3 e4 kc ks H locs ls e5 e6 hR hO hL hl) (fun hn => absurd hc hn)
  · rw [if_neg hc] at ho
    obtain ⟨h1, h2⟩ := k2 r σ' ho
    refine ⟨h1, ?_⟩
    intro C mc ms e1 e2 e3 e4 kc ks H locs ls e5 e6 hR hO hL hl
    exact h C H locs kc ks _ ls (fun hy => absurd hy hc) (fun _ => h2 C mc ms e1 e2 e3 e4 kc ks H locs ls e5 e6 hR hO hL hl)
theorem G.chk {c : Prop} [Decidable c] (k : c → G X own nm cc nL ret F L en pc lv st σ o) : G X own nm cc nL ret F L en pc lv st σ (if c then o else none) := by
  by_cases hc : c
  · rw [if_pos hc]; exact k hc
  · rw [if_neg hc]; exact G.nul
/-- fewer locals, in another order -/
theorem G.sub (ks : List Nat) (hl : ks.filterMap (fun k => lv[k]?) = lv') (k : G X own nm cc nL ret F L en pc lv' st σ o) : G X own nm cc nL ret F L en pc lv st σ o := by
  intro r σ' ho
  obtain ⟨h1, h2⟩ := k r σ' ho
  refine ⟨h1, ?_⟩
  intro C mc ms e1 e2 e3 e4 kc ks' H locs ls e5 e6 hR hO hL hl'
  refine h2 C mc ms e1 e2 e3 e4 kc ks' H locs ls e5 e6 hR hO hL ⟨hl'.1, hl'.2.1, fun q hq => ?_⟩
  subst hl
  obtain ⟨q0, hq0, rfl⟩ := List.mem_map.mp hq
  obtain ⟨i, -, hi⟩ := List.mem_filterMap.mp hq0
  exact hl'.2.2 _ (List.mem_map.mpr ⟨q0, List.mem_of_getElem? hi, rfl⟩)
end Lifts
/-- a number, an address or a heap gets a name -/
def bn {α β : Type} (a : α) (k : α → β) : β := k a
/-- a switch -/
def swx {α : Type} (x : Int32) : List (Int32 × α) → α → α
  | [], d => d
  | (k, a) :: t, d => if x = k then a else swx x t d
/-- a call's answer -/
def cl {τ β : Type} (o : Option (τ × HS)) (k : τ → HS → Option β) : Option β := match o with
  | none => none
  | some (r, s) => k r s
def isJ (a : AV) : Bool := match a with
  | .inr (.inl _) => true
  | _ => false
theorem isJ_cat (z : Nat) (a : AV) : ((vl z a).category == 2) = isJ a := by
  match a with
  | .inl x => rfl
  | .inr (.inl y) => rfl
  | .inr (.inr r) => show ((rv z r).category == 2) = false; rw [rv_cat]; rfl
def st1 (i : Nat) (v : AV) (lv : List (Nat × AV)) : List (Nat × AV) := (i, v) :: lv.filter (fun q => !(q.1 == i) && !(q.1 + 1 == i && isJ q.2))
def st2 (i : Nat) (v : AV) (lv : List (Nat × AV)) : List (Nat × AV) := (i, v) :: lv.filter (fun q => !(q.1 == i) && (!(q.1 == i + 1) && !(q.1 + 1 == i && isJ q.2)))
theorem st1_map (z i : Nat) (v : AV) (lv : List (Nat × AV)) : (i, vl z v) :: (lvm z lv).filter (fun q => !(q.1 == i) && !(q.1 + 1 == i && q.2.category == 2)) = lvm z (st1 i v lv) := by
  simp only [lvm, st1, List.map_cons, List.filter_map, List.cons.injEq, true_and]
  congr 1
  apply List.filter_congr
  intro q _
  simp only [Function.comp, isJ_cat]
theorem st2_map (z i : Nat) (v : AV) (lv : List (Nat × AV)) : (i, vl z v) :: (lvm z lv).filter (fun q => !(q.1 == i) && (!(q.1 == i + 1) && !(q.1 + 1 == i && q.2.category == 2))) = lvm z (st2 i v lv) := by
  simp only [lvm, st2, List.map_cons, List.filter_map, List.cons.injEq, true_and]
  congr 1
  apply List.filter_congr
  intro q _
  simp only [Function.comp, isJ_cat]
theorem lv_rd {z : Nat} {ls : Array Slot} {nL : Nat} {lv : List (Nat × AV)} (h : lv_has ls nL (lvm z lv)) {k i : Nat} {a : AV} (hk : lv[k]? = some (i, a)) : ls[i]? = some (.val (vl z a)) :=
  h.2.2 (i, vl z a) (List.mem_map.mpr ⟨(i, a), List.mem_of_getElem? hk, rfl⟩)
