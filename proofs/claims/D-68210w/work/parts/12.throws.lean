/-! exceptions: calls that may throw, handlers, new exceptions -/
def enX {τ : Type} (e : τ → Outcome) (z : Nat) : Nat ⊕ τ → Outcome
  | .inl a => .threw (z + a)
  | .inr v => e v
abbrev eXI (z : Nat) : Nat ⊕ Int32 → Outcome := enX enI z
abbrev eXJ (z : Nat) : Nat ⊕ Int64 → Outcome := enX enJ z
abbrev eXV (z : Nat) : Nat ⊕ Unit → Outcome := enX enV z
abbrev eXR (z : Nat) : Nat ⊕ Nat → Outcome := enX (enR z) z
/-- a call that may throw: what is thrown goes on -/
def clT {τ τc : Type} (o : Option ((Nat ⊕ τc) × HS)) (k : τc → HS → Option ((Nat ⊕ τ) × HS)) : Option ((Nat ⊕ τ) × HS) := match o with
  | none => none
  | some (.inl a, s) => some (.inl a, s)
  | some (.inr r, s) => k r s
/-- a call that may throw, under a handler -/
def clH {τ τc : Type} (o : Option ((Nat ⊕ τc) × HS)) (h : Nat → HS → Option (τ × HS)) (k : τc → HS → Option (τ × HS)) : Option (τ × HS) := match o with
  | none => none
  | some (.inl a, s) => h a s
  | some (.inr r, s) => k r s
/-- its returns alone -/
def fcR {τc : Type} (f : HS → Option ((Nat ⊕ τc) × HS)) (σ : HS) : Option (τc × HS) := match f σ with
  | some (.inr r, s) => some (r, s)
  | _ => none
theorem Ct.inr {y : MethodName} {cc : ByteArray} {nL : Nat} {ret : Option FieldType} {F L : Nat} {τ : Type} {enc : Nat → τ → Outcome} {as : List AV} {f : HS → Option ((Nat ⊕ τ) × HS)} (h : Ct y cc nL ret F L (fun z => enX (enc z) z) as f) : Ct y cc nL ret F L enc as (fcR f) := by
  intro X0 l z D σ r σ' hf
  have hf' : f σ = some (.inr r, σ') := by
    unfold fcR at hf
    split at hf
    · rename_i r' s' e
      cases hf; exact e
    · cases hf
  exact h X0 l z D σ (.inr r) σ' hf'
section Throws
variable {p : Program} {l : Launch} {e : Env} {R : Room} {s : State} {m : MethodId} {args : Array Value} {below : List Frame} {meth : Method} {c : Code} {T : State} {locs : List Loc} {cells slots : Nat}
/-- a call's own steps, up to the callee's entry -/
theorem callVX (X : Stand p l e R s m args below meth c T locs cells slots) (hexec : p.tables.exec = Jvm.exec) {own C : String} {index : Nat} {y : MethodName} {bytes : ByteArray} {maxL : Nat} {ret : Option FieldType}
    (hown : s.vm.findClass own = some m.cls) (hlink : (Cond.methodLink own index y).before args s = true) (hinst : (Cond.instanceMethod y).before args s = true) (hsel : (Cond.selects C y y).before args s = true)
    (hcode : (Cond.code y bytes maxL ret).before args s = true) (hy : y.cls ≠ "java/lang/invoke/MethodHandle" ∧ y.cls ≠ "java/lang/invoke/VarHandle")
    {b : Addr} {cellB : Cell} (hcell : T.heap[b]? = some cellB) (hobj : cellB.vm.isStatics = false) (hcls : s.vm.findClass C = some cellB.cls)
    {g : JFrame} (hg : g.method = m) {argsL rest : List Value} (hlen : ∀ sig, parseMethodDescriptor y.desc = some sig → argsL.length = sig.parameters.length)
    (hstack : g.stack = argsL.reverse ++ .ref b :: rest) (hdg : decode c.code g.pc = .ok (.invokevirtual index, 3)) :
    ∃ (mk : MethodId) (vm₁ : Vm), (T.setVm vm₁).methodNamed? y = some mk ∧ Stand p l e R s m args below meth c (T.setVm vm₁) locs cells slots ∧
      ∀ target, Steps p.tables e below (doInvoke e ((T.setVm vm₁).setTop { g with stack := rest }) [] mk (Value.ref b :: argsL).toArray).1 target → Steps p.tables e below (T.setTop g) target := by
  obtain ⟨mk, methM, hnamed, hmethM, hstM, habM⟩ := Cond.instanceMethod_spec hinst
  obtain ⟨methM', cM, hmethM', -, -, -, -, -, -, hsigM⟩ := Cond.code_spec hnamed hcode
  cases hmethM.symm.trans hmethM'
  obtain ⟨c2, r2, m2, q1, q2, q3, q4, kP, hkP, hkPi⟩ := Cond.selects_spec hsel
  cases hcls.symm.trans q1
  cases (State.methodFound?_of_named hnamed hy).symm.trans q2
  cases hnamed.symm.trans q3
  have hselP : selectMethod e.platform s.vm cellB.cls mk = .method mk := by rw [Launch.admits_selectMethod X.admits]; exact q4
  obtain ⟨vm₁, X₁, hstep₁⟩ := X.invokevirtual hexec hown hlink hnamed hmethM hstM hkP hkPi hy (a := b) (cell := cellB) hcell
    (fun z h => by rw [h] at hobj; cases hobj) hselP hmethM habM hkP hkPi (g := g) hg (argsL := argsL) (rest := rest) (hlen _ hsigM) hstack hdg
  exact ⟨mk, vm₁, X₁.named hnamed, X₁, fun target h => hstep₁ _ fun acts => by rw [doInvoke_state]; exact h⟩
/-- the callee's run from its entry to its end, whatever that is -/
theorem backX {y : MethodName} {Wn len : Nat} {ws : List Cond} {rm : Room} {Pc : Array Value → State → Prop} {Qc : Array Value → State → Outcome → State → Prop} {mc ms : Nat} {free : Addr → Prop} {bytes : ByteArray} {maxL : Nat} {ret : Option FieldType}
    (hM : MetX l y ws rm Pc Qc mc ms free) (hblind : FrameBlind Pc) (hrc : rm.cells = mc) (hrs : rm.slots = ms) (hframes : rm.frames + 1 ≤ R.frames) (hlocals : Wn + (maxL + 11) + rm.locals ≤ R.locals)
    (hws : ∀ w ∈ ws, ∀ (a' : Array Value) (U : State), s.WarmedH U.vm → w.before a' U = true) (hcode : Cond.code y bytes maxL ret ∈ ws) (hinit : ∀ (a' : Array Value) (U : State), s.WarmedH U.vm → (Cond.initialized y.cls).before a' U = true)
    (X : Stand p l e R s m args below meth c T locs cells slots) {g : JFrame} (hg : g.method = m) (hsize : g.locals.size = c.maxLocals) {ig : Instr} (hdg : decode c.code g.pc = .ok (ig, len)) (hW : 2 * g.monitorRoom + (g.stack.map fun v => v.category).sum ≤ Wn)
    {mk : MethodId} (hn : T.methodNamed? y = some mk) {a : Array Value} (hc : cells + mc ≤ R.cells) (hs : slots + ms ≤ R.slots) (hp : Pc a T) :
    ∃ (o : Outcome) (s₂ : State) (L : List Loc), Steps p.tables e below (doInvoke e (T.setTop g) [] mk a).1 s₂ ∧ Ended s₂ (.java g :: below) o ∧ Qc a (T.calling g mk a) o s₂ ∧ FEx (T.calling g mk a) s₂ L mc ms ∧ ∀ q ∈ L, free q.base := by
  obtain ⟨methY, cY, hmY, hcY, -, hlY, -, -, -, -⟩ := Cond.code_spec hn (hws _ hcode a T X.warmed)
  obtain ⟨kY, hkY, -⟩ := className_of_methodNamed hn
  have hinitY : kY.init = .initialized := Cond.initialized_spec (findClass_of_methodNamed hn) hkY (hinit a T X.warmed)
  have h : At T g.method c below := by rw [hg]; exact X.here
  have happ : (headSpec ws rm).appliesLoose y e.platform (T.calling g mk a) = true :=
    Spec.appliesLoose_calling (g := g) h hdg hn hkY hinitY
      (X.room_calling (g := g) (R' := (headSpec ws rm).room) hsize hmY hcY hframes (by rw [hlY]; show _ ≤ _; have : (headSpec ws rm).room.locals = rm.locals := rfl; omega) (by show cells + rm.cells ≤ _; rw [hrc]; exact hc) (by show slots + rm.slots ≤ _; rw [hrs]; exact hs)) (atoms_intro fun w hw => hws w hw _ _ X.warmed)
  obtain ⟨mid, hmid⟩ := h.above
  have hfr : (T.setTop g).frames = (.java g :: mid) ++ below := by rw [State.frames_setTop' g h.top, hmid]; rfl
  obtain ⟨o, s₂, hsteps, -, hend, hq, L, hL1, hL2⟩ := Steps.callFree hM p X.admits X.cas X.clock (acts := []) hfr happ (hblind _ _ _ _ hp) trivial
  rw [State.frames_setTop' g h.top, X.tail] at hend
  exact ⟨o, s₂, L, hsteps, hend, hq, hL1, hL2⟩
end Throws
/-- outside every handler -/
theorem tab_out {c : Code} {hh : List (Nat × Nat × Nat × Nat)} (ht : tabOf c = hh) {pc : Nat} (h : hh.all (fun q => decide (pc < q.1) || decide (q.2.1 ≤ pc)) = true) : ∀ x ∈ c.exceptionTable.toList, covers x pc = false := by
  intro x hx
  have hm : (x.startPc, x.endPc, x.handlerPc, x.catchType) ∈ hh := by rw [← ht]; exact List.mem_map.mpr ⟨x, hx, rfl⟩
  have h1 := List.all_eq_true.mp h _ hm
  simp only [Bool.or_eq_true, decide_eq_true_eq] at h1
  simp only [covers, Bool.and_eq_false_iff, decide_eq_false_iff_not]
  omega
section CallsT
variable {X : CX} {own nm : String} {cc : ByteArray} {nL : Nat} {ret : Option FieldType} {F L : Nat} {τ : Type} {en0 : τ → Outcome} {pc : Nat} {lv : List (Nat × AV)} {st : List AV} {σ : HS}
  {idx ci n : Nat} {y : MethodName} {bytes : ByteArray} {maxL Fc Lc : Nat} {rt : Option FieldType} {τc : Type} {enc : Nat → τc → Outcome} {push : τc → List AV → List AV} {x : Nat} {as : List AV} {fc : HS → Option ((Nat ⊕ τc) × HS)}
/-- what the machine does when the callee throws: the note over the caller's frame -/
theorem w_thrown (C : Cx X own nm cc nL ret F L) {q : vw_C} {ty : Nat → FieldType} (hq : CL[ci]? = some q) (hct : CT[ci]? = some ty) (hyc : y.cls = q.1) (hin : Cond.instanceMethod y ∈ lw_all) (hse : Cond.selects q.1 y y ∈ lw_all) (hl : Cond.methodLink own idx y ∈ lw_all) (hm : MD own idx y bytes maxL rt n) (hn : as.length = n) (hw8 : wt st ≤ 8) (hF : Fc + 1 ≤ F) (hL : 8 + (maxL + 11) + Lc ≤ L) (hd : decode cc pc = .ok (.invokevirtual idx, 3)) (ht : tg σ x = ci + 1)
    {a : Nat} {σ1 : HS} {mc ms : Nat} (hM : MetX (cxl X) y (ws_ y bytes maxL rt) ({ frames := Fc, cells := mc, slots := ms, locals := Lc }) (CPc (cxz X) (cxD X) σ (av x :: as)) (CQc (cxz X) (cxD X) (fun z => enX (enc z) z) (.inl a) σ1) mc ms (fun q => cxz X < q))
    {H : Heap} {locs : List Loc} {kc ks : Nat} {ls : Array Slot} (hR : Rep (cxz X) (cxD X) σ H) (hO : ∀ q, q ≤ cxz X → H[q]? = (cxs X).heap[q]?) (hsz : ls.size = nL) (h1 : kc + mc ≤ (cxR X).cells) (h2 : ks + ms ≤ (cxR X).slots)
    {T : State} (hT : T.heap = H) (XX : Stand (cxp X) (cxl X) (cxe X) (cxR X) (cxs X) (cxm X) (cxa X) (cxb X) (cxM X) (cxc X) T locs kc ks) :
    ∃ (T' : State) (Lo : List Loc), Stand (cxp X) (cxl X) (cxe X) (cxR X) (cxs X) (cxm X) (cxa X) (cxb X) (cxM X) (cxc X) T' (locs ++ Lo) (kc + mc) (ks + ms) ∧ (∀ q ∈ Lo, cxz X < q.base) ∧ Rep (cxz X) (cxD X) σ1 T'.heap ∧ (∀ q, q ≤ cxz X → T'.heap[q]? = H[q]?) ∧
      ∀ target, Steps (cxp X).tables (cxe X) (cxb X) ((T'.setTop (F0 (cxm X) pc ls (st.map (vl (cxz X))))).pushFrame (.throwing (cxz X + a))) target → Steps (cxp X).tables (cxe X) (cxb X) (T.setTop (F0 (cxm X) pc ls ((rvs as (av x :: st)).map (vl (cxz X))))) target := by
  obtain ⟨-, hi, hco, hy1, hy2, hy3⟩ := hm
  obtain ⟨hx1, cell, q1, q2, q3, q4⟩ := hR.obj ht hq hct
  have hstk : (rvs as (av x :: st)).map (vl (cxz X)) = (as.map (vl (cxz X))).reverse ++ .ref (cxz X + x) :: st.map (vl (cxz X)) := by rw [rvs_map]; show _ ++ rv (cxz X) x :: _ = _; rw [rv_pos hx1]
  have hargs : ((av x :: as).map (vl (cxz X))) = Value.ref (cxz X + x) :: as.map (vl (cxz X)) := by show rv (cxz X) x :: _ = _; rw [rv_pos hx1]
  have hlen : ∀ sig, parseMethodDescriptor y.desc = some sig → (as.map (vl (cxz X))).length = sig.parameters.length := fun sig h => by
    rw [h] at hy3
    rw [List.length_map, hn]
    exact (Option.some.inj hy3).symm
  obtain ⟨mk, vm₁, hnm, X₁, st₁⟩ := callVX XX C.hx C.ho (C.ht _ hl) (C.ht _ hin) (C.ht _ hse) (C.ht _ hco) ⟨hy1, hy2⟩ (b := cxz X + x) (cellB := cell) (by rw [hT]; exact q1) (by rw [q3]; rfl) (by rw [q2]; exact (C.kk.u hq).2.1) (g := F0 (cxm X) pc ls ((rvs as (av x :: st)).map (vl (cxz X)))) rfl hlen hstk (by rw [C.hb]; exact hd)
  have hpc : CPc (cxz X) (cxD X) σ (av x :: as) (Value.ref (cxz X + x) :: as.map (vl (cxz X))).toArray (T.setVm vm₁) := ⟨by rw [hargs], by show Rep _ _ _ T.heap; rw [hT]; exact hR, C.kk.moved X₁.warmed (by show ∀ q, q ≤ _ → T.heap[q]? = _; rw [hT]; exact hO)⟩
  have hr := cx_room (Fc := Fc) (Lc := Lc) (maxL := maxL) (mc := mc) (ms := ms) C hF hL
  obtain ⟨o, s₂, Lo, hst, hend, ⟨ho, hrep, hold⟩, hfe, hfr⟩ := backX (Wn := 8) (bytes := bytes) (maxL := maxL) (ret := rt) hM CPc.blind rfl rfl hr.1 hr.2 (pay_in C.ht (lw_meth hco)) List.mem_cons_self (fun a' U hW => word_at hW (Or.inl (by first | rfl | simp [Cond.onTables, Cond.keeps, Cond.steady])) (C.ht _ hi)) X₁ (g := F0 (cxm X) pc ls (st.map (vl (cxz X)))) rfl (by rw [C.ml]; exact hsz) (by rw [C.hb]; exact hd) (by have := wt_map (cxz X) st; show 2 * 0 + _ ≤ 8; rw [this]; omega) hnm h1 h2 hpc
  have ho : o = .threw (cxz X + a) := ho
  subst ho
  obtain ⟨T', X', -, hsame, htt⟩ := X₁.outOfThrown rfl hend hfe.1 hfe.2
  have hheap : T'.heap = s₂.heap := by rw [htt]; exact (Stand.throwing_heap T' _ _).symm
  refine ⟨T', Lo, X', hfr, by rw [hheap]; exact hrep, fun q hq => by rw [hheap, hold q hq]; show T.heap[q]? = _; rw [hT], fun target h => st₁ target (hst.trans (by rw [htt]; exact h))⟩
/-- invokevirtual of a method that may throw, outside every handler -/
theorem g_callVT {k : τc → HS → Option ((Nat ⊕ τ) × HS)} {q : vw_C} {ty : Nat → FieldType} (hq : CL[ci]? = some q) (hct : CT[ci]? = some ty) (hyc : y.cls = q.1) (hin : Cond.instanceMethod y ∈ lw_all) (hse : Cond.selects q.1 y y ∈ lw_all) (hl : Cond.methodLink own idx y ∈ lw_all) (hm : MD own idx y bytes maxL rt n) (hC : Ct y bytes maxL rt Fc Lc (fun z => enX (enc z) z) (av x :: as) fc) (hn : as.length = n) (hw8 : wt st ≤ 8) (hF : Fc + 1 ≤ F) (hL : 8 + (maxL + 11) + Lc ≤ L) (hp : Pu enc push) (hout : (hnd own nm).all (fun q => decide (pc < q.1) || decide (q.2.1 ≤ pc)) = true) (hd : decode cc pc = .ok (.invokevirtual idx, 3))
    (kk : ∀ (r : τc) (σ1 : HS), G X own nm cc nL ret F L (enX en0 (cxz X)) (pc + 3) lv (push r st) σ1 (k r σ1)) : G X own nm cc nL ret F L (enX en0 (cxz X)) pc lv (rvs as (av x :: st)) σ (if tg σ x = ci + 1 then clT (fc σ) k else none) := by
  refine G.chk fun ht => ?_
  intro r σ' ho
  cases hf : fc σ with
  | none => rw [hf] at ho; cases ho
  | some w =>
    obtain ⟨w, σ1⟩ := w
    cases w with
    | inr r1 =>
      have hg := g_callV (X := X) (own := own) (nm := nm) (cc := cc) (nL := nL) (ret := ret) (F := F) (L := L) (en := enX en0 (cxz X)) (lv := lv) (st := st) (σ := σ) (k := k) hq hct hyc hin hse hm hC.inr hn hw8 hF hL hp hd kk
      rw [if_pos ht] at hg
      refine hg r σ' ?_
      rw [← ho, hf]
      simp [fcR, hf, cl, clT]
    | inl a =>
      rw [hf] at ho
      have ho : some ((Sum.inl a : Nat ⊕ τ), σ1) = some (r, σ') := ho
      have ho1 : (Sum.inl a : Nat ⊕ τ) = r := congrArg Prod.fst (Option.some.inj ho)
      have ho2 : σ1 = σ' := congrArg Prod.snd (Option.some.inj ho)
      subst ho1 ho2
      obtain ⟨⟨m1, m2⟩, hM⟩ := hC X (cxl X) (cxz X) (cxD X) σ (.inl a) σ1 hf
      refine ⟨⟨m1, m2⟩, ?_⟩
      intro C mc ms e1 e2 e3 e4 kc ks H locs ls e5 e6 hR hO hLo hlv
      obtain ⟨mc1, hmc⟩ := Nat.exists_eq_add_of_le m1
      obtain ⟨ms1, hms⟩ := Nat.exists_eq_add_of_le m2
      intro T hT XX
      obtain ⟨T', Lo, X', hfr, hrep, hold, hst⟩ := w_thrown C hq hct hyc hin hse hl hm hn hw8 hF hL hd ht (hM C.nt mc1 ms1 hmc hms) hR hO (by rw [← C.ml]; exact hlv.1) (by rw [e3]; omega) (by rw [e4]; omega) hT XX
      obtain ⟨l1, l2, l3, l4, l5⟩ := X'.leaveThrown (cxz X + a) (g := F0 (cxm X) pc ls (st.map (vl (cxz X)))) rfl rfl rfl (tab_out C.tb hout) C.lk
      refine ⟨T'.setFrames (.throwing (cxz X + a) :: cxb X), hst _ l1, .threw (cxz X + a), l2, l3, ⟨rfl, hrep, fun q hq => (hold q hq).trans (hO q hq)⟩, locs ++ Lo, ?_, fun q hq => ?_⟩
      · obtain rfl : mc = kc + mc1 := by omega
        obtain rfl : ms = ks + ms1 := by omega
        exact ⟨l4, l5⟩
      · rcases List.mem_append.mp hq with hq | hq
        · exact hLo q hq
        · exact hfr q hq
/-- athrow of an exception's object -/
theorem g_athrow {a : Nat} (hout : (hnd own nm).all (fun q => decide (pc < q.1) || decide (q.2.1 ≤ pc)) = true) (hd : decode cc pc = .ok (.athrow, 1)) : G X own nm cc nL ret F L (enX en0 (cxz X)) pc lv (av a :: st) σ (if ¬ a = 0 then some (.inl a, σ) else none) := by
  refine G.chk fun ha => ?_
  intro r σ' ho
  cases ho
  refine ⟨⟨Nat.le_refl _, Nat.le_refl _⟩, ?_⟩
  intro C mc ms e1 e2 e3 e4 kc ks H locs ls e5 e6 hR hO hLo hlv
  intro T hT XX
  have hs : (av a :: st).map (vl (cxz X)) = .ref (cxz X + a) :: st.map (vl (cxz X)) := by show rv (cxz X) a :: _ = _; rw [rv_pos (Nat.one_le_iff_ne_zero.mpr ha)]
  obtain ⟨l1, l2, l3, l4, l5⟩ := XX.athrowLeaves C.hx (g := F0 (cxm X) pc ls ((av a :: st).map (vl (cxz X)))) rfl rfl rfl (tab_out C.tb hout) hs (by rw [C.hb]; exact hd) C.lk
  refine ⟨_, l1, .threw (cxz X + a), l2, l3, ⟨rfl, by show Rep _ _ _ T.heap; rw [hT]; exact hR, fun q hq => by show T.heap[q]? = _; rw [hT]; exact hO q hq⟩, locs, ?_, hLo⟩
  obtain rfl : mc = kc := by omega
  obtain rfl : ms = ks := by omega
  exact ⟨l4, l5⟩
end CallsT
