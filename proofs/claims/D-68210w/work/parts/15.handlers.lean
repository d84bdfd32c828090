/-! handlers; methods with handlers and calls of them -/
section Caught
variable {p : Program} {l : Launch} {e : Env} {R : Room} {s : State} {m : MethodId} {args : Array Value} {below : List Frame} {meth : Method} {c : Code} {T : State} {locs : List Loc} {cells slots : Nat}
/-- the search finds the one handler, its class being looked up on the way -/
theorem wp_find {Q : Handler → Pre} {E : CtlPost} {d : Bool} {acts : List Action} {S : State} {f : JFrame} {a : Addr} {code : Code} {mth : Method} {x : ExceptionTableEntry} {k : ClassId} {vm' : Vm} {cell : Cell}
    (hm : S.vm.method? f.method = some mth) (hc : mth.code = some code) (ht : code.exceptionTable.toList = [x]) (hx : covers x f.pc = true) (h0 : x.catchType ≠ 0)
    (hg : (Jvm.resolveClass f.method.cls x.catchType).Gives e.toSetting S.vm (.ok k) vm') (hr : vm'.classReady f.method.cls x.catchType k) (hsz : vm'.classes.size ≤ S.vm.classes.size)
    (hcell : S.heap[a]? = some cell) (hobj : ∀ q, cell.vm ≠ .statics q) (hk : ∃ q, vm'.classes[cell.cls]? = some q) (hkc : ∃ q, vm'.classes[k]? = some q) (hfit : vm'.assignable cell.cls k = true) :
    wp (findHandler f a) Q E e d acts S ↔ Q (.found x.handlerPc) d acts (S.setVm vm') := by
  obtain ⟨ha, ht2⟩ := hg.op (op := VmOp.resolveClass f.method.cls x.catchType) rfl
  simp only [covers] at hx
  simp [findHandler, hm, hc, ht, findHandler.go, hx, h0, ha, ht2, hsz, hcell, hobj, hk, hkc, hfit, VmOp.dirties, VmOp.acts]
theorem sf3 (T : State) (vm' : Vm) (A B Cc : List Frame) : (((T.setFrames A).setFrames B).setVm vm').setFrames Cc = (T.setVm vm').setFrames Cc := by
  show (((T.setVm vm').setFrames A).setFrames B).setFrames Cc = _
  rw [State.setFrames_setFrames, State.setFrames_setFrames]
/-- what was thrown is caught by the method's one handler -/
theorem caughtCold (X : Stand p l e R s m args below meth c T locs cells slots) (a : Addr) {g : JFrame} (hg : g.method = m) {x : ExceptionTableEntry} (ht : c.exceptionTable.toList = [x]) (hx : covers x g.pc = true) (h0 : x.catchType ≠ 0) {own C : String} (hown : s.vm.findClass own = some m.cls)
    (hlink : (Cond.classLink own x.catchType C).before args s = true) {cell : Cell} (hcell : T.heap[a]? = some cell) (hobj : ∀ q, cell.vm ≠ .statics q) (hcls : ClassAt s C cell.cls) :
    ∃ vm' : Vm, Stand p l e R s m args below meth c (T.setVm vm') locs cells slots ∧
      ∀ target, Steps p.tables e below ((T.setVm vm').setTop { g with pc := x.handlerPc, stack := [.ref a] }) target → Steps p.tables e below ((T.setTop g).pushFrame (.throwing a)) target := by
  subst hg
  have hpl : e.platform.magicAccessors = ({} : Platform).magicAccessors := by rw [X.admits.platform]
  obtain ⟨k, hk, hcl⟩ := Cond.classLink_spec hown hlink e.platform hpl
  obtain ⟨hgv, hwarm, hready⟩ := State.classEntry (e := e) X.warmed hcl
  cases hcls.1.symm.trans hk
  have hsz : (T.vm.noted g.method.cls x.catchType (.cls cell.cls)).classes.size ≤ T.vm.classes.size := by no_record
  generalize T.vm.noted g.method.cls x.catchType (.cls cell.cls) = vm' at hgv hwarm hready hsz
  have X1 := X.noted hwarm
  refine ⟨vm', X1, fun target h => ?_⟩
  obtain ⟨kC, hkC, hkind⟩ := hcls.2
  obtain ⟨k', hk', he⟩ := hwarm.alike.2.2 _ _ hkC
  have hasg : vm'.assignable cell.cls cell.cls = true := va_asg vm' cell.cls
  have hat : At T g.method c below := X.here
  obtain ⟨hgo, hw⟩ := hat.throwing a
  refine Steps.head hgo hw ?_
  have hS : ((T.setTop g).pushFrame (.throwing a)).vm = T.vm := Stand.throwing_vm T g a
  have hH : ((T.setTop g).pushFrame (.throwing a)).heap = T.heap := Stand.throwing_heap T g a
  have hstep : ∀ r, (stepThrowing e ((T.setTop g).pushFrame (.throwing a)) a (.java g :: r)).1 = (((T.setTop g).pushFrame (.throwing a)).setVm vm').setFrames (.java { g with pc := x.handlerPc, stack := [.ref a] } :: r) := by
    intro r
    simp only [stepThrowing, searchFrame, vmDo]
    generalize hr : Sem.go _ e false [] ((T.setTop g).pushFrame (.throwing a)) = res
    obtain ⟨as, rfl, ha⟩ := Sem.eq_ok_of hr (a := Handler.found x.handlerPc) (s' := ((T.setTop g).pushFrame (.throwing a)).setVm vm') (acts' := []) (by
      simp [wp_find (S := (T.setTop g).pushFrame (.throwing a)) (f := g) (a := a) (mth := meth) (code := c) (by rw [hS]; exact X.method') X.code ht hx h0 (by rw [hS]; exact hgv) hready (by rw [hS]; exact hsz) (by rw [hH]; exact hcell) hobj ⟨k', hk'⟩ ⟨k', hk'⟩ hasg])
    rfl
  rw [stepThread_throwing (frames_entered hat.top _), hstep]
  obtain ⟨g₀, hg0⟩ := Option.isSome_iff_exists.mp hat.top
  obtain ⟨r, hr⟩ := State.topJava?_eq_some.mp hg0
  have hr' : (T.setVm vm').frames = .java g₀ :: r := hr
  rw [State.setTop_of_frames _ hr'] at h
  rw [hr]
  rw [State.pushFrame, State.setTop_of_frames _ hr, sf3]
  exact h
end Caught

/-- y has code with maxL locals, at every later state -/
def CI (s : State) (y : MethodName) (maxL : Nat) : Prop := ∀ (U : State), s.WarmedH U.vm → ∃ (mk : MethodId) (meth : Method) (c : Code), U.methodNamed? y = some mk ∧ U.vm.method? mk = some meth ∧ meth.code = some c ∧ c.maxLocals = maxL ∧ parseMethodDescriptor y.desc = some meth.sig
section CallsY
variable {p : Program} {l : Launch} {e : Env} {R : Room} {s : State} {m : MethodId} {args : Array Value} {below : List Frame} {meth : Method} {c : Code} {T : State} {locs : List Loc} {cells slots : Nat}
theorem callVY (X : Stand p l e R s m args below meth c T locs cells slots) (hexec : p.tables.exec = Jvm.exec) {own C : String} {index : Nat} {y : MethodName} {maxL : Nat}
    (hown : s.vm.findClass own = some m.cls) (hlink : (Cond.methodLink own index y).before args s = true) (hinst : (Cond.instanceMethod y).before args s = true) (hsel : (Cond.selects C y y).before args s = true)
    (hcode : CI s y maxL) (hy : y.cls ≠ "java/lang/invoke/MethodHandle" ∧ y.cls ≠ "java/lang/invoke/VarHandle")
    {b : Addr} {cellB : Cell} (hcell : T.heap[b]? = some cellB) (hobj : cellB.vm.isStatics = false) (hcls : s.vm.findClass C = some cellB.cls)
    {g : JFrame} (hg : g.method = m) {argsL rest : List Value} (hlen : ∀ sig, parseMethodDescriptor y.desc = some sig → argsL.length = sig.parameters.length)
    (hstack : g.stack = argsL.reverse ++ .ref b :: rest) (hdg : decode c.code g.pc = .ok (.invokevirtual index, 3)) :
    ∃ (mk : MethodId) (vm₁ : Vm), (T.setVm vm₁).methodNamed? y = some mk ∧ Stand p l e R s m args below meth c (T.setVm vm₁) locs cells slots ∧
      ∀ target, Steps p.tables e below (doInvoke e ((T.setVm vm₁).setTop { g with stack := rest }) [] mk (Value.ref b :: argsL).toArray).1 target → Steps p.tables e below (T.setTop g) target := by
  obtain ⟨mk, methM, hnamed, hmethM, hstM, habM⟩ := Cond.instanceMethod_spec hinst
  obtain ⟨mk', methM', cM, hn', hmethM', -, -, hsigM⟩ := hcode s (State.WarmedH.refl s)
  cases hnamed.symm.trans hn'
  cases hmethM.symm.trans hmethM'
  obtain ⟨c2, r2, m2, q1, q2, q3, q4, kP, hkP, hkPi⟩ := Cond.selects_spec hsel
  cases hcls.symm.trans q1
  cases (State.methodFound?_of_named hnamed hy).symm.trans q2
  cases hnamed.symm.trans q3
  have hselP : selectMethod e.platform s.vm cellB.cls mk = .method mk := by rw [Launch.admits_selectMethod X.admits]; exact q4
  obtain ⟨vm₁, X₁, hstep₁⟩ := X.invokevirtual hexec hown hlink hnamed hmethM hstM hkP hkPi hy (a := b) (cell := cellB) hcell
    (fun z h => by rw [h] at hobj; cases hobj) hselP hmethM habM hkP hkPi (g := g) hg (argsL := argsL) (rest := rest) (hlen _ hsigM) hstack hdg
  exact ⟨mk, vm₁, X₁.named hnamed, X₁, fun target h => hstep₁ _ fun acts => by rw [doInvoke_state]; exact h⟩
theorem backY {y : MethodName} {Wn len : Nat} {ws : List Cond} {rm : Room} {Pc : Array Value → State → Prop} {Qc : Array Value → State → Outcome → State → Prop} {mc ms : Nat} {free : Addr → Prop} {maxL : Nat}
    (hM : MetX l y ws rm Pc Qc mc ms free) (hblind : FrameBlind Pc) (hrc : rm.cells = mc) (hrs : rm.slots = ms) (hframes : rm.frames + 1 ≤ R.frames) (hlocals : Wn + (maxL + 11) + rm.locals ≤ R.locals)
    (hws : ∀ w ∈ ws, ∀ (a' : Array Value) (U : State), s.WarmedH U.vm → w.before a' U = true) (hcode : CI s y maxL) (hinit : ∀ (a' : Array Value) (U : State), s.WarmedH U.vm → (Cond.initialized y.cls).before a' U = true)
    (X : Stand p l e R s m args below meth c T locs cells slots) {g : JFrame} (hg : g.method = m) (hsize : g.locals.size = c.maxLocals) {ig : Instr} (hdg : decode c.code g.pc = .ok (ig, len)) (hW : 2 * g.monitorRoom + (g.stack.map fun v => v.category).sum ≤ Wn)
    {mk : MethodId} (hn : T.methodNamed? y = some mk) {a : Array Value} (hc : cells + mc ≤ R.cells) (hs : slots + ms ≤ R.slots) (hp : Pc a T) :
    ∃ (o : Outcome) (s₂ : State) (L : List Loc), Steps p.tables e below (doInvoke e (T.setTop g) [] mk a).1 s₂ ∧ Ended s₂ (.java g :: below) o ∧ Qc a (T.calling g mk a) o s₂ ∧ FEx (T.calling g mk a) s₂ L mc ms ∧ ∀ q ∈ L, free q.base := by
  obtain ⟨mk', methY, cY, hn', hmY, hcY, hlY, -⟩ := hcode T X.warmed
  cases hn.symm.trans hn'
  obtain ⟨kY, hkY, -⟩ := className_of_methodNamed hn
  have hinitY : kY.init = .initialized := Cond.initialized_spec (findClass_of_methodNamed hn) hkY (hinit a T X.warmed)
  have h : At T g.method c below := by rw [hg]; exact X.here
  have happ : (headSpec ws rm).appliesLoose y e.platform (T.calling g mk a) = true :=
    Spec.appliesLoose_calling (g := g) h hdg hn hkY hinitY
      (X.room_calling (g := g) (R' := (headSpec ws rm).room) hsize hmY hcY hframes (by rw [hlY]; show _ ≤ _; have : (headSpec ws rm).room.locals = rm.locals := rfl; omega) (by show cells + rm.cells ≤ _; rw [hrc]; exact hc) (by show slots + rm.slots ≤ _; rw [hrs]; exact hs)) (atoms_intro fun w hw => hws w hw _ _ X.warmed)
  obtain ⟨mid, hmid⟩ := h.above
  have hfr : (T.setTop g).frames = (.java g :: mid) ++ below := by rw [State.frames_setTop' g h.top, hmid]; rfl
  obtain ⟨o, s₂, hsteps, -, hend, hq, L, hL1, hL2⟩ := Steps.callFree hM p X.admits X.cas X.clock (acts := []) hfr happ (hblind _ _ _ _ hp) trivial
  rw [State.frames_setTop' g h.top, X.tail] at hend
  exact ⟨o, s₂, L, hsteps, hend, hq, hL1, hL2⟩
/-- the callee has returned: where the caller stands -/
theorem outOfReturned (X : Stand p l e R s m args below meth c T locs cells slots) {g : JFrame} (hg : g.method = m) {ig : Instr} {len : Nat} (hdg : decode c.code g.pc = .ok (ig, len))
    {mk : MethodId} {a : Array Value} {t : State} {v : Option Value} {L : List Loc} {k n : Nat}
    (hend : Ended t (.java g :: below) (.returned v)) (hW : (T.calling g mk a).WarmedH t.vm) (hsame : (T.calling g mk a).sameButNew ({ t with vm := (T.calling g mk a).vm } : State) L k n) :
    ∃ T', Stand p l e R s m args below meth c T' (locs ++ L) (cells + k) (slots + n) ∧ T'.heap = t.heap ∧ t = T'.setTop { g with pc := g.pc + len, stack := v.toList ++ g.stack } := by
  subst hg
  have htop := X.here.top
  obtain ⟨e2, q2, q3, q4, q5, q6⟩ := hsame
  have e3 : t = ({ (T.calling g mk a).setFrames t.frames with heap := t.heap, slotsUsed := t.slotsUsed } : State).setVm t.vm := by
    have : t = ({ t with vm := (T.calling g mk a).vm } : State).setVm t.vm := rfl
    rw [e2] at this
    exact this
  obtain ⟨c₂, i₂, len₂, hc₂, hd₂, hf₂⟩ := hend
  have hW' : T.WarmedH t.vm := hW
  have hcc : c₂ = c := by
    have h1 : t.code? g.method = T.code? g.method := by
      rw [State.code?_eq, State.code?_eq, hW'.alike.method?]
    exact Option.some.inj (hc₂.symm.trans (h1.trans X.here.code))
  subst hcc
  have hlen : len₂ = len := by rw [hdg] at hd₂; cases hd₂; rfl
  subst hlen
  obtain ⟨g₀, hr⟩ := X.frames_eq
  have ht : t = (({ T with heap := t.heap, slotsUsed := t.slotsUsed } : State).setVm t.vm).setTop { g with pc := g.pc + len₂, stack := v.toList ++ g.stack } := by
    have hr' : (({ T with heap := t.heap, slotsUsed := t.slotsUsed } : State).setVm t.vm).frames = .java g₀ :: below := hr
    refine e3.trans ?_
    rw [hf₂, State.calling_eq htop, State.setFrames_setFrames, State.setTop_of_frames _ hr']
    rfl
  have hB : T.sameButNew ({ T with heap := t.heap, slotsUsed := t.slotsUsed } : State) L k n := by
    refine ⟨?_, q2, q3, q4, q5, q6⟩
    obtain ⟨th, hth, -⟩ := State.frames_cons hr
    show ({ T with heap := t.heap, slotsUsed := t.slotsUsed } : State) = { T.setFrames T.frames with heap := t.heap, slotsUsed := t.slotsUsed }
    rw [State.setFrames_self hth]
  exact ⟨({ T with heap := t.heap, slotsUsed := t.slotsUsed } : State).setVm t.vm,
    ⟨X.admits, X.cas, X.clock, X.frames, X.room, X.hears, X.method, X.code, (X.here.setHeapUsed t.heap t.slotsUsed).setVm hW'.alike, X.tail, State.WarmedH.trans X.warmed hW', X.limits, X.bytes, X.same.trans (hB.setVm s.vm)⟩, rfl, ht⟩
end CallsY
