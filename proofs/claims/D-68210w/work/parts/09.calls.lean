/-! contracts and calls -/
def CPc (z : Nat) (D : DD) (σ : HS) (as : List AV) : Array Value → State → Prop := fun v U => v = (as.map (vl z)).toArray ∧ Rep z D σ U.heap ∧ KK z D U
def CQc (z : Nat) (D : DD) {τ : Type} (en : Nat → τ → Outcome) (r : τ) (σ' : HS) : Array Value → State → Outcome → State → Prop := fun _ U o t => o = en z r ∧ Rep z D σ' t.heap ∧ ∀ q, q ≤ z → t.heap[q]? = U.heap[q]?
/-- as the kit's Met, but it may end by an exception as well -/
def MetX (l : Launch) (y : MethodName) (ws : List Cond) (rm : Room) (Pc : Array Value → State → Prop) (Qc : Array Value → State → Outcome → State → Prop) (mc ms : Nat) (free : Addr → Prop) : Prop :=
  MetFree l y (headSpec ws rm) Pc (fun _ _ _ _ _ => True) (fun a st o t => Qc a st o t ∧ ∃ L, FEx st t L mc ms ∧ ∀ q ∈ L, free q.base)
theorem MetX.met {l : Launch} {y : MethodName} {ws : List Cond} {rm : Room} {Pc : Array Value → State → Prop} {Qc : Array Value → State → Outcome → State → Prop} {mc ms : Nat} {free : Addr → Prop} (hr : ∀ a st o t, Qc a st o t → ∃ v, o = .returned v) (h : MetX l y ws rm Pc Qc mc ms free) : Met l y ws rm Pc Qc mc ms free := by
  intro p e h1 h2 h3 s m args below h4 h5 h6 h7
  obtain ⟨n, o, a1, a2, a3, a4, L, a5, a6⟩ := h p e h1 h2 h3 s m args below h4 h5 h6 h7
  exact ⟨n, o, a1, a2, a3, a4, L, ⟨hr _ _ _ _ a4, a5⟩, a6⟩
theorem MetX.ofW {l : Launch} {y : MethodName} {ws ws' : List Cond} {rm : Room} {Pc : Array Value → State → Prop} {Qc : Array Value → State → Outcome → State → Prop} {mc ms : Nat} {free : Addr → Prop} {cc : ByteArray} {maxL : Nat} {ret : Option FieldType}
    (hy : plainName y.cls = true) (hw : ws = Cond.code y cc maxL ret :: ws')
    (body : ∀ p e s m args below meth c s₁, BodyLoose p l y (headSpec ws rm) cc maxL ret e s m args below meth c s₁ → c.maxLocals = maxL → Pc args s →
      W p l e (headSpec ws rm).room s m args below meth c s.heap [] 0 0 (MQx below Qc args s mc ms free) (entryFrame m args maxL)) : MetX l y ws rm Pc Qc mc ms free := by
  refine MetFree.of_bodyS (code := cc) (maxLocals := maxL) (ret := ret) hy ?_ ?_
  · intro args s m h hn
    obtain ⟨meth, c, h1, h2, h3, h4, h5, h6, -, -⟩ := Cond.code_spec hn (atoms_spec (ws := ws) h _ (by rw [hw]; exact List.mem_cons_self))
    exact ⟨meth, c, h1, h2, h3, h4, h5, h6⟩
  · intro p e s m args below meth c s₁ B hml hP _
    have hh0 : s₁.heap = s.heap := by rw [B.state]; rfl
    obtain ⟨t, a1, o, b1, b2, b3⟩ := body p e s m args below meth c s₁ B hml hP s₁ hh0 (Stand.of_body B)
    exact ⟨t, o, a1, b1, b2, ⟨b3.1, b3.2⟩⟩
/-- THE CONTRACT of y: with arguments 'as' it does what f says -/
def Ct (y : MethodName) (cc : ByteArray) (nL : Nat) (ret : Option FieldType) (F L : Nat) {τ : Type} (en : Nat → τ → Outcome) (as : List AV) (f : HS → Option (τ × HS)) : Prop :=
  ∀ (_ : CX) (l : Launch) (z : Nat) (D : DD) (σ : HS) (r : τ) (σ' : HS), f σ = some (r, σ') → (cnt σ ≤ cnt σ' ∧ slt σ ≤ slt σ') ∧ ∀ (_ : l.flags = flags0) (mc ms : Nat), cnt σ' = cnt σ + mc → slt σ' = slt σ + ms →
    MetX l y (ws_ y cc nL ret) ({ frames := F, cells := mc, slots := ms, locals := L }) (CPc z D σ as) (CQc z D en r σ') mc ms (fun q => z < q)
theorem CPc.blind {z : Nat} {D : DD} {σ : HS} {as : List AV} : FrameBlind (CPc z D σ as) := fun a U g mk h => ⟨h.1, h.2.1, KK.same (s := U) (U := U.calling g mk a) rfl rfl h.2.2⟩
def entL : Nat → List AV → List (Nat × AV)
  | _, [] => []
  | i, v :: vs => (i, v) :: entL (if isJ v then i + 2 else i + 1) vs
theorem entL_map (z : Nat) : ∀ (as : List AV) (i : Nat), lv_args i (as.map (vl z)) = lvm z (entL i as)
  | [], _ => rfl
  | v :: vs, i => by
    have h := isJ_cat z v
    have e : (if (vl z v).category = 2 then i + 2 else i + 1) = (if isJ v then i + 2 else i + 1) := by
      by_cases hj : isJ v = true
      · rw [hj] at h
        have h2 : (vl z v).category = 2 := by simpa using h
        simp [h2, hj]
      · have hj' : isJ v = false := by simpa using hj
        rw [hj'] at h
        have h2 : ¬ (vl z v).category = 2 := by simpa using h
        simp [h2, hj']
    show (i, vl z v) :: lv_args (if (vl z v).category = 2 then i + 2 else i + 1) (vs.map (vl z)) = (i, vl z v) :: lvm z (entL (if isJ v then i + 2 else i + 1) vs)
    rw [e, entL_map z vs]
def wt : List AV → Nat
  | [] => 0
  | v :: vs => (if isJ v then 2 else 1) + wt vs
theorem wt_map (z : Nat) : ∀ st : List AV, ((st.map (vl z)).map fun v => v.category).sum = wt st
  | [] => rfl
  | v :: vs => by
    have h := isJ_cat z v
    have e : (vl z v).category = (if isJ v then 2 else 1) := by
      match v with
      | .inl x => rfl
      | .inr (.inl y) => rfl
      | .inr (.inr r) => exact rv_cat z r
    simp only [List.map_cons, List.sum_cons, wt]
    rw [e, wt_map z vs]
theorem lg_sl_len (z : Nat) : ∀ as : List AV, (lg_sl (as.map (vl z))).length = wt as
  | [] => rfl
  | v :: vs => by
    have ih := lg_sl_len z vs
    match v with
    | .inl x => simp [lg_sl, vl, Value.category, wt, isJ] at ih ⊢; omega
    | .inr (.inl y) => simp [lg_sl, vl, Value.category, wt, isJ] at ih ⊢; omega
    | .inr (.inr r) =>
      have hc := rv_cat z r
      simp [lg_sl, vl, hc, wt, isJ] at ih ⊢; omega
/-- a contract out of a walk -/
theorem Ct.of {y : MethodName} {own nm desc : String} {cc : ByteArray} {nL : Nat} {ret : Option FieldType} {F L : Nat} {τ : Type} {en : Nat → τ → Outcome} {as : List AV} {f : HS → Option (τ × HS)} (hy : y = ⟨own, nm, desc⟩) (hpl : plainName own = true) (hwt : wt as ≤ nL) (hhn : hnd own nm = [])
    (h : ∀ (X : CX) (σ : HS), G X own nm cc nL ret F L (en (cxz X)) 0 (entL 0 as) [] σ (f σ)) : Ct y cc nL ret F L en as f := by
  subst hy
  intro X0 l z D σ r σ' hf
  refine ⟨(h X0 σ r σ' hf).1, fun hfl mc ms hmc hms => ?_⟩
  refine MetX.ofW (cc := cc) (maxL := nL) (ret := ret) hpl rfl ?_
  intro p e s m args below meth c s₁ B hml hv
  obtain ⟨rfl, hP, hK⟩ := hv
  have hts := atoms_spec (ws := ws_ ⟨own, nm, desc⟩ cc nL ret) B.pre
  have htab : tabOf c = hnd own nm := by
    have h0 := B.noHandlers (hts _ List.mem_cons_self)
    rw [hhn, tabOf]
    have h1 : c.exceptionTable = #[] := by simpa using h0
    rw [h1]; rfl
  have hts : ∀ w ∈ lw_all, w.before _ s = true := fun w h => hts w (List.mem_cons_of_mem _ h)
  have hown : s.vm.findClass own = some m.cls := findClass_of_methodNamed B.named
  have hnm : meth.name = nm := (name_of_methodNamed B.named B.method).1
  have hG := (h ((p, l, e, { frames := F, cells := mc, slots := ms, locals := L }, s, m, (as.map (vl z)).toArray, below, meth, c), z, D, cnt σ, slt σ) σ r σ' hf).2 ⟨B.exec, B.bytes, B.returns, B.notSynchronized, hml, hown, hts, hK, hnm, rfl, rfl, htab, hfl⟩ mc ms hmc hms rfl rfl 0 0 s.heap []
  rw [lg_entry_eq]
  have hl := lv_entry (as.map (vl z)) (n := nL) (by rw [lg_sl_len]; exact hwt)
  rw [entL_map] at hl
  have hl2 : lv_has ((lg_sl (as.map (vl z)) ++ List.replicate (nL - (lg_sl (as.map (vl z))).length) Slot.unset).toArray) c.maxLocals (lvm z (entL 0 as)) := by rw [hml]; exact hl
  exact hG _ rfl rfl hP (fun _ _ => rfl) (fun q hq => by cases hq) hl2
/-- stack under a call: the arguments, the last on top -/
def rvs : List AV → List AV → List AV
  | [], s => s
  | a :: t, s => rvs t (a :: s)
theorem rvs_map (z : Nat) : ∀ (as s : List AV), (rvs as s).map (vl z) = (as.map (vl z)).reverse ++ s.map (vl z)
  | [], s => rfl
  | a :: t, s => by
    show (rvs t (a :: s)).map (vl z) = _
    rw [rvs_map z t (a :: s)]
    simp
/-- what a callee's end puts on the stack -/
def Pu {τ : Type} (en : Nat → τ → Outcome) (push : τ → List AV → List AV) : Prop := ∀ z r st, ∃ v : Option Value, en z r = .returned v ∧ v.toList ++ st.map (vl z) = (push r st).map (vl z)
abbrev puI (x : Int32) (st : List AV) : List AV := iv x :: st
abbrev puJ (x : Int64) (st : List AV) : List AV := jv x :: st
abbrev puR (x : Nat) (st : List AV) : List AV := av x :: st
abbrev puV (_ : Unit) (st : List AV) : List AV := st
abbrev eI (_ : Nat) (x : Int32) : Outcome := enI x
abbrev eJ (_ : Nat) (x : Int64) : Outcome := enJ x
abbrev eV (_ : Nat) (x : Unit) : Outcome := enV x
theorem pu_I : Pu eI puI := fun _ r st => ⟨_, rfl, rfl⟩
theorem pu_J : Pu eJ puJ := fun _ r st => ⟨_, rfl, rfl⟩
theorem pu_R : Pu enR puR := fun _ r st => ⟨_, rfl, rfl⟩
theorem pu_V : Pu eV puV := fun _ r st => ⟨_, rfl, rfl⟩
/-- a method's link and words, from class own: 'own' link or a nest mate's -/
def ML (own : String) (idx : Nat) (y : MethodName) : Prop := Cond.methodLink own idx y ∈ lw_all ∨ ∃ host, Cond.methodLinkNest own idx y host ∈ lw_tbl
def MD (own : String) (idx : Nat) (y : MethodName) (bytes : ByteArray) (maxL : Nat) (rt : Option FieldType) (n : Nat) : Prop := ML own idx y ∧ Cond.initialized y.cls ∈ lw_all ∧ Cond.code y bytes maxL rt ∈ lw_all ∧ y.cls ≠ "java/lang/invoke/MethodHandle" ∧ y.cls ≠ "java/lang/invoke/VarHandle" ∧ (parseMethodDescriptor y.desc).map (fun d => d.parameters.length) = some n
section Calls
variable {X : CX} {own nm : String} {cc : ByteArray} {nL : Nat} {ret : Option FieldType} {F L : Nat} {τ : Type} {en : τ → Outcome} {pc : Nat} {lv : List (Nat × AV)} {st : List AV} {σ : HS}
  {idx ci n : Nat} {y : MethodName} {bytes : ByteArray} {maxL Fc Lc : Nat} {rt : Option FieldType} {τc : Type} {enc : Nat → τc → Outcome} {push : τc → List AV → List AV} {x : Nat} {as : List AV} {fc : HS → Option (τc × HS)} {k : τc → HS → Option (τ × HS)}
/-- the run of a call, as the machine gives it, makes the row -/
theorem G.call {stk : List AV} (hp : Pu enc push) (hC : Ct y bytes maxL rt Fc Lc enc as fc)
    (hrun : Cx X own nm cc nL ret F L → ∀ (H : Heap) (locs : List Loc) (kc ks mc ms : Nat) (ls : Array Slot) (r : τc) (σ1 : HS), Rep (cxz X) (cxD X) σ H → (∀ q, q ≤ cxz X → H[q]? = (cxs X).heap[q]?) → ls.size = nL → kc + mc ≤ (cxR X).cells → ks + ms ≤ (cxR X).slots →
      Met (cxl X) y (ws_ y bytes maxL rt) ({ frames := Fc, cells := mc, slots := ms, locals := Lc }) (CPc (cxz X) (cxD X) σ as) (CQc (cxz X) (cxD X) enc r σ1) mc ms (fun q => cxz X < q) →
      CallRun (cxp X) (cxl X) (cxe X) (cxR X) (cxs X) (cxm X) (cxa X) (cxb X) (cxM X) (cxc X) H locs kc ks mc ms (F0 (cxm X) pc ls (stk.map (vl (cxz X)))) (st.map (vl (cxz X))) (CQc (cxz X) (cxD X) enc r σ1 (as.map (vl (cxz X))).toArray) (fun q => cxz X < q))
    (kk : ∀ (r : τc) (σ1 : HS), G X own nm cc nL ret F L en (pc + 3) lv (push r st) σ1 (k r σ1)) : G X own nm cc nL ret F L en pc lv stk σ (cl (fc σ) k) := by
  intro r σ' ho
  cases hf : fc σ with
  | none => rw [hf] at ho; cases ho
  | some q =>
    obtain ⟨r1, σ1⟩ := q
    rw [hf] at ho
    have ho : k r1 σ1 = some (r, σ') := ho
    obtain ⟨⟨m1, m2⟩, hM⟩ := hC X (cxl X) (cxz X) (cxD X) σ r1 σ1 hf
    obtain ⟨⟨m3, m4⟩, hW⟩ := kk r1 σ1 r σ' ho
    refine ⟨⟨Nat.le_trans m1 m3, Nat.le_trans m2 m4⟩, ?_⟩
    intro C mc ms e1 e2 e3 e4 kc ks H locs ls e5 e6 hR hO hL hl
    obtain ⟨mc1, hmc⟩ := Nat.exists_eq_add_of_le m1
    obtain ⟨ms1, hms⟩ := Nat.exists_eq_add_of_le m2
    have hrun := hrun C H locs kc ks mc1 ms1 ls r1 σ1 hR hO (by rw [← C.ml]; exact hl.1) (by rw [e3]; omega) (by rw [e4]; omega) ((hM C.nt mc1 ms1 hmc hms).met (fun a st o t h => by obtain ⟨v', hv1, -⟩ := hp (cxz X) r1 []; exact ⟨v', h.1.trans hv1⟩))
    intro T hT XX
    obtain ⟨v, st₀, t, T', Lo, h0, X', hLo, f1, ⟨hv, hRep, hold⟩, hst⟩ := hrun T hT XX
    obtain ⟨v', hv1, hv2⟩ := hp (cxz X) r1 st
    rw [hv1] at hv
    cases hv
    have hW2 := hW C mc ms e1 e2 e3 e4 (kc + mc1) (ks + ms1) t.heap (locs ++ Lo) ls (by omega) (by omega) hRep (fun q hq => by rw [hold q hq, h0]; exact hO q hq) (fun q hq => by
      rcases List.mem_append.mp hq with hq | hq
      · exact hL q hq
      · exact hLo q hq) hl
    rw [← hv2] at hW2
    obtain ⟨t2, a1, b1⟩ := hW2 T' f1 X'
    exact ⟨t2, hst t2 a1, b1⟩
theorem cfix (C : Cx X own nm cc nL ret F L) : CallFix (cxp X) (cxm X) (cxc X) cc nL (cxs X) (cxa X) lw_all own := ⟨C.hx, C.hb, C.ml, C.ho, C.ht⟩
theorem cx_room (C : Cx X own nm cc nL ret F L) {mc ms : Nat} (hF : Fc + 1 ≤ F) (hL : 8 + (maxL + 11) + Lc ≤ L) : ({ frames := Fc, cells := mc, slots := ms, locals := Lc } : Room).frames + 1 ≤ (cxR X).frames ∧ 8 + (maxL + 11) + ({ frames := Fc, cells := mc, slots := ms, locals := Lc } : Room).locals ≤ (cxR X).locals := ⟨by rw [C.fr]; exact hF, by rw [C.lo]; exact hL⟩
theorem run_of_va {p : Program} {l : Launch} {e : Env} {R : Room} {s : State} {m : MethodId} {args : Array Value} {below : List Frame} {meth : Method} {c : Code} {H : Heap} {locs : List Loc} {cells slots mc ms : Nat} {g : JFrame} {rest : List Value} {Qa : State → Outcome → State → Prop} {free : Addr → Prop}
    (h : va_Run p l e R s m args below meth c H locs cells slots mc ms g rest Qa free) : CallRun p l e R s m args below meth c H locs cells slots mc ms g rest Qa free := by
  intro T hT X
  obtain ⟨v, st0, t, T', Lo, h0, X', hL, e1, e2, hq, st⟩ := h T hT X
  exact ⟨v, st0, t, T', Lo, h0, X', hL, e1, hq, st⟩
/-- invokevirtual -/
theorem g_callV {q : vw_C} {ty : Nat → FieldType} (hq : CL[ci]? = some q) (hct : CT[ci]? = some ty) (hyc : y.cls = q.1) (hin : Cond.instanceMethod y ∈ lw_all) (hse : Cond.selects q.1 y y ∈ lw_all) (hm : MD own idx y bytes maxL rt n) (hC : Ct y bytes maxL rt Fc Lc enc (av x :: as) fc) (hn : as.length = n) (hw8 : wt st ≤ 8) (hF : Fc + 1 ≤ F) (hL : 8 + (maxL + 11) + Lc ≤ L) (hp : Pu enc push) (hd : decode cc pc = .ok (.invokevirtual idx, 3))
    (kk : ∀ (r : τc) (σ1 : HS), G X own nm cc nL ret F L en (pc + 3) lv (push r st) σ1 (k r σ1)) : G X own nm cc nL ret F L en pc lv (rvs as (av x :: st)) σ (if tg σ x = ci + 1 then cl (fc σ) k else none) := by
  obtain ⟨hl, hi, hco, hy1, hy2, hy3⟩ := hm
  refine G.chk fun ht => G.call hp hC (fun C H locs kc ks mc ms ls r σ1 hR hO hsz h1 h2 hM => ?_) kk
  obtain ⟨hx1, cell, q1, q2, q3, q4⟩ := hR.obj ht hq hct
  have hpre : PreV (cxs X) H q.1 (cxz X + x) (CPc (cxz X) (cxD X) σ (av x :: as)) (as.map (vl (cxz X))) := ⟨CPc.blind, ⟨cell, q1, by rw [q3]; rfl, by rw [q2]; exact (C.kk.u hq).2.1⟩, fun U hU hW => ⟨by show _ = (rv (cxz X) x :: as.map (vl (cxz X))).toArray; rw [rv_pos hx1], by rw [hU]; exact hR, C.kk.moved hW (by rw [hU]; exact hO)⟩⟩
  have hstk : (rvs as (av x :: st)).map (vl (cxz X)) = (as.map (vl (cxz X))).reverse ++ .ref (cxz X + x) :: st.map (vl (cxz X)) := by rw [rvs_map]; show _ ++ rv (cxz X) x :: _ = _; rw [rv_pos hx1]
  have hroom : 2 * (F0 (cxm X) pc ls ((rvs as (av x :: st)).map (vl (cxz X)))).monitorRoom + ((st.map (vl (cxz X))).map fun v => v.category).sum ≤ 8 := lv_room (by rw [wt_map]; exact hw8)
  have hargs : ((av x :: as).map (vl (cxz X))) = Value.ref (cxz X + x) :: as.map (vl (cxz X)) := by show rv (cxz X) x :: _ = _; rw [rv_pos hx1]
  rw [hargs]
  rcases hl with hl | ⟨host, hl⟩
  · exact W.runV (cfix C) hM (cwV (C := q.1) n C.ht (lw_V hl hin hse (hyc ▸ hi) hco) rfl rfl rfl ⟨hyc, hy1, hy2, hy3⟩ (cx_room C hF hL)) hpre rfl (by rw [List.length_map]; exact hn) hsz hstk hroom hd ⟨h1, h2⟩
  · exact run_of_va (va_runVN (cfix C) hM ⟨va_cnB n C.ht (lw_meth hco) rfl rfl rfl (C.kk.2.2.1 _ (nw_in hl rfl)) (C.ht _ hi) ⟨hy1, hy2, hy3⟩ (cx_room C hF hL), C.ht _ hin, C.ht _ hse⟩ hpre rfl (by rw [List.length_map]; exact hn) hsz hstk hroom hd ⟨h1, h2⟩)
/-- invokestatic -/
theorem g_callS (hst : Cond.static y ∈ lw_all) (hm : MD own idx y bytes maxL rt n) (hC : Ct y bytes maxL rt Fc Lc enc as fc) (hn : as.length = n) (hw8 : wt st ≤ 8) (hF : Fc + 1 ≤ F) (hL : 8 + (maxL + 11) + Lc ≤ L) (hp : Pu enc push) (hd : decode cc pc = .ok (.invokestatic idx, 3))
    (kk : ∀ (r : τc) (σ1 : HS), G X own nm cc nL ret F L en (pc + 3) lv (push r st) σ1 (k r σ1)) : G X own nm cc nL ret F L en pc lv (rvs as st) σ (cl (fc σ) k) := by
  obtain ⟨hl, hi, hco, hy1, hy2, hy3⟩ := hm
  refine G.call hp hC (fun C H locs kc ks mc ms ls r σ1 hR hO hsz h1 h2 hM => ?_) kk
  have hpre : PreS (cxs X) H (CPc (cxz X) (cxD X) σ as) (as.map (vl (cxz X))) := ⟨CPc.blind, fun U hU hW => ⟨rfl, by rw [hU]; exact hR, C.kk.moved hW (by rw [hU]; exact hO)⟩⟩
  have hroom : 2 * (F0 (cxm X) pc ls ((rvs as st).map (vl (cxz X)))).monitorRoom + ((st.map (vl (cxz X))).map fun v => v.category).sum ≤ 8 := lv_room (by rw [wt_map]; exact hw8)
  rcases hl with hl | ⟨host, hl⟩
  · exact W.runS (cfix C) hM (va_cwS n C.ht (lw_S hl hst hi hco) rfl rfl rfl ⟨hy1, hy2, hy3⟩ (cx_room C hF hL)) hpre rfl (by rw [List.length_map]; exact hn) hsz (rvs_map _ _ _) hroom hd ⟨h1, h2⟩
  · exact run_of_va (va_runSN (cfix C) hM ⟨va_cnB n C.ht (lw_meth hco) rfl rfl rfl (C.kk.2.2.1 _ (nw_in hl rfl)) (C.ht _ hi) ⟨hy1, hy2, hy3⟩ (cx_room C hF hL), C.ht _ hst, trivial⟩ hpre rfl (by rw [List.length_map]; exact hn) hsz (rvs_map _ _ _) hroom hd ⟨h1, h2⟩)
/-- invokespecial of a constructor -/
theorem g_callI (hyn : y.name = "<init>") (hin : Cond.instanceMethod y ∈ lw_all) (hm : MD own idx y bytes maxL none n) (hC : Ct y bytes maxL none Fc Lc enc (av x :: as) fc) (hn : as.length = n) (hw8 : wt st ≤ 8) (hF : Fc + 1 ≤ F) (hL : 8 + (maxL + 11) + Lc ≤ L) (hp : Pu enc push) (hd : decode cc pc = .ok (.invokespecial idx, 3))
    (kk : ∀ (r : τc) (σ1 : HS), G X own nm cc nL ret F L en (pc + 3) lv (push r st) σ1 (k r σ1)) : G X own nm cc nL ret F L en pc lv (rvs as (av x :: st)) σ (if ¬ x = 0 then cl (fc σ) k else none) := by
  obtain ⟨hl, hi, hco, hy1, hy2, hy3⟩ := hm
  refine G.chk fun hx => G.call hp hC (fun C H locs kc ks mc ms ls r σ1 hR hO hsz h1 h2 hM => ?_) kk
  have hx1 : 1 ≤ x := Nat.one_le_iff_ne_zero.mpr hx
  have hargs : ((av x :: as).map (vl (cxz X))) = Value.ref (cxz X + x) :: as.map (vl (cxz X)) := by show rv (cxz X) x :: _ = _; rw [rv_pos hx1]
  have hpre : PreS (cxs X) H (CPc (cxz X) (cxD X) σ (av x :: as)) (.ref (cxz X + x) :: as.map (vl (cxz X))) := ⟨CPc.blind, fun U hU hW => ⟨by rw [hargs], by rw [hU]; exact hR, C.kk.moved hW (by rw [hU]; exact hO)⟩⟩
  have hstk : (rvs as (av x :: st)).map (vl (cxz X)) = (as.map (vl (cxz X))).reverse ++ .ref (cxz X + x) :: st.map (vl (cxz X)) := by rw [rvs_map]; show _ ++ rv (cxz X) x :: _ = _; rw [rv_pos hx1]
  have hroom : 2 * (F0 (cxm X) pc ls ((rvs as (av x :: st)).map (vl (cxz X)))).monitorRoom + ((st.map (vl (cxz X))).map fun v => v.category).sum ≤ 8 := lv_room (by rw [wt_map]; exact hw8)
  rw [hargs]
  rcases hl with hl | ⟨host, hl⟩
  · exact W.runI (cfix C) hM (cwI n C.ht (lw_meth hco) rfl rfl rfl (C.ht _ hi) (C.ht _ hl) (C.ht _ hin) hyn ⟨hy1, hy2, hy3⟩ (cx_room C hF hL)) hpre rfl (by rw [List.length_map]; exact hn) hsz hstk hroom hd ⟨h1, h2⟩
  · exact run_of_va (va_runIN (cfix C) hM ⟨va_cnB n C.ht (lw_meth hco) rfl rfl rfl (C.kk.2.2.1 _ (nw_in hl rfl)) (C.ht _ hi) ⟨hy1, hy2, hy3⟩ (cx_room C hF hL), hyn, C.ht _ hin⟩ hpre rfl (by rw [List.length_map]; exact hn) hsz hstk hroom hd ⟨h1, h2⟩)
end Calls
