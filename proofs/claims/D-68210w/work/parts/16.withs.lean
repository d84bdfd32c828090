/-! contracts of methods with handlers, calls of them, calls under a handler, calls through the interface -/
def CtW (y : MethodName) (hh : List (Nat × Nat × Nat × Nat)) (cc : ByteArray) (nL : Nat) (ret : Option FieldType) (F L : Nat) {τ : Type} (en : Nat → τ → Outcome) (as : List AV) (f : HS → Option (τ × HS)) : Prop :=
  ∀ (_ : CX) (l : Launch) (z : Nat) (D : DD) (σ : HS) (r : τ) (σ' : HS), f σ = some (r, σ') → (cnt σ ≤ cnt σ' ∧ slt σ ≤ slt σ') ∧ ∀ (_ : l.flags = flags0) (mc ms : Nat), cnt σ' = cnt σ + mc → slt σ' = slt σ + ms →
    MetX l y (wsW_ y cc nL ret hh) ({ frames := F, cells := mc, slots := ms, locals := L }) (CPc z D σ as) (CQc z D en r σ') mc ms (fun q => z < q)
theorem CtW.of {y : MethodName} {own nm desc : String} {hh : List (Nat × Nat × Nat × Nat)} {cc : ByteArray} {nL : Nat} {ret : Option FieldType} {F L : Nat} {τ : Type} {en : Nat → τ → Outcome} {as : List AV} {f : HS → Option (τ × HS)} (hy : y = ⟨own, nm, desc⟩) (hpl : plainName own = true) (hwt : wt as ≤ nL) (hhn : hnd own nm = hh)
    (h : ∀ (X : CX) (σ : HS), G X own nm cc nL ret F L (en (cxz X)) 0 (entL 0 as) [] σ (f σ)) : CtW y hh cc nL ret F L en as f := by
  subst hy
  intro X0 l z D σ r σ' hf
  refine ⟨(h X0 σ r σ' hf).1, fun hfl mc ms hmc hms => ?_⟩
  refine MetFree.of_bodyS (code := cc) (maxLocals := nL) (ret := ret) hpl ?_ ?_
  · intro args s m hp hn
    obtain ⟨m', meth, c, h0, h1, h2, h3, h4, -, h5, h6, -⟩ := Cond.codeWith_spec (atoms_spec (ws := wsW_ ⟨own, nm, desc⟩ cc nL ret hh) hp _ List.mem_cons_self)
    cases hn.symm.trans h0
    exact ⟨meth, c, h1, h2, h3, h4, h5, h6⟩
  · intro p e s m args below meth c s₁ B hml hv _
    have hh0 : s₁.heap = s.heap := by rw [B.state]; rfl
    obtain ⟨rfl, hP, hK⟩ := hv
    have hts := atoms_spec (ws := wsW_ ⟨own, nm, desc⟩ cc nL ret hh) B.pre
    have htab : tabOf c = hnd own nm := by
      obtain ⟨m', meth', c', h0, h1, h2, -, -, h4, -, -, -⟩ := Cond.codeWith_spec (hts _ List.mem_cons_self)
      cases B.named.symm.trans h0
      cases B.method.symm.trans h1
      have hc := B.here.code
      rw [State.code?_eq] at hc
      have hvm : s₁.vm = s.vm := by rw [B.state]; rfl
      rw [hvm, B.method] at hc
      have hcc : c = c' := by
        have hc : meth.code = some c := hc
        exact Option.some.inj (hc.symm.trans h2)
      rw [hhn, tabOf, hcc]; exact h4
    have hts : ∀ w ∈ lw_all, w.before _ s = true := fun w h => hts w (List.mem_cons_of_mem _ h)
    have hown : s.vm.findClass own = some m.cls := findClass_of_methodNamed B.named
    have hnm : meth.name = nm := (name_of_methodNamed B.named B.method).1
    have hG := (h ((p, l, e, { frames := F, cells := mc, slots := ms, locals := L }, s, m, (as.map (vl z)).toArray, below, meth, c), z, D, cnt σ, slt σ) σ r σ' hf).2 ⟨B.exec, B.bytes, B.returns, B.notSynchronized, hml, hown, hts, hK, hnm, rfl, rfl, htab, hfl⟩ mc ms hmc hms rfl rfl 0 0 s.heap []
    have hl := lv_entry (as.map (vl z)) (n := nL) (by rw [lg_sl_len]; exact hwt)
    rw [entL_map] at hl
    have hl2 : lv_has ((lg_sl (as.map (vl z)) ++ List.replicate (nL - (lg_sl (as.map (vl z))).length) Slot.unset).toArray) c.maxLocals (lvm z (entL 0 as)) := by rw [hml]; exact hl
    have hW := hG _ rfl rfl hP (fun _ _ => rfl) (fun q hq => by cases hq) hl2
    rw [lg_entry_eq]
    obtain ⟨t, a1, o, b1, b2, b3⟩ := hW s₁ hh0 (Stand.of_body B)
    exact ⟨t, o, a1, b1, b2, ⟨b3.1, b3.2⟩⟩
/-- what is known of a callee with handlers -/
def MDW (own : String) (idx : Nat) (y : MethodName) (bytes : ByteArray) (maxL : Nat) (rt : Option FieldType) (hh : List (Nat × Nat × Nat × Nat)) (n : Nat) : Prop := Cond.methodLink own idx y ∈ lw_all ∧ Cond.initialized y.cls ∈ lw_all ∧ Cond.codeWith y bytes maxL rt hh ∈ lw_all ∧ y.cls ≠ "java/lang/invoke/MethodHandle" ∧ y.cls ≠ "java/lang/invoke/VarHandle" ∧ (parseMethodDescriptor y.desc).map (fun d => d.parameters.length) = some n
theorem ci_of {y : MethodName} {hh : List (Nat × Nat × Nat × Nat)} {bytes : ByteArray} {maxL : Nat} {rt : Option FieldType} {s : State} {A : Array Value} (h : (Cond.codeWith y bytes maxL rt hh).before A s = true) : CI s y maxL := by
  intro U hW
  have h1 : (Cond.codeWith y bytes maxL rt hh).before #[] U = true := word_at hW (Or.inl rfl) h
  obtain ⟨m', meth, c, h0, h1, h2, h3, h4, -, h5, h6, h7⟩ := Cond.codeWith_spec h1
  exact ⟨m', meth, c, h0, h1, h2, h4, h7⟩
section CallsW
variable {X : CX} {own nm : String} {cc : ByteArray} {nL : Nat} {ret : Option FieldType} {F L : Nat} {τ : Type} {en : τ → Outcome} {pc : Nat} {lv : List (Nat × AV)} {st : List AV} {σ : HS}
  {idx ci n : Nat} {y : MethodName} {hh : List (Nat × Nat × Nat × Nat)} {bytes : ByteArray} {maxL Fc Lc : Nat} {rt : Option FieldType} {τc : Type} {enc : Nat → τc → Outcome} {push : τc → List AV → List AV} {x : Nat} {as : List AV}
/-- invokevirtual of a method with handlers -/
theorem g_callVW {fc : HS → Option (τc × HS)} {k : τc → HS → Option (τ × HS)} {q : vw_C} {ty : Nat → FieldType} (hq : CL[ci]? = some q) (hct : CT[ci]? = some ty) (hin : Cond.instanceMethod y ∈ lw_all) (hse : Cond.selects q.1 y y ∈ lw_all) (hm : MDW own idx y bytes maxL rt hh n) (hC : CtW y hh bytes maxL rt Fc Lc enc (av x :: as) fc) (hn : as.length = n) (hw8 : wt st ≤ 8) (hF : Fc + 1 ≤ F) (hL : 8 + (maxL + 11) + Lc ≤ L) (hp : Pu enc push) (hd : decode cc pc = .ok (.invokevirtual idx, 3))
    (kk : ∀ (r : τc) (σ1 : HS), G X own nm cc nL ret F L en (pc + 3) lv (push r st) σ1 (k r σ1)) : G X own nm cc nL ret F L en pc lv (rvs as (av x :: st)) σ (if tg σ x = ci + 1 then cl (fc σ) k else none) := by
  obtain ⟨hl, hi, hco, hy1, hy2, hy3⟩ := hm
  refine G.chk fun ht => ?_
  intro r σ' ho
  cases hf : fc σ with
  | none => rw [hf] at ho; cases ho
  | some w =>
    obtain ⟨r1, σ1⟩ := w
    rw [hf] at ho
    have ho : k r1 σ1 = some (r, σ') := ho
    obtain ⟨⟨m1, m2⟩, hM⟩ := hC X (cxl X) (cxz X) (cxD X) σ r1 σ1 hf
    obtain ⟨⟨m3, m4⟩, hW⟩ := kk r1 σ1 r σ' ho
    refine ⟨⟨Nat.le_trans m1 m3, Nat.le_trans m2 m4⟩, ?_⟩
    intro C mc ms e1 e2 e3 e4 kc ks H locs ls e5 e6 hR hO hLo hlv
    obtain ⟨mc1, hmc⟩ := Nat.exists_eq_add_of_le m1
    obtain ⟨ms1, hms⟩ := Nat.exists_eq_add_of_le m2
    intro T hT XX
    obtain ⟨hx1, cell, q1, q2, q3, q4⟩ := hR.obj ht hq hct
    have hstk : (rvs as (av x :: st)).map (vl (cxz X)) = (as.map (vl (cxz X))).reverse ++ .ref (cxz X + x) :: st.map (vl (cxz X)) := by rw [rvs_map]; show _ ++ rv (cxz X) x :: _ = _; rw [rv_pos hx1]
    have hargs : ((av x :: as).map (vl (cxz X))) = Value.ref (cxz X + x) :: as.map (vl (cxz X)) := by show rv (cxz X) x :: _ = _; rw [rv_pos hx1]
    have hlen : ∀ sig, parseMethodDescriptor y.desc = some sig → (as.map (vl (cxz X))).length = sig.parameters.length := fun sig h => by
      rw [h] at hy3
      rw [List.length_map, hn]
      exact (Option.some.inj hy3).symm
    have hCI : CI (cxs X) y maxL := ci_of (C.ht _ hco)
    obtain ⟨mk, vm₁, hnm, X₁, st₁⟩ := callVY XX C.hx C.ho (C.ht _ hl) (C.ht _ hin) (C.ht _ hse) hCI ⟨hy1, hy2⟩ (b := cxz X + x) (cellB := cell) (by rw [hT]; exact q1) (by rw [q3]; rfl) (by rw [q2]; exact (C.kk.u hq).2.1) (g := F0 (cxm X) pc ls ((rvs as (av x :: st)).map (vl (cxz X)))) rfl hlen hstk (by rw [C.hb]; exact hd)
    have hpc : CPc (cxz X) (cxD X) σ (av x :: as) (Value.ref (cxz X + x) :: as.map (vl (cxz X))).toArray (T.setVm vm₁) := ⟨by rw [hargs], by show Rep _ _ _ T.heap; rw [hT]; exact hR, C.kk.moved X₁.warmed (by show ∀ q, q ≤ _ → T.heap[q]? = _; rw [hT]; exact hO)⟩
    have hr := cx_room (Fc := Fc) (Lc := Lc) (maxL := maxL) (mc := mc1) (ms := ms1) C hF hL
    have hsz : ls.size = nL := by rw [← C.ml]; exact hlv.1
    obtain ⟨o, s₂, Lo, hst, hend, ⟨ho', hrep, hold⟩, hfe, hfr⟩ := backY (Wn := 8) (maxL := maxL) (hM C.nt mc1 ms1 hmc hms) CPc.blind rfl rfl hr.1 hr.2 (pay_in C.ht (lw_methW hco)) hCI (fun a' U hW => word_at hW (Or.inl (by first | rfl | simp [Cond.onTables, Cond.keeps, Cond.steady])) (C.ht _ hi)) X₁ (g := F0 (cxm X) pc ls (st.map (vl (cxz X)))) rfl (by rw [C.ml]; exact hsz) (by rw [C.hb]; exact hd) (by have := wt_map (cxz X) st; show 2 * 0 + _ ≤ 8; rw [this]; omega) hnm (by rw [e3]; omega) (by rw [e4]; omega) hpc
    obtain ⟨v', hv1, hv2⟩ := hp (cxz X) r1 st
    rw [hv1] at ho'
    subst ho'
    obtain ⟨T', X', hheap, htt⟩ := outOfReturned X₁ rfl (by rw [C.hb]; exact hd) hend hfe.1 hfe.2
    have hW2 := hW C mc ms e1 e2 e3 e4 (kc + mc1) (ks + ms1) T'.heap (locs ++ Lo) ls (by omega) (by omega) (by rw [hheap]; exact hrep) (fun q hq => by rw [hheap, hold q hq]; show T.heap[q]? = _; rw [hT]; exact hO q hq) (fun q hq => by
      rcases List.mem_append.mp hq with hq | hq
      · exact hLo q hq
      · exact hfr q hq) hlv
    rw [← hv2] at hW2
    obtain ⟨t2, a1, b1⟩ := hW2 T' rfl X'
    exact ⟨t2, st₁ t2 (hst.trans (by rw [htt]; exact a1)), b1⟩
/-- invokevirtual of a method that may throw, under the method's one handler -/
theorem g_callVH {fc : HS → Option ((Nat ⊕ τc) × HS)} {k : τc → HS → Option (τ × HS)} {h : Nat → HS → Option (τ × HS)} {q qe : vw_C} {ty tye : Nat → FieldType} (a b hpc ct ce : Nat) (hq : CL[ci]? = some q) (hct : CT[ci]? = some ty) (hqe : CL[ce]? = some qe) (hcte : CT[ce]? = some tye) (hyc : y.cls = q.1) (hin : Cond.instanceMethod y ∈ lw_all) (hse : Cond.selects q.1 y y ∈ lw_all) (hl : Cond.methodLink own idx y ∈ lw_all) (hm : MD own idx y bytes maxL rt n) (hC : Ct y bytes maxL rt Fc Lc (fun z => enX (enc z) z) (av x :: as) fc) (hn : as.length = n) (hw8 : wt st ≤ 8) (hF : Fc + 1 ≤ F) (hL : 8 + (maxL + 11) + Lc ≤ L) (hp : Pu enc push)
    (hhn : hnd own nm = [(a, b, hpc, ct)]) (hcov : a ≤ pc ∧ pc < b) (hct0 : ct ≠ 0) (hcl : Cond.classLink own ct qe.1 ∈ lw_all) (hd : decode cc pc = .ok (.invokevirtual idx, 3))
    (kk : ∀ (r : τc) (σ1 : HS), G X own nm cc nL ret F L en (pc + 3) lv (push r st) σ1 (k r σ1)) (kh : ∀ (w : Nat) (σ1 : HS), G X own nm cc nL ret F L en hpc lv [av w] σ1 (h w σ1)) : G X own nm cc nL ret F L en pc lv (rvs as (av x :: st)) σ (if tg σ x = ci + 1 then clH (fc σ) (fun w σ1 => if tg σ1 w = ce + 1 then h w σ1 else none) k else none) := by
  refine G.chk fun ht => ?_
  intro r σ' ho
  cases hf : fc σ with
  | none => rw [hf] at ho; cases ho
  | some w =>
    obtain ⟨w, σ1⟩ := w
    cases w with
    | inr r1 =>
      have hg := g_callV (X := X) (own := own) (nm := nm) (cc := cc) (nL := nL) (ret := ret) (F := F) (L := L) (en := en) (lv := lv) (st := st) (σ := σ) (k := k) hq hct hyc hin hse hm hC.inr hn hw8 hF hL hp hd kk
      rw [if_pos ht] at hg
      refine hg r σ' ?_
      rw [← ho, hf]
      simp [fcR, hf, cl, clH]
    | inl w =>
      rw [hf] at ho
      have ho : (if tg σ1 w = ce + 1 then h w σ1 else none) = some (r, σ') := ho
      by_cases hte : tg σ1 w = ce + 1
      · rw [if_pos hte] at ho
        obtain ⟨⟨m1, m2⟩, hM⟩ := hC X (cxl X) (cxz X) (cxD X) σ (.inl w) σ1 hf
        obtain ⟨⟨m3, m4⟩, hW⟩ := kh w σ1 r σ' ho
        refine ⟨⟨Nat.le_trans m1 m3, Nat.le_trans m2 m4⟩, ?_⟩
        intro C mc ms e1 e2 e3 e4 kc ks H locs ls e5 e6 hR hO hLo hlv
        obtain ⟨mc1, hmc⟩ := Nat.exists_eq_add_of_le m1
        obtain ⟨ms1, hms⟩ := Nat.exists_eq_add_of_le m2
        intro T hT XX
        obtain ⟨T', Lo, X', hfr, hrep, hold, hst⟩ := w_thrown C hq hct hyc hin hse hl hm hn hw8 hF hL hd ht (hM C.nt mc1 ms1 hmc hms) hR hO (by rw [← C.ml]; exact hlv.1) (by rw [e3]; omega) (by rw [e4]; omega) hT XX
        have htab : ∃ xe, (cxc X).exceptionTable.toList = [xe] ∧ xe.startPc = a ∧ xe.endPc = b ∧ xe.handlerPc = hpc ∧ xe.catchType = ct := by
          have h1 := C.tb
          rw [hhn, tabOf] at h1
          cases hx : (cxc X).exceptionTable.toList with
          | nil => rw [hx] at h1; cases h1
          | cons xe xs =>
            rw [hx] at h1
            cases xs with
            | nil =>
              simp only [List.map_cons, List.map_nil, List.cons.injEq, Prod.mk.injEq, and_true] at h1
              exact ⟨xe, rfl, h1.1, h1.2.1, h1.2.2.1, h1.2.2.2⟩
            | cons _ _ => simp at h1
        obtain ⟨xe, t1, t2, t3, t4, t5⟩ := htab
        obtain ⟨hx1, cell, q1, q2, q3, q4⟩ := hrep.obj hte hqe hcte
        have hKe := (C.kk.u hqe).2
        obtain ⟨vm', X2, hgo⟩ := caughtCold X' (cxz X + w) (g := F0 (cxm X) pc ls (st.map (vl (cxz X)))) rfl t1 (by show covers xe pc = true; simp only [covers, Bool.and_eq_true, decide_eq_true_eq]; omega) (by rw [t5]; exact hct0) (own := own) (C := qe.1) C.ho (by rw [t5]; exact C.ht _ hcl) q1 (by rw [q3]; intro _ h; cases h) (by rw [q2]; exact hKe)
        have hW2 := hW C mc ms e1 e2 e3 e4 (kc + mc1) (ks + ms1) T'.heap (locs ++ Lo) ls (by omega) (by omega) hrep (fun q hq => (hold q hq).trans (hO q hq)) (fun q hq => by
          rcases List.mem_append.mp hq with hq | hq
          · exact hLo q hq
          · exact hfr q hq) hlv
        obtain ⟨t2', a1, b1⟩ := hW2 (T'.setVm vm') rfl X2
        have hs1 : ([av w] : List AV).map (vl (cxz X)) = [.ref (cxz X + w)] := by show [rv (cxz X) w] = _; rw [rv_pos hx1]
        rw [hs1] at a1
        exact ⟨t2', hst _ (hgo _ (by rw [t4]; exact a1)), b1⟩
      · rw [if_neg hte] at ho; cases ho
/-- invokeinterface of Types, on an object of ModuleTypes -/
theorem g_callF {fc : HS → Option (τc × HS)} {k : τc → HS → Option (τ × HS)} {nmy dsy : String} {xi : MethodName} {count : Nat} (hxi : xi = fwy "ModuleEngine$Types" nmy dsy) (hyi : y = fwy "ModuleEngine$ModuleTypes" nmy dsy) (hF2 : (nmy, dsy) ∈ FWs) (hl : Cond.methodLink own idx xi ∈ lw_all) (hse : Cond.selects "ModuleEngine$ModuleTypes" xi y ∈ lw_all) (hin : Cond.instanceMethod y ∈ lw_all) (hi : Cond.initialized y.cls ∈ lw_all) (hco : Cond.code y bytes maxL rt ∈ lw_all) (hy3 : (parseMethodDescriptor dsy).map (fun d => d.parameters.length) = some n)
    (hC : Ct y bytes maxL rt Fc Lc enc (av x :: as) fc) (hn : as.length = n) (hw8 : wt st ≤ 8) (hF : Fc + 1 ≤ F) (hL : 8 + (maxL + 11) + Lc ≤ L) (hp : Pu enc push) (hd : decode cc pc = .ok (.invokeinterface idx count, 5))
    (kk : ∀ (r : τc) (σ1 : HS), G X own nm cc nL ret F L en (pc + 5) lv (push r st) σ1 (k r σ1)) : G X own nm cc nL ret F L en pc lv (rvs as (av x :: st)) σ (if tg σ x = 10 then cl (fc σ) k else none) := by
  refine G.chk fun ht => ?_
  intro r σ' ho
  cases hf : fc σ with
  | none => rw [hf] at ho; cases ho
  | some w =>
    obtain ⟨r1, σ1⟩ := w
    rw [hf] at ho
    have ho : k r1 σ1 = some (r, σ') := ho
    obtain ⟨⟨m1, m2⟩, hM⟩ := hC X (cxl X) (cxz X) (cxD X) σ r1 σ1 hf
    obtain ⟨⟨m3, m4⟩, hW⟩ := kk r1 σ1 r σ' ho
    refine ⟨⟨Nat.le_trans m1 m3, Nat.le_trans m2 m4⟩, ?_⟩
    intro C mc ms e1 e2 e3 e4 kc ks H locs ls e5 e6 hR hO hLo hlv
    obtain ⟨mc1, hmc⟩ := Nat.exists_eq_add_of_le m1
    obtain ⟨ms1, hms⟩ := Nat.exists_eq_add_of_le m2
    have hq : CL[9]? = some (RX9, TX9, 1) := rfl
    have hct : CT[9]? = some tyX9 := rfl
    obtain ⟨hx1, cell, q1, q2, q3, q4⟩ := hR.obj (ci := 9) ht hq hct
    have hsz : ls.size = nL := by rw [← C.ml]; exact hlv.1
    have hpre : PreV (cxs X) H "ModuleEngine$ModuleTypes" (cxz X + x) (CPc (cxz X) (cxD X) σ (av x :: as)) (as.map (vl (cxz X))) := ⟨CPc.blind, ⟨cell, q1, by rw [q3]; rfl, by rw [q2]; exact (C.kk.u hq).2.1⟩, fun U hU hW => ⟨by show _ = (rv (cxz X) x :: as.map (vl (cxz X))).toArray; rw [rv_pos hx1], by rw [hU]; exact hR, C.kk.moved hW (by rw [hU]; exact hO)⟩⟩
    have hstk : (rvs as (av x :: st)).map (vl (cxz X)) = (as.map (vl (cxz X))).reverse ++ .ref (cxz X + x) :: st.map (vl (cxz X)) := by rw [rvs_map]; show _ ++ rv (cxz X) x :: _ = _; rw [rv_pos hx1]
    have hroom : 2 * (F0 (cxm X) pc ls ((rvs as (av x :: st)).map (vl (cxz X)))).monitorRoom + ((st.map (vl (cxz X))).map fun v => v.category).sum ≤ 8 := lv_room (by rw [wt_map]; exact hw8)
    have hargs : ((av x :: as).map (vl (cxz X))) = Value.ref (cxz X + x) :: as.map (vl (cxz X)) := by show rv (cxz X) x :: _ = _; rw [rv_pos hx1]
    have hFw := C.kk.2.2.2.2.1 _ hF2
    have hM' := (hM C.nt mc1 ms1 hmc hms).met (fun a st o t h => by obtain ⟨v', hv1, -⟩ := hp (cxz X) r1 []; exact ⟨v', h.1.trans hv1⟩)
    have hgood : GoodIn lw_all (va_wsF own idx "ModuleEngine$ModuleTypes" xi y (ws_ y bytes maxL rt)) := by
      refine lw_app ?_ (lw_meth hco)
      intro w hw
      simp only [List.mem_cons, List.not_mem_nil, or_false] at hw
      rcases hw with e | e | e | e
      · rw [e]; exact hl
      · rw [e]; exact hse
      · rw [e]; exact hin
      · rw [e]; exact hi
    have hrun := va_runF (e := cxe X) (below := cxb X) (meth := cxM X) (locs := locs) (cells := kc) (slots := ks) (C.kk.u hq).2 (cfix C) hM' (va_cwF (R := cxR X) n C.ht hgood rfl rfl rfl (by rw [hxi, hyi]; exact hFw) (by rw [hxi]; exact ⟨by show "ModuleEngine$Types" ≠ _; decide, by show "ModuleEngine$Types" ≠ _; decide, hy3⟩) (cx_room C hF hL)) hpre (g := F0 (cxm X) pc ls ((rvs as (av x :: st)).map (vl (cxz X)))) rfl (by rw [List.length_map]; exact hn) hsz hstk hroom hd ⟨by rw [e3]; omega, by rw [e4]; omega⟩
    intro T hT XX
    obtain ⟨v, st₀, t, T', Lo, h0, X', hLo', f1, f2, ⟨hv, hRep, hold⟩, hst⟩ := hrun T hT XX
    obtain ⟨v', hv1, hv2⟩ := hp (cxz X) r1 st
    rw [hv1] at hv
    cases hv
    have hW2 := hW C mc ms e1 e2 e3 e4 (kc + mc1) (ks + ms1) t.heap (locs ++ Lo) ls (by omega) (by omega) hRep (fun q hq => by rw [hold q hq, h0]; exact hO q hq) (fun q hq => by
      rcases List.mem_append.mp hq with hq | hq
      · exact hLo q hq
      · exact hLo' q hq) hlv
    rw [← hv2] at hW2
    obtain ⟨t2, a1, b1⟩ := hW2 T' f1 X'
    exact ⟨t2, hst t2 a1, b1⟩
end CallsW
