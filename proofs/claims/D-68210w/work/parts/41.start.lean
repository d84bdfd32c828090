/-! what is known at the law's entry; the claim out of the law's function -/
theorem cl_known {s : State} {A : Array Value} (ht : ∀ w ∈ lw_all, w.before A s = true) : ∀ q ∈ CL, ∃ (cC : ClassId) (iS : Nat → Nat), u_Kn s q.1 q.2.1 q.2.2 cC iS :=
  List.forall_mem_cons.mpr ⟨u_known ht in_X0 (ht _ q388), List.forall_mem_cons.mpr ⟨u_known ht in_X1 (ht _ q396), List.forall_mem_cons.mpr ⟨u_known ht in_X2 (ht _ q403), List.forall_mem_cons.mpr ⟨u_known ht in_X3 (ht _ q409), List.forall_mem_cons.mpr ⟨u_known ht in_X4 (ht _ q572), List.forall_mem_cons.mpr ⟨u_known ht in_X5 (ht _ q578), List.forall_mem_cons.mpr ⟨u_known ht in_X6 (ht _ q619), List.forall_mem_cons.mpr ⟨u_known ht in_X7 (ht _ q684), List.forall_mem_cons.mpr ⟨u_known ht in_X8 (ht _ q747), List.forall_mem_cons.mpr ⟨u_known ht in_X9 (ht _ q753), List.forall_mem_cons.mpr ⟨u_known ht in_X10 (ht _ q764), List.forall_mem_cons.mpr ⟨u_known ht in_X11 (ht _ q811), List.forall_mem_cons.mpr ⟨u_known ht in_X12 (ht _ q872), List.forall_mem_cons.mpr ⟨u_known ht in_X13 (ht _ q943), List.forall_mem_cons.mpr ⟨u_known ht in_X14 (ht _ q953), List.forall_mem_cons.mpr ⟨u_known ht in_X15 (ht _ q981), List.forall_mem_cons.mpr ⟨u_known ht in_X16 (ht _ q1115), List.forall_mem_cons.mpr ⟨u_known ht in_X17 (ht _ q2986), List.forall_mem_cons.mpr ⟨u_known ht (fun w h => by cases h) (ht _ q2995), List.forall_mem_cons.mpr ⟨u_known ht in_X19 (ht _ q3011), List.forall_mem_cons.mpr ⟨u_known ht in_X20 (ht _ q3353), List.forall_mem_cons.mpr ⟨u_known ht (fun w h => by cases h) (ht _ q1297), fun q h => by cases h⟩⟩⟩⟩⟩⟩⟩⟩⟩⟩⟩⟩⟩⟩⟩⟩⟩⟩⟩⟩⟩⟩
theorem at_prim {s : State} {A : Array Value} {ty : FieldType} (hp : ∀ cA, va_RA s cA ty ↔ s.vm.findClass ("[" ++ ty.toString) = some cA) (h : (Cond.arrayClass ty).before A s = true) : ∃ cA, ArrOfT s cA ty ∧ va_RA s cA ty := by
  obtain ⟨cA, kA, comp, h1, h2, h3⟩ := Cond.arrayClass_spec h
  exact ⟨cA, fun n z => ⟨fun k h => (by cases h), kA, h2, comp, h3⟩, (hp cA).mpr h1⟩
theorem at_obj {s : State} {A : Array Value} {C : String} (h : (Cond.arrayOver (.object C)).before A s = true) : ∃ cA, ArrOfT s cA (.object C) ∧ va_RA s cA (.object C) := by
  obtain ⟨comp, cA, kA, h1, h2, h3, h4, h5⟩ := Cond.arrayOver_spec h
  exact ⟨cA, fun n z => ⟨fun k h => (by cases h), kA, h3, comp, h4⟩, kA, comp, h3, h4, h1, h5⟩
theorem at_known {s : State} {A : Array Value} (ht : ∀ w ∈ lw_tbl, w.before A s = true) : ∀ ty ∈ AT, ∃ cA : ClassId, ArrOfT s cA ty ∧ va_RA s cA ty := by
  have ha : ∀ w ∈ lw_all, w.before A s = true := fun w h => ht w (lw_all_tbl h)
  exact List.forall_mem_cons.mpr ⟨at_prim (fun _ => Iff.rfl) (ha _ q422), List.forall_mem_cons.mpr ⟨at_prim (fun _ => Iff.rfl) (ha _ q745), List.forall_mem_cons.mpr ⟨at_prim (fun _ => Iff.rfl) (ha _ q421), List.forall_mem_cons.mpr ⟨at_prim (fun _ => Iff.rfl) (ha _ q1211), List.forall_mem_cons.mpr ⟨at_obj (ht _ q423), List.forall_mem_cons.mpr ⟨at_obj (ht _ q949), List.forall_mem_cons.mpr ⟨at_obj (ht _ q1013), List.forall_mem_cons.mpr ⟨at_obj (ht _ q2993), fun q h => by cases h⟩⟩⟩⟩⟩⟩⟩⟩
theorem pick {α β : Type} [Inhabited β] {P : α → β → Prop} (l : List α) (h : ∀ q ∈ l, ∃ b, P q b) : ∃ f : Nat → β, ∀ (i : Nat) (q : α), l[i]? = some q → P q (f i) := by
  have h1 : ∀ i : Nat, ∃ b : β, ∀ q, l[i]? = some q → P q b := by
    intro i
    cases hi : l[i]? with
    | none => exact ⟨default, fun q hq => by cases hq⟩
    | some q =>
      obtain ⟨b, hb⟩ := h q (List.mem_of_getElem? hi)
      exact ⟨b, fun q' hq' => by cases hq'; exact hb⟩
  exact ⟨fun i => (h1 i).choose, fun i q hq => (h1 i).choose_spec q hq⟩
theorem KK.start {s : State} {A : Array Value} {z : Nat} (ht : ∀ w ∈ lw_tbl, w.before A s = true) (hz : s.heap.size ≤ z + 1) (h1 : (Cond.isRef (.static "java/lang/Throwable" "UNASSIGNED_STACK" "[Ljava/lang/StackTraceElement;")).before A s = true) (h2 : (Cond.isRef (.static "java/lang/Throwable" "SUPPRESSED_SENTINEL" "Ljava/util/List;")).before A s = true) : ∃ D : DD, KK z D s := by
  have ha : ∀ w ∈ lw_all, w.before A s = true := fun w h => ht w (lw_all_tbl h)
  obtain ⟨f, hf⟩ := pick (β := ClassId × (Nat → Nat)) (P := fun q b => u_Kn s q.1 q.2.1 q.2.2 b.1 b.2) CL (fun q hq => by obtain ⟨a, b, h⟩ := cl_known ha q hq; exact ⟨(a, b), h⟩)
  obtain ⟨g, hg⟩ := pick (β := ClassId) (P := fun ty b => ArrOfT s b ty ∧ va_RA s b ty) AT (at_known ht)
  refine ⟨(fun i => (f i).1, fun i => (f i).2, g), ⟨fun c q h => hf c q h, fun k q h => by cases h⟩, fun ai ty h => hg ai ty h, fun w hw => ?_, ?_, ?_, ST.of hz (ht _ q1323) h1, ST.of hz (ht _ q1325) h2⟩
  · have hn : nestWord w = true := (List.mem_filter.mp hw).2
    have h0 := ht w (List.mem_filter.mp hw).1
    cases w <;> first | exact Bool.noConfusion (show false = true from hn) | exact va_Nw.of rfl h0
  · exact List.forall_mem_cons.mpr ⟨va_AO.of (ht _ q423), List.forall_mem_cons.mpr ⟨va_AO.of (ht _ q949), List.forall_mem_cons.mpr ⟨va_AO.of (ht _ q1013), List.forall_mem_cons.mpr ⟨va_AO.of (ht _ q2993), fun q h => by cases h⟩⟩⟩⟩
  · exact List.forall_mem_cons.mpr ⟨va_Fw.of (ht _ q1828) (ht _ q1827) (ht _ q1832) (ht _ q1830) (ht _ q1759), List.forall_mem_cons.mpr ⟨va_Fw.of (ht _ q1758) (ht _ q1757) (ht _ q1763) (ht _ q1761) (ht _ q1759), List.forall_mem_cons.mpr ⟨va_Fw.of (ht _ q1769) (ht _ q1768) (ht _ q1773) (ht _ q1771) (ht _ q1759), List.forall_mem_cons.mpr ⟨va_Fw.of (ht _ q1878) (ht _ q1877) (ht _ q1882) (ht _ q1880) (ht _ q1759), List.forall_mem_cons.mpr ⟨va_Fw.of (ht _ q1892) (ht _ q1891) (ht _ q1896) (ht _ q1894) (ht _ q1759), fun q h => by cases h⟩⟩⟩⟩⟩
/-- the empty abstract heap -/
def hs0 : HS := (fun _ => 0, fun _ => 0, fun _ _ => 0, fun _ _ => 0, fun _ _ => 0, 0, 0)
/-- the empty heap of level V -/
def V.v0 : V.HS := ((fun _ _ => 0, fun _ _ => 0, fun _ _ => 0, fun _ => []), (fun _ => 0, fun _ => 0, fun _ => 0, fun _ => 0, fun _ _ => 0, fun _ => 0, 0, 0, 0, 0, 0))
theorem V.wf0 : V.WF v0 := ⟨fun x h => absurd rfl h, fun r h => absurd (show (0 : Nat) = 4 from h) (by decide), fun x h => absurd rfl h, fun x h => ⟨fun _ => rfl, fun _ => rfl, fun _ => rfl, rfl, fun _ => rfl⟩, Nat.le_refl _, Nat.le_refl _⟩
theorem V.ex0 : V.ex v0 = hs0 := rfl
/-- what is to be shown of the law's function -/
def LawOK : Prop := ∀ (Ln : Nat) (xs : Nat → Int32), Ln ≤ 384 → ∃ v' : V.HS, V.Law_law Ln xs V.v0 = some (1, v') ∧ V.cnt v' ≤ 283473 ∧ V.slt v' ≤ 8251061
def lw_P (b : Addr) (xs : List Int32) (args : Array Value) (s : State) : Prop := args = #[.ref b] ∧ s.IntsAt b xs ∧ xs.length ≤ 384 ∧ (Jvm.Cond.and given_1 narrow_1).before args s = true
def lw_At (p : Program) (s : State) (m : MethodId) (meth : Method) (c : Code) (b L : Nat) (xs : Nat → Int32) : Prop :=
  p.tables.exec = Jvm.exec ∧ c.code = code ∧ meth.sig.returnType = ret ∧ c.maxLocals = 4 ∧ s.vm.findClass R_law = some m.cls ∧ (∀ w ∈ lw_tbl, w.before #[Value.ref b] s = true) ∧ va_X b L xs s s.heap ∧ b < s.heap.size ∧ meth.locks = false ∧ (Jvm.Cond.and given_1 narrow_1).before #[Value.ref b] s = true
set_option maxHeartbeats 4000000 in
theorem whole_start (hok : LawOK) {p : Program} {e : Env} {s : State} {m : MethodId} {below : List Frame} {meth : Method} {c : Code} (l : Launch) (hfl : l.flags = flags0) {b L : Nat} {xs : Nat → Int32} (hL : L ≤ 384) (C0 : lw_At p s m meth c b L xs) (hnm : meth.name = "law") (htab : c.exceptionTable = #[]) : W p l e room_1 s m #[Value.ref b] below meth c s.heap [] 0 0 (lw_Z below #[Value.ref b] s) (entryFrame m ([Value.ref b] : List Value).toArray 4) := by
  obtain ⟨h1, h2, h3, h4, h5, h6, h7, h8, h9, h10⟩ := C0
  obtain ⟨v', e0, e1, e2⟩ := hok L xs hL
  have hs := flat_of_before _ h10
  have i1 : (Cond.isRef (.static "java/lang/Throwable" "UNASSIGNED_STACK" "[Ljava/lang/StackTraceElement;")).before #[Value.ref b] s = true := hs _ (by decide +kernel)
  have i2 : (Cond.isRef (.static "java/lang/Throwable" "SUPPRESSED_SENTINEL" "Ljava/util/List;")).before #[Value.ref b] s = true := hs _ (by decide +kernel)
  obtain ⟨z, hz⟩ : ∃ z, s.heap.size = z + 1 := ⟨s.heap.size - 1, by omega⟩
  obtain ⟨D, hK⟩ := KK.start (z := z) h6 (by omega) i1 i2
  have hV := (V.gL_law (X := ((p, l, e, room_1, s, m, #[Value.ref b], below, meth, c), z, D, 0, 0)) (b := b) (Ln := L) (xs := xs) V.v0 V.wf0).2
  rw [e0, V.ex0] at hV
  have hG := (hV (V.ex v') rfl).2 ⟨⟨h1, h2, h3, h9, h4, h5, fun w hw => h6 w (lw_all_tbl hw), hK, hnm, rfl, rfl, by rw [tabOf, htab]; decide, hfl⟩, rfl, rfl, h7, by show b ≤ z; omega, hz⟩ e1 e2 s.heap []
  rw [lg_entry_eq]
  have hl := lv_entry ([Value.ref b] : List Value) (n := 4) (by show 1 ≤ 4; decide)
  have hl2 : lv_has ((lg_sl [Value.ref b] ++ List.replicate (4 - (lg_sl [Value.ref b]).length) Slot.unset).toArray) c.maxLocals ([(0, Value.ref b)]) := by rw [h4]; exact hl
  exact hG _ ⟨by rw [hz]; rfl, fun x hx => absurd rfl hx⟩ (fun _ _ => rfl) (fun q hq => by cases hq) hl2
set_option maxHeartbeats 4000000 in
theorem lw_walk (hok : LawOK) (l : Launch) (hfl : l.flags = flags0) (b : Addr) (xs : List Int32) : MetFree l x (headSpec (Jvm.Cond.code x code maxLocals ret :: tables_1) room_1) (lw_P b xs) (fun _ _ _ _ _ => True) lw_Q := by
  refine MetFree.of_bodyS (code := code) (maxLocals := maxLocals) (ret := ret) (by decide) ?_ ?_
  · intro args s m h hn
    obtain ⟨meth, c, h1, h2, h3, h4, h5, h6, -, -⟩ := Cond.code_spec hn (atoms_spec (ws := Jvm.Cond.code x code maxLocals ret :: tables_1) h _ List.mem_cons_self)
    exact ⟨meth, c, h1, h2, h3, h4, h5, h6⟩
  · intro p e s m args below meth c s₁ B hml0 hP _
    obtain ⟨rfl, hx, hbd, hgv⟩ := hP
    obtain ⟨scr, harrAt, hlist, hof, hsmall⟩ := hx
    obtain ⟨hcb, hkn, -, -⟩ := State.arrayAt?_spec harrAt
    have hown : s.vm.findClass R_law = some m.cls := findClass_of_methodNamed B.named
    have hts0 : ∀ c ∈ (Jvm.Cond.code x code maxLocals ret :: tables_1), c.before #[Value.ref b] s = true := atoms_spec (ws := Jvm.Cond.code x code maxLocals ret :: tables_1) B.pre
    have hts : ∀ w ∈ lw_tbl, w.before #[Value.ref b] s = true := k2_hts_sels lw_privs (fun w hw => hts0 w (List.mem_cons_of_mem _ hw)) lw_privs_ok
    have hml : c.maxLocals = 4 := B.maxLocals_eq (hts0 _ List.mem_cons_self)
    have htab : c.exceptionTable = #[] := by simpa using B.noHandlers (hts0 _ List.mem_cons_self)
    have hnm : meth.name = "law" := (name_of_methodNamed B.named B.method).1
    have X₀ : Stand p l e room_1 s m #[Value.ref b] below meth c s₁ [] 0 0 := Stand.of_body B
    have hh0 : s₁.heap = s.heap := by rw [B.state]; rfl
    have hsz : scr.slots.size = xs.length := by rw [← Array.length_toList, hlist, List.length_map]
    have hval : ∀ j : Nat, j < xs.length → scr.slots[j]? = some (.int (xs.getD j 0)) := fun j hj => by
      rw [← Array.getElem?_toList, hlist]
      simp [hj]
    have hbl : b < s.heap.size := (Array.getElem?_eq_some_iff.mp hcb).1
    have hX : va_X b xs.length (fun j => xs.getD j 0) s s.heap := ⟨scr, hcb, hof, hkn, hsz, hval⟩
    have K : W p l e room_1 s m #[Value.ref b] below meth c s₁.heap [] 0 0 (lw_Z below #[Value.ref b] s) (entryFrame m ([Value.ref b] : List Value).toArray 4) := by
      rw [hh0]
      exact whole_start hok l hfl hbd ⟨B.exec, B.bytes, B.returns, hml, hown, hts, hX, hbl, B.notSynchronized, hgv⟩ hnm htab
    obtain ⟨t, a1, o, b1, b2, b3⟩ := K s₁ rfl X₀
    exact ⟨t, o, a1, b1, b2, b3⟩
theorem lw_pre_spec {args : Array Value} {s : State} (h : (Jvm.Cond.and given_1 narrow_1).before args s = true) (hr : rest_1_c.before args s = true) : ∃ (b : Addr) (xs : List Int32), lw_P b xs args s := by
  have hs := flat_of_before _ h
  have hq := flat_of_before _ hr
  have hc : (Cond.count 1).before args s = true := hs _ (by decide +kernel)
  have harr : (Cond.arrayOf (.arg 0) .int).before args s = true := hs _ (by decide +kernel)
  have hle : (Cond.le (.length (.arg 0)) (.int 384)).before args s = true := hs _ (by decide +kernel)
  have hlen : (Cond.isInt (.length (.arg 0))).before args s = true := hq _ (by decide +kernel)
  have hall : (Cond.all (.arg 0) (.isInt (.elem (.arg 0) (.index 0)))).before args s = true := hq _ (by decide +kernel)
  obtain ⟨b, xs, hb, hx⟩ := State.ints_of_pre rfl harr hlen hall
  have hsm : xs.length < 2 ^ 31 := hx.choose_spec.2.2.2
  have hev : (Term.length (.arg 0)).eval args s none [] s = some (.int xs.length.toInt32) := hx.length_eval hb
  have hv := Cond.le_ints hev (show (Term.int 384).eval args s none [] s = some (.int 384) from rfl)
  have hd : xs.length.toInt32 ≤ 384 := by
    simpa [Cond.before, Cond.holds, hv] using hle
  have hN : xs.length ≤ 384 := (Int32.ofNat_le_ofNat hsm (by decide)).mp (show Int32.ofNat xs.length ≤ Int32.ofNat 384 from hd)
  exact ⟨b, xs, Cond.one_arg hc (show args[0]? = some (.ref b) from hb), hx, hN, h⟩
theorem lw_comes (hok : LawOK) (l : Launch) (hfl : l.flags = flags0) : Comes l x (Jvm.Cond.code x code maxLocals ret :: tables_1) room_1 (fun tb e args s => Calls_1 tb e args s ∧ rest_1 tb e args s ∧ Pre_1 tb e args s)
    (fun _ _ args s o t => lw_Q args s o t) := by
  intro p e ha hc hk s m args below hf hfit hheap happ hpre
  obtain ⟨b, xs, hP⟩ := lw_pre_spec hpre.2.2 hpre.2.1
  obtain ⟨k, o, h1, h2, h3, hQ⟩ := lw_walk hok l hfl b xs p e ha hc hk s m args below hf ((Spec.applies_iff_loose hf).mp happ).1 hP trivial
  exact ⟨k, o, h1, h2, h3, hQ⟩
theorem lw_frame {s t : State} {o : Outcome} {args : Array Value} (h : Framed s o t [] 283473 8251061) :
    Framed s o t (fieldLocs frame_1_writes args s ++ arrayLocs frame_1_arrays args s ++ staticLocs frame_1_statics s) 283473 8251061 := h
theorem lw_limb (hok : LawOK) (L : Cond) (hL : ∀ (args : Array Value) (s t : State), L.after args s (.returned (some (.int 1))) t = true) :
    ArmFor flags0 classFile x code maxLocals ret World_1 tables_1 room_1 Calls_1 rest_1 Pre_1
      (fun tb e a s o t => postC L tb e a s o t ∧ Framed s o t (fieldLocs frame_1_writes a s ++ arrayLocs frame_1_arrays a s ++ staticLocs frame_1_statics s) 283473 8251061) := by
  intro l hfl _ _ p e ha hc hk s m args below hf hfit hheap happ hpre
  obtain ⟨k, o, h1, h2, h3, rfl, hF⟩ := lw_comes hok l hfl p e ha hc hk s m args below hf hfit hheap happ hpre
  exact ⟨k, _, h1, h2, h3, hL args s _, lw_frame hF⟩
/-- the claim, if the law's function is as it should be -/
theorem i_vc_of (hok : LawOK) : Claimed_1_1 ∧ Claimed_1_2 := ⟨lw_limb hok limb_1_1 (fun args s t => by simp [limb_1_1, Cond.after, Cond.holds, Cond.value]), lw_limb hok limb_1_2 (fun args s t => Cond.after_iff.mpr (by
  first | (rw [show limb_1_2 = Cond.eq .result (.int 1) from rfl, Cond.eq_ints (x := 1) (y := 1) rfl rfl]; simp; done) | (simp [limb_1_2, Cond.value, Term.eval]; done)))⟩
