/-! the words that a new exception asks; new exceptions in a walk; handlers -/
theorem exA_IAE {X : CX} {own nm : String} {cc : ByteArray} {nL : Nat} {ret : Option FieldType} {F L : Nat} (C : Cx X own nm cc nL ret F L) : ∀ a ∈ exAt RJ4 ["java/lang/RuntimeException", "java/lang/Exception"], a.before (cxa X) (cxs X) = true :=
  List.forall_mem_cons.mpr ⟨C.ht _ q378, List.forall_mem_cons.mpr ⟨C.ht _ q1318, List.forall_mem_cons.mpr ⟨C.ht _ q1327, List.forall_mem_cons.mpr ⟨C.ht _ q1330, List.forall_mem_cons.mpr ⟨C.ht _ q1333, List.forall_mem_cons.mpr ⟨C.ht _ q1335, List.forall_mem_cons.mpr ⟨C.ht _ q1319, List.forall_mem_cons.mpr ⟨C.ht _ q1320, List.forall_mem_cons.mpr ⟨C.ht _ q393, List.forall_mem_cons.mpr ⟨C.ht _ q394, List.forall_mem_cons.mpr ⟨C.ht _ q1321, List.forall_mem_cons.mpr ⟨C.ht _ q1326, List.forall_mem_cons.mpr ⟨C.ht _ q1331, List.forall_mem_cons.mpr ⟨C.ht _ q1347, List.forall_mem_cons.mpr ⟨C.ht _ q1308, List.forall_mem_cons.mpr ⟨C.ht _ q1348, List.forall_mem_cons.mpr ⟨C.ht _ q1310, List.forall_mem_cons.mpr ⟨C.ht _ q1349, List.forall_mem_cons.mpr ⟨C.ht _ q1312, List.forall_mem_cons.mpr ⟨C.ht _ q1322, List.forall_mem_cons.mpr ⟨C.kk.2.2.2.2.2.1.lays, List.forall_mem_cons.mpr ⟨C.ht _ q1324, List.forall_mem_cons.mpr ⟨C.kk.2.2.2.2.2.2.lays, List.forall_mem_cons.mpr ⟨C.ht _ q1314, List.forall_mem_cons.mpr ⟨C.ht _ q1337, List.forall_mem_cons.mpr ⟨C.ht _ q1338, List.forall_mem_cons.mpr ⟨C.ht _ q1339, List.forall_mem_cons.mpr ⟨C.ht _ q1340, List.forall_mem_cons.mpr ⟨va_Nw.use rfl (C.kk.2.2.1 _ (nw_in q1299 rfl)), List.forall_mem_cons.mpr ⟨C.ht _ q1340, List.forall_mem_cons.mpr ⟨C.ht _ q1341, List.forall_mem_cons.mpr ⟨C.ht _ q1342, List.forall_mem_cons.mpr ⟨C.ht _ q1343, List.forall_mem_cons.mpr ⟨va_Nw.use rfl (C.kk.2.2.1 _ (nw_in q1301 rfl)), List.forall_mem_cons.mpr ⟨C.ht _ q1343, List.forall_mem_cons.mpr ⟨C.ht _ q1344, List.forall_mem_cons.mpr ⟨C.ht _ q1345, List.forall_mem_cons.mpr ⟨C.ht _ q1319, List.forall_mem_cons.mpr ⟨va_Nw.use rfl (C.kk.2.2.1 _ (nw_in q1303 rfl)), List.forall_mem_cons.mpr ⟨C.ht _ q1297, List.forall_mem_cons.mpr ⟨va_Nw.use rfl (C.kk.2.2.1 _ (nw_in q1298 rfl)), List.forall_mem_cons.mpr ⟨C.ht _ q1305, List.forall_mem_cons.mpr ⟨C.ht _ q1306, List.forall_mem_cons.mpr ⟨C.ht _ q1307, List.forall_mem_cons.mpr ⟨C.ht _ q1309, List.forall_mem_cons.mpr ⟨C.ht _ q1311, List.forall_mem_cons.mpr ⟨C.ht _ q1313, List.forall_mem_cons.mpr ⟨C.kk.2.2.2.2.2.1.isr, List.forall_mem_cons.mpr ⟨C.kk.2.2.2.2.2.2.isr, List.forall_mem_cons.mpr ⟨C.ht _ q1317, List.forall_mem_cons.mpr ⟨C.ht _ q1316, List.forall_mem_cons.mpr ⟨C.ht _ q1315, fun _ h => absurd h List.not_mem_nil⟩⟩⟩⟩⟩⟩⟩⟩⟩⟩⟩⟩⟩⟩⟩⟩⟩⟩⟩⟩⟩⟩⟩⟩⟩⟩⟩⟩⟩⟩⟩⟩⟩⟩⟩⟩⟩⟩⟩⟩⟩⟩⟩⟩⟩⟩⟩⟩⟩⟩⟩⟩
theorem exA_Fault {X : CX} {own nm : String} {cc : ByteArray} {nL : Nat} {ret : Option FieldType} {F L : Nat} (C : Cx X own nm cc nL ret F L) : ∀ a ∈ exAt RX18 ["java/lang/RuntimeException", "java/lang/Exception"], a.before (cxa X) (cxs X) = true :=
  List.forall_mem_cons.mpr ⟨C.ht _ q378, List.forall_mem_cons.mpr ⟨C.ht _ q1318, List.forall_mem_cons.mpr ⟨C.ht _ q1327, List.forall_mem_cons.mpr ⟨C.ht _ q1330, List.forall_mem_cons.mpr ⟨C.ht _ q1333, List.forall_mem_cons.mpr ⟨C.ht _ q1335, List.forall_mem_cons.mpr ⟨C.ht _ q1319, List.forall_mem_cons.mpr ⟨C.ht _ q1320, List.forall_mem_cons.mpr ⟨C.ht _ q393, List.forall_mem_cons.mpr ⟨C.ht _ q394, List.forall_mem_cons.mpr ⟨C.ht _ q1321, List.forall_mem_cons.mpr ⟨C.ht _ q1326, List.forall_mem_cons.mpr ⟨C.ht _ q1331, List.forall_mem_cons.mpr ⟨C.ht _ q1347, List.forall_mem_cons.mpr ⟨C.ht _ q1308, List.forall_mem_cons.mpr ⟨C.ht _ q1348, List.forall_mem_cons.mpr ⟨C.ht _ q1310, List.forall_mem_cons.mpr ⟨C.ht _ q1349, List.forall_mem_cons.mpr ⟨C.ht _ q1312, List.forall_mem_cons.mpr ⟨C.ht _ q1322, List.forall_mem_cons.mpr ⟨C.kk.2.2.2.2.2.1.lays, List.forall_mem_cons.mpr ⟨C.ht _ q1324, List.forall_mem_cons.mpr ⟨C.kk.2.2.2.2.2.2.lays, List.forall_mem_cons.mpr ⟨C.ht _ q1314, List.forall_mem_cons.mpr ⟨C.ht _ q3004, List.forall_mem_cons.mpr ⟨C.ht _ q3005, List.forall_mem_cons.mpr ⟨C.ht _ q3006, List.forall_mem_cons.mpr ⟨C.ht _ q1340, List.forall_mem_cons.mpr ⟨va_Nw.use rfl (C.kk.2.2.1 _ (nw_in q1299 rfl)), List.forall_mem_cons.mpr ⟨C.ht _ q1340, List.forall_mem_cons.mpr ⟨C.ht _ q1341, List.forall_mem_cons.mpr ⟨C.ht _ q1342, List.forall_mem_cons.mpr ⟨C.ht _ q1343, List.forall_mem_cons.mpr ⟨va_Nw.use rfl (C.kk.2.2.1 _ (nw_in q1301 rfl)), List.forall_mem_cons.mpr ⟨C.ht _ q1343, List.forall_mem_cons.mpr ⟨C.ht _ q1344, List.forall_mem_cons.mpr ⟨C.ht _ q1345, List.forall_mem_cons.mpr ⟨C.ht _ q1319, List.forall_mem_cons.mpr ⟨va_Nw.use rfl (C.kk.2.2.1 _ (nw_in q1303 rfl)), List.forall_mem_cons.mpr ⟨C.ht _ q2995, List.forall_mem_cons.mpr ⟨va_Nw.use rfl (C.kk.2.2.1 _ (nw_in q2996 rfl)), List.forall_mem_cons.mpr ⟨C.ht _ q2997, List.forall_mem_cons.mpr ⟨C.ht _ q1329, List.forall_mem_cons.mpr ⟨C.ht _ q2998, List.forall_mem_cons.mpr ⟨C.ht _ q2999, List.forall_mem_cons.mpr ⟨C.ht _ q3000, List.forall_mem_cons.mpr ⟨C.ht _ q3001, List.forall_mem_cons.mpr ⟨C.kk.2.2.2.2.2.1.isr, List.forall_mem_cons.mpr ⟨C.kk.2.2.2.2.2.2.isr, List.forall_mem_cons.mpr ⟨C.ht _ q1317, List.forall_mem_cons.mpr ⟨C.ht _ q1316, List.forall_mem_cons.mpr ⟨C.ht _ q3002, fun _ h => absurd h List.not_mem_nil⟩⟩⟩⟩⟩⟩⟩⟩⟩⟩⟩⟩⟩⟩⟩⟩⟩⟩⟩⟩⟩⟩⟩⟩⟩⟩⟩⟩⟩⟩⟩⟩⟩⟩⟩⟩⟩⟩⟩⟩⟩⟩⟩⟩⟩⟩⟩⟩⟩⟩⟩⟩
section Exc
variable {X : CX} {own nm : String} {cc : ByteArray} {nL : Nat} {ret : Option FieldType} {F L : Nat} {τ : Type} {en : τ → Outcome} {pc pc' : Nat} {lv : List (Nat × AV)} {st st' : List AV} {σ : HS} {o : Option (τ × HS)} {k : Nat → HS → Option (τ × HS)}
theorem noTrace (C : Cx X own nm cc nL ret F L) {T : State} {locs : List Loc} {kc ks : Nat} (XX : Stand (cxp X) (cxl X) (cxe X) (cxR X) (cxs X) (cxm X) (cxa X) (cxb X) (cxM X) (cxc X) T locs kc ks) : (cxe X).platform.stackTraces = false := by
  rw [XX.admits.platform]
  show (cxl X).stackTraces = false
  rw [Launch.stackTraces, C.nt]
  decide
theorem gnwX {t n sl : Nat} (h : Cx X own nm cc nL ret F L → ∀ (H : Heap) (locs : List Loc) (kc ks : Nat) (Q : State → Prop) (ls : Array Slot), Rep (cxz X) (cxD X) σ H → (∀ q ∈ locs, cxz X < q.base) → ls.size = (cxc X).maxLocals → kc + 1 ≤ (cxR X).cells → ks + sl ≤ (cxR X).slots → (∀ (H' : Heap), Rep (cxz X) (cxD X) (nw σ t n sl) H' → (∀ q, q < H.size → H'[q]? = H[q]?) → WX X H' locs (kc + 1) (ks + sl) Q (F0 (cxm X) pc' ls (st'.map (vl (cxz X))))) → WX X H locs kc ks Q (F0 (cxm X) pc ls (st.map (vl (cxz X))))) (k : G X own nm cc nL ret F L en pc' lv st' (nw σ t n sl) o) : G X own nm cc nL ret F L en pc lv st σ o := by
  intro r σ' ho
  obtain ⟨h1, h2⟩ := k r σ' ho
  have ec : cnt (nw σ t n sl) = cnt σ + 1 := rfl
  have es : slt (nw σ t n sl) = slt σ + sl := rfl
  rw [ec, es] at h1
  refine ⟨⟨by omega, by omega⟩, ?_⟩
  intro C mc ms e1 e2 e3 e4 kc ks H locs ls e5 e6 hR hO hL hl
  refine h C H locs kc ks _ ls hR hL hl.1 (by rw [e3]; omega) (by rw [e4]; omega) (fun H' hR' hH' => h2 C mc ms e1 e2 e3 e4 _ _ H' _ ls (by rw [ec]; omega) (by rw [es]; omega) hR' (fun q hq => ?_) hL hl)
  rw [hH' q (by rw [hR.1]; omega)]; exact hO q hq
/-- 'new X; dup; invokespecial X()' of an exception -/
theorem g_newexc {icl ic ci : Nat} {q : vw_C} (hq : CL[ci]? = some q) (hN : q.2.2 = 0) (hexA : Cx X own nm cc nL ret F L → ∀ a ∈ exAt q.1 ["java/lang/RuntimeException", "java/lang/Exception"], a.before (cxa X) (cxs X) = true) (hfit : Bundle.fit q.1 = true) (hcl : Cond.classLink own icl q.1 ∈ lw_all) (hins : Cond.instantiable q.1 6 ∈ lw_all) (hini : Cond.initialized q.1 ∈ lw_all)
    (hlk : Cond.methodLink own ic (Bundle.init0 q.1) ∈ lw_all ∨ ∃ host, Cond.methodLinkNest own ic (Bundle.init0 q.1) host ∈ lw_tbl) (hF : 5 < F) (hL : wt st + 81 ≤ L) (hd1 : decode cc pc = .ok (.new icl, 3)) (hd2 : decode cc (pc + 3) = .ok (.dup, 1)) (hd3 : decode cc (pc + 4) = .ok (.invokespecial ic, 3))
    (kk : ∀ (x : Nat) (σ1 : HS), G X own nm cc nL ret F L en (pc + 7) lv (av x :: st) σ1 (k x σ1)) : G X own nm cc nL ret F L en pc lv st σ (newo σ (ci + 1) 6 k) := by
  refine gnwX (t := ci + 1) (n := 0) (sl := 6) (st' := av (cnt σ + 1) :: st) (pc' := pc + 7) (fun C H locs kc ks Q ls hR hlo hls hc hs w => ?_) (kk _ _)
  have hKn := C.kk.u hq
  intro T0 hT0 XX0
  have hle : (cxs X).heap.size ≤ H.size := by rw [← hT0]; exact XX0.same.2.1
  refine (?_ : WX X H locs kc ks Q (F0 (cxm X) pc ls (st.map (vl (cxz X))))) T0 hT0 XX0
  refine W.newcK C.hx C.hb C.ho (C.ht _ hcl) (C.ht _ hins) (C.ht _ hini) rfl hd1 hc hs hKn.2.1 rfl fun H1 kC hkC e1 z1 o1 => ?_
  have hsz : H.size = cxz X + (cnt σ + 1) := by rw [hR.1]; omega
  refine lv_dup (pc := pc + 3) C.hx C.hb hd2 rfl ?_
  intro T hT XX
  have hlk' : (Cond.methodLink own ic (Bundle.init0 q.1)).before (cxa X) (cxs X) = true ∨ ∃ host, (Cond.methodLinkNest own ic (Bundle.init0 q.1) host).before (cxa X) (cxs X) = true := by
    rcases hlk with h | ⟨host, h⟩
    · exact Or.inl (C.ht _ h)
    · exact Or.inr ⟨host, va_Nw.use rfl (C.kk.2.2.1 _ (nw_in h rfl))⟩
  obtain ⟨vm', cell', Lo, X', c1, c2, c3, hst⟩ := ctorNew0 XX C.hx (noTrace C XX) C.ho hfit (by decide) (hexA C) hlk' C.kk.2.2.2.2.2.1 hlo hKn.2.1 hkC (a := H.size) (by rw [hT]; exact e1) (by omega) (g := F0 (cxm X) (pc + 4) ls (.ref H.size :: .ref H.size :: st.map (vl (cxz X)))) rfl hls (rest := .ref H.size :: st.map (vl (cxz X))) rfl (by rw [C.hb]; exact hd3) (by rw [C.fr]; exact hF) (by
    have := wt_map (cxz X) st
    show 2 * 0 + (List.map (fun v => v.category) (Value.ref H.size :: st.map (vl (cxz X)))).sum + (13 * (2 + 1) + 41) ≤ _
    rw [C.lo, List.map_cons, List.sum_cons, this]
    show 2 * 0 + (1 + wt st) + _ ≤ _
    omega)
  have X'' := Stand.forget X' (fun y hy => by rw [c3 y hy]; exact hle)
  have hlt : H.size < (T.setVm vm').heap.size := by show H.size < T.heap.size; rw [hT, z1]; omega
  have g1 : ((T.setVm vm').setCell H.size cell').heap[H.size]? = some cell' := heapAt_setCell_self (s := T.setVm vm') cell' hlt
  have g2 : ∀ y, y ≠ H.size → ((T.setVm vm').setCell H.size cell').heap[y]? = H1[y]? := fun y hy => by
    rw [heapAt_setCell_ne (s := T.setVm vm') cell' (Ne.symm hy)]; show T.heap[y]? = _; rw [hT]
  have g3 : ((T.setVm vm').setCell H.size cell').heap.size = H.size + 1 := by rw [size_setCell]; show T.heap.size = _; rw [hT, z1]
  have hrep : Rep (cxz X) (cxD X) (nw σ (ci + 1) 0 6) ((T.setVm vm').setCell H.size cell').heap := by
    refine hR.new g3 (fun y hy => by rw [g2 y (Nat.ne_of_lt hy)]; exact o1 y hy) ⟨fun ci' q' ty' a1 a2 a3 => ?_, fun ai ty' a1 a2 => ?_⟩
    · have a1 : up1 σ.1 (cnt σ + 1) (ci + 1) (cnt σ + 1) = ci' + 1 := a1
      rw [nw_at] at a1
      obtain rfl : ci = ci' := by omega
      cases hq.symm.trans a2
      exact ⟨cell', by rw [← hsz]; exact g1, c1, c2, fun j hj => by rw [hN] at hj; exact absurd hj (Nat.not_lt_zero j)⟩
    · have a1 : up1 σ.1 (cnt σ + 1) (ci + 1) (cnt σ + 1) = 100 + ai := a1
      rw [nw_at] at a1
      have := CL_small hq
      omega
  have w2 := w _ hrep (fun y hy => by rw [g2 y (Nat.ne_of_lt hy)]; exact o1 y hy)
  have hs2 : (av (cnt σ + 1) :: st).map (vl (cxz X)) = .ref H.size :: st.map (vl (cxz X)) := by show rv (cxz X) (cnt σ + 1) :: _ = _; rw [hsz]; rfl
  rw [hs2] at w2
  obtain ⟨t, a1, b1⟩ := w2 _ rfl X''
  exact ⟨t, hst t a1, b1⟩
end Exc
