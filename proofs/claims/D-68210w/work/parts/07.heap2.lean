/-! rows of G: puts, arrays, new cells, constants of the class, returns -/
section Heaps2
variable {X : CX} {own nm : String} {cc : ByteArray} {nL : Nat} {ret : Option FieldType} {F L : Nat} {τ : Type} {en : τ → Outcome} {pc pc' : Nat} {lv lv' : List (Nat × AV)} {st st' : List AV} {σ σ1 : HS} {o o1 o2 : Option (τ × HS)} {f : HS → Option (τ × HS)}
theorem G.put {idx ci k x : Nat} {ty0 : FieldType} {a : AV} (hf : FP own nm idx ci k ty0) (ha : fk ty0 = ak a) (hok : okput ty0 (vl (cxz X) a)) (hd : decode cc pc = .ok (.putfield idx, 3)) (ht : tg σ x = ci + 1) (kk : ∀ σ1, G X own nm cc nL ret F L en (pc + 3) lv st σ1 (f σ1)) : G X own nm cc nL ret F L en pc lv (a :: av x :: st) σ (f (sV (cxz X) σ x k a)) :=
  G.wr (x := x) (by omega) cnt_sV slt_sV (fun C H locs kc ks Q ls hR w => w_put C hf ha hok hd ht hR w) (kk (sV (cxz X) σ x k a))
theorem g_putI {idx ci k x : Nat} {v : Int32} (hf : FP own nm idx ci k .int) (hd : decode cc pc = .ok (.putfield idx, 3)) (kk : ∀ σ1, G X own nm cc nL ret F L en (pc + 3) lv st σ1 (f σ1)) : G X own nm cc nL ret F L en pc lv (iv v :: av x :: st) σ (if tg σ x = ci + 1 then bn (sI σ x k v) f else none) :=
  G.chk fun ht => G.put hf (a := iv v) rfl ⟨rfl, rfl⟩ hd ht kk
theorem g_putJ {idx ci k x : Nat} {v : Int64} (hf : FP own nm idx ci k .long) (hd : decode cc pc = .ok (.putfield idx, 3)) (kk : ∀ σ1, G X own nm cc nL ret F L en (pc + 3) lv st σ1 (f σ1)) : G X own nm cc nL ret F L en pc lv (jv v :: av x :: st) σ (if tg σ x = ci + 1 then bn (sJ σ x k v) f else none) :=
  G.chk fun ht => G.put hf (a := jv v) rfl ⟨rfl, rfl⟩ hd ht kk
theorem g_putR {idx ci k x v : Nat} {ty0 : FieldType} (hf : FP own nm idx ci k ty0) (ht0 : fk ty0 = 2) (hd : decode cc pc = .ok (.putfield idx, 3)) (kk : ∀ σ1, G X own nm cc nL ret F L en (pc + 3) lv st σ1 (f σ1)) : G X own nm cc nL ret F L en pc lv (av v :: av x :: st) σ (if tg σ x = ci + 1 then bn (sR σ x k v) f else none) :=
  G.chk fun ht => G.put hf (a := av v) ht0 (okput_ref ht0) hd ht kk
/-- a boolean that is a constant -/
theorem g_putZ {idx ci k x : Nat} {v : Int32} (hf : FP own nm idx ci k .boolean) (hz : narrow .boolean (.int v) = .int v ∧ fits .boolean (.int v) = true) (hd : decode cc pc = .ok (.putfield idx, 3)) (kk : ∀ σ1, G X own nm cc nL ret F L en (pc + 3) lv st σ1 (f σ1)) : G X own nm cc nL ret F L en pc lv (iv v :: av x :: st) σ (if tg σ x = ci + 1 then bn (sI σ x k v) f else none) :=
  G.chk fun ht => G.put hf (a := iv v) rfl hz hd ht kk
/-- any boolean -/
abbrev zb (v : Int32) : Prop := v = 0 ∨ v = 1
theorem zb_ok {v : Int32} (h : zb v) : narrow .boolean (.int v) = .int v ∧ fits .boolean (.int v) = true := by
  rcases h with rfl | rfl <;> exact ⟨by decide +kernel, by decide +kernel⟩
theorem g_putZc {idx ci k x : Nat} {v : Int32} (hf : FP own nm idx ci k .boolean) (hd : decode cc pc = .ok (.putfield idx, 3)) (kk : ∀ σ1, G X own nm cc nL ret F L en (pc + 3) lv st σ1 (f σ1)) : G X own nm cc nL ret F L en pc lv (iv v :: av x :: st) σ (if tg σ x = ci + 1 ∧ zb v then bn (sI σ x k v) f else none) :=
  G.chk fun ht => G.put hf (a := iv v) rfl (zb_ok ht.2) hd ht.1 kk
theorem KK.ar {z : Nat} {D : DD} {s : State} (h : KK z D s) {ai : Nat} {ty : FieldType} (hq : AT[ai]? = some ty) : ArrOfT s (D.2.2 ai) ty := (h.2.1 ai ty hq).1
theorem inb_lt {i : Int32} {n : Nat} (h : inb i n) : ix i < n := Nat.lt_of_not_le fun h2 => h (Or.inr h2)
theorem g_alen (ai : Nat) {ty : FieldType} (hty : AT[ai]? = some ty) {x : Nat} (hd : decode cc pc = .ok (.arraylength, 1)) (kk : G X own nm cc nL ret F L en (pc + 1) lv (iv (nI (ln σ x)) :: st) σ o) : G X own nm cc nL ret F L en pc lv (av x :: st) σ (if tg σ x = 100 + ai then o else none) :=
  G.chk fun ht => G.rd (fun C H locs kc ks Q ls hR w => by
    obtain ⟨hx1, hc⟩ := hR.arr ht hty
    show WX X H locs kc ks Q (F0 (cxm X) pc ls (rv (cxz X) x :: st.map (vl (cxz X))))
    rw [rv_pos hx1]
    exact W.alen C.hx C.hb hc (C.kk.ar hty _ _) (by rw [arrV_size]; rfl) rfl rfl hd w) kk
theorem g_iaload {x : Nat} {i : Int32} (hd : decode cc pc = .ok (.iaload, 1)) (kk : G X own nm cc nL ret F L en (pc + 1) lv (iv (gI σ x (ix i)) :: st) σ o) : G X own nm cc nL ret F L en pc lv (iv i :: av x :: st) σ (if tg σ x = 100 ∧ inb i (ln σ x) then o else none) :=
  G.chk fun ht => G.rd (fun C H locs kc ks Q ls hR w => by
    obtain ⟨hx1, hc⟩ := hR.arr (ai := 0) (ty := .int) ht.1 rfl
    show WX X H locs kc ks Q (F0 (cxm X) pc ls (.int i :: rv (cxz X) x :: st.map (vl (cxz X))))
    rw [rv_pos hx1]
    exact W.iald C.hx C.hb hc (C.kk.ar (ai := 0) (ty := .int) rfl _ _) (fun h => by cases h) (by rw [arrV_size]; exact ht.2) (arrV_read _ _ (inb_lt ht.2)) rfl rfl hd w) kk
theorem g_laload {x : Nat} {i : Int32} (hd : decode cc pc = .ok (.laload, 1)) (kk : G X own nm cc nL ret F L en (pc + 1) lv (jv (gJ σ x (ix i)) :: st) σ o) : G X own nm cc nL ret F L en pc lv (iv i :: av x :: st) σ (if tg σ x = 101 ∧ inb i (ln σ x) then o else none) :=
  G.chk fun ht => G.rd (fun C H locs kc ks Q ls hR w => by
    obtain ⟨hx1, hc⟩ := hR.arr (ai := 1) (ty := .long) ht.1 rfl
    show WX X H locs kc ks Q (F0 (cxm X) pc ls (.int i :: rv (cxz X) x :: st.map (vl (cxz X))))
    rw [rv_pos hx1]
    exact W.lald C.hx C.hb hc (C.kk.ar (ai := 1) (ty := .long) rfl _ _) (fun h => by cases h) (by rw [arrV_size]; exact ht.2) (arrV_read _ _ (inb_lt ht.2)) rfl rfl hd w) kk
theorem g_baload {x : Nat} {i : Int32} (hd : decode cc pc = .ok (.baload, 1)) (kk : G X own nm cc nL ret F L en (pc + 1) lv (iv (gI σ x (ix i)) :: st) σ o) : G X own nm cc nL ret F L en pc lv (iv i :: av x :: st) σ (if tg σ x = 102 ∧ inb i (ln σ x) then o else none) :=
  G.chk fun ht => G.rd (fun C H locs kc ks Q ls hR w => by
    obtain ⟨hx1, hc⟩ := hR.arr (ai := 2) (ty := .byte) ht.1 rfl
    show WX X H locs kc ks Q (F0 (cxm X) pc ls (.int i :: rv (cxz X) x :: st.map (vl (cxz X))))
    rw [rv_pos hx1]
    exact W.bald C.hx C.hb hc (C.kk.ar (ai := 2) (ty := .byte) rfl _ _) (fun h => by cases h) (by rw [arrV_size]; exact ht.2) (arrV_read _ _ (inb_lt ht.2)) rfl rfl hd w) kk
theorem g_zaload {x : Nat} {i : Int32} (hd : decode cc pc = .ok (.baload, 1)) (kk : G X own nm cc nL ret F L en (pc + 1) lv (iv (gI σ x (ix i)) :: st) σ o) : G X own nm cc nL ret F L en pc lv (iv i :: av x :: st) σ (if tg σ x = 103 ∧ inb i (ln σ x) then o else none) :=
  G.chk fun ht => G.rd (fun C H locs kc ks Q ls hR w => by
    obtain ⟨hx1, hc⟩ := hR.arr (ai := 3) (ty := .boolean) ht.1 rfl
    show WX X H locs kc ks Q (F0 (cxm X) pc ls (.int i :: rv (cxz X) x :: st.map (vl (cxz X))))
    rw [rv_pos hx1]
    exact W.zald C.hx C.hb hc (C.kk.ar (ai := 3) (ty := .boolean) rfl _ _) (fun h => by cases h) (by rw [arrV_size]; exact ht.2) (arrV_read _ _ (inb_lt ht.2)) rfl rfl hd w) kk
theorem g_aaload (ai : Nat) {Cn : String} (hty : AT[ai]? = some (.object Cn)) {x : Nat} {i : Int32} (hd : decode cc pc = .ok (.aaload, 1)) (kk : G X own nm cc nL ret F L en (pc + 1) lv (av (gR σ x (ix i)) :: st) σ o) : G X own nm cc nL ret F L en pc lv (iv i :: av x :: st) σ (if tg σ x = 100 + ai ∧ inb i (ln σ x) then o else none) :=
  G.chk fun ht => G.rd (fun C H locs kc ks Q ls hR w => by
    obtain ⟨hx1, hc⟩ := hR.arr ht.1 hty
    show WX X H locs kc ks Q (F0 (cxm X) pc ls (.int i :: rv (cxz X) x :: st.map (vl (cxz X))))
    rw [rv_pos hx1]
    exact W.aald C.hx C.hb hc (C.kk.ar hty _ _) rfl (fun h => by cases h) (by rw [arrV_size]; exact ht.2) (arrV_read _ _ (inb_lt ht.2)) rfl rfl hd w) kk
theorem g_iastore {x : Nat} {i v : Int32} (hd : decode cc pc = .ok (.iastore, 1)) (kk : ∀ σ1, G X own nm cc nL ret F L en (pc + 1) lv st σ1 (f σ1)) : G X own nm cc nL ret F L en pc lv (iv v :: iv i :: av x :: st) σ (if tg σ x = 100 ∧ inb i (ln σ x) then bn (sI σ x (ix i) v) f else none) :=
  G.chk fun ht => G.wr (σ1 := sI σ x (ix i) v) (x := x) (by omega) rfl rfl (fun C H locs kc ks Q ls hR w => by
    obtain ⟨hx1, hc⟩ := hR.arr (ai := 0) (ty := .int) ht.1 rfl
    show WX X H locs kc ks Q (F0 (cxm X) pc ls (.int v :: .int i :: rv (cxz X) x :: st.map (vl (cxz X))))
    rw [rv_pos hx1]
    exact W.iast C.hx C.hb hc (C.kk.ar (ai := 0) (ty := .int) rfl _ _) (fun h => by cases h) (by rw [arrV_size]; exact ht.2) rfl rfl hd fun H1 e1 e2 e3 => w H1 _ (hR.ast (ai := 0) (ty := .int) (a := iv v) ht.1 rfl rfl e2 e3 e1) e3) (kk _)
theorem g_lastore {x : Nat} {i : Int32} {v : Int64} (hd : decode cc pc = .ok (.lastore, 1)) (kk : ∀ σ1, G X own nm cc nL ret F L en (pc + 1) lv st σ1 (f σ1)) : G X own nm cc nL ret F L en pc lv (jv v :: iv i :: av x :: st) σ (if tg σ x = 101 ∧ inb i (ln σ x) then bn (sJ σ x (ix i) v) f else none) :=
  G.chk fun ht => G.wr (σ1 := sJ σ x (ix i) v) (x := x) (by omega) rfl rfl (fun C H locs kc ks Q ls hR w => by
    obtain ⟨hx1, hc⟩ := hR.arr (ai := 1) (ty := .long) ht.1 rfl
    show WX X H locs kc ks Q (F0 (cxm X) pc ls (.long v :: .int i :: rv (cxz X) x :: st.map (vl (cxz X))))
    rw [rv_pos hx1]
    exact W.last C.hx C.hb hc (C.kk.ar (ai := 1) (ty := .long) rfl _ _) (fun h => by cases h) (by rw [arrV_size]; exact ht.2) rfl rfl hd fun H1 e1 e2 e3 => w H1 _ (hR.ast (ai := 1) (ty := .long) (a := jv v) ht.1 rfl rfl e2 e3 e1) e3) (kk _)
theorem g_bastore {x : Nat} {i v : Int32} (hd : decode cc pc = .ok (.bastore, 1)) (kk : ∀ σ1, G X own nm cc nL ret F L en (pc + 1) lv st σ1 (f σ1)) : G X own nm cc nL ret F L en pc lv (iv v :: iv i :: av x :: st) σ (if tg σ x = 102 ∧ inb i (ln σ x) then bn (sI σ x (ix i) (i2b v)) f else none) :=
  G.chk fun ht => G.wr (σ1 := sI σ x (ix i) (i2b v)) (x := x) (by omega) rfl rfl (fun C H locs kc ks Q ls hR w => by
    obtain ⟨hx1, hc⟩ := hR.arr (ai := 2) (ty := .byte) ht.1 rfl
    show WX X H locs kc ks Q (F0 (cxm X) pc ls (.int v :: .int i :: rv (cxz X) x :: st.map (vl (cxz X))))
    rw [rv_pos hx1]
    exact W.bast C.hx C.hb hc (C.kk.ar (ai := 2) (ty := .byte) rfl _ _) (fun h => by cases h) (by rw [arrV_size]; exact ht.2) rfl rfl hd fun H1 e1 e2 e3 => w H1 _ (hR.ast (ai := 2) (ty := .byte) (a := iv (i2b v)) ht.1 rfl rfl e2 e3 e1) e3) (kk _)
theorem g_zastore {x : Nat} {i v : Int32} (hd : decode cc pc = .ok (.bastore, 1)) (kk : ∀ σ1, G X own nm cc nL ret F L en (pc + 1) lv st σ1 (f σ1)) : G X own nm cc nL ret F L en pc lv (iv v :: iv i :: av x :: st) σ (if tg σ x = 103 ∧ inb i (ln σ x) ∧ zb v then bn (sI σ x (ix i) v) f else none) :=
  G.chk fun ht => G.wr (σ1 := sI σ x (ix i) v) (x := x) (by omega) rfl rfl (fun C H locs kc ks Q ls hR w => by
    obtain ⟨hx1, hc⟩ := hR.arr (ai := 3) (ty := .boolean) ht.1 rfl
    show WX X H locs kc ks Q (F0 (cxm X) pc ls (.int v :: .int i :: rv (cxz X) x :: st.map (vl (cxz X))))
    rw [rv_pos hx1]
    exact W.zast C.hx C.hb hc (C.kk.ar (ai := 3) (ty := .boolean) rfl _ _) (fun h => by cases h) (by rw [arrV_size]; exact ht.2.1) rfl rfl hd fun H1 e1 e2 e3 => w H1 _ (hR.ast (ai := 3) (ty := .boolean) (a := iv v) ht.1 rfl rfl e2 e3 (by rw [e1, (zb_ok ht.2.2).1]; rfl)) e3) (kk _)
theorem g_ldc {idx : Nat} {v : Int32} (hw : Cond.constant own idx v ∈ lw_all) (hd : decode cc pc = .ok (.ldc idx, 2)) (kk : G X own nm cc nL ret F L en (pc + 2) lv (iv v :: st) σ o) : G X own nm cc nL ret F L en pc lv st σ o :=
  G.pure (fun C H locs kc ks Q ls hl w => lv_ldc C.hx C.hb C.ho (C.ht _ hw) hd w) kk
theorem g_ldcw {idx : Nat} {v : Int32} (hw : Cond.constant own idx v ∈ lw_all) (hd : decode cc pc = .ok (.ldc_w idx, 3)) (kk : G X own nm cc nL ret F L en (pc + 3) lv (iv v :: st) σ o) : G X own nm cc nL ret F L en pc lv st σ o :=
  G.pure (fun C H locs kc ks Q ls hl w => lv_ldcw C.hx C.hb C.ho (C.ht _ hw) hd w) kk
theorem g_ldc2 {idx : Nat} {v : Int64} (hw : Cond.constantLong own idx v ∈ lw_all) (hd : decode cc pc = .ok (.ldc2_w idx, 3)) (kk : G X own nm cc nL ret F L en (pc + 3) lv (jv v :: st) σ o) : G X own nm cc nL ret F L en pc lv st σ o :=
  G.pure (fun C H locs kc ks Q ls hl w => lv_ldc2 C.hx C.hb C.ho (C.ht _ hw) hd w) kk
end Heaps2
