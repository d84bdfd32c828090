/-! further rows -/
section More
variable {X : CX} {own nm : String} {cc : ByteArray} {nL : Nat} {ret : Option FieldType} {F L : Nat} {τ : Type} {en : τ → Outcome} {pc : Nat} {lv lv' : List (Nat × AV)} {st : List AV} {σ : HS} {o : Option (τ × HS)}
theorem g_iincB {i : Nat} {n : Int} {x w : Int32} {lv' : Int32 → List (Nat × AV)} {f : Int32 → Option (τ × HS)} (q : Nat) (hd : decode cc pc = .ok (.iinc i n, 3)) (hq : lv[q]? = some (i, iv x)) (hw : Int32.ofInt n = w) (hn : i < nL) (hl' : ∀ v, st1 i (iv v) lv = lv' v) (k : ∀ v, G X own nm cc nL ret F L en (pc + 3) (lv' v) st σ (f v)) : G X own nm cc nL ret F L en pc lv st σ (bn (x + w) f) :=
  g_iinc (v := x + w) q hd hq (by rw [hw]) hn (hl' _) (k _)
theorem g_na_int {n : Int32} {k : Nat → HS → Option (τ × HS)} (hd : decode cc pc = .ok (.newarray .int, 2)) (kk : ∀ (x : Nat) (σ1 : HS), G X own nm cc nL ret F L en (pc + 2) lv (av x :: st) σ1 (k x σ1)) : G X own nm cc nL ret F L en pc lv (iv n :: st) σ (if lenok n then newa σ 100 n k else none) :=
  g_newarray (atype := .int) 0 rfl rfl (fun U cA h => h) q422 (by decide) hd kk
theorem g_na_long {n : Int32} {k : Nat → HS → Option (τ × HS)} (hd : decode cc pc = .ok (.newarray .long, 2)) (kk : ∀ (x : Nat) (σ1 : HS), G X own nm cc nL ret F L en (pc + 2) lv (av x :: st) σ1 (k x σ1)) : G X own nm cc nL ret F L en pc lv (iv n :: st) σ (if lenok n then newa σ 101 n k else none) :=
  g_newarray (atype := .long) 1 rfl rfl (fun U cA h => h) q745 (by decide) hd kk
theorem g_na_byte {n : Int32} {k : Nat → HS → Option (τ × HS)} (hd : decode cc pc = .ok (.newarray .byte, 2)) (kk : ∀ (x : Nat) (σ1 : HS), G X own nm cc nL ret F L en (pc + 2) lv (av x :: st) σ1 (k x σ1)) : G X own nm cc nL ret F L en pc lv (iv n :: st) σ (if lenok n then newa σ 102 n k else none) :=
  g_newarray (atype := .byte) 2 rfl rfl (fun U cA h => h) q421 (by decide) hd kk
theorem g_na_bool {n : Int32} {k : Nat → HS → Option (τ × HS)} (hd : decode cc pc = .ok (.newarray .boolean, 2)) (kk : ∀ (x : Nat) (σ1 : HS), G X own nm cc nL ret F L en (pc + 2) lv (av x :: st) σ1 (k x σ1)) : G X own nm cc nL ret F L en pc lv (iv n :: st) σ (if lenok n then newa σ 103 n k else none) :=
  g_newarray (atype := .boolean) 3 rfl rfl (fun U cA h => h) q1211 (by decide) hd kk
def minI (x y : Int32) : Int32 := if y < x then y else x
def minJ (x y : Int64) : Int64 := if y < x then y else x
theorem G.pureR {pc' : Nat} {st' : List AV} (h : Cx X own nm cc nL ret F L → ∀ (H : Heap) (locs : List Loc) (kc ks : Nat) (Q : State → Prop) (ls : Array Slot), kc ≤ (cxR X).cells → ks ≤ (cxR X).slots → lv_has ls (cxc X).maxLocals (lvm (cxz X) lv) → WX X H locs kc ks Q (F0 (cxm X) pc' ls (st'.map (vl (cxz X)))) → WX X H locs kc ks Q (F0 (cxm X) pc ls (st.map (vl (cxz X))))) (k : G X own nm cc nL ret F L en pc' lv st' σ o) : G X own nm cc nL ret F L en pc lv st σ o := by
  intro r σ' ho
  obtain ⟨h1, h2⟩ := k r σ' ho
  refine ⟨h1, ?_⟩
  intro C mc ms e1 e2 e3 e4 kc ks H locs ls e5 e6 hR hO hL hl
  exact h C H locs kc ks _ ls (by rw [e3]; omega) (by rw [e4]; omega) hl (h2 C mc ms e1 e2 e3 e4 kc ks H locs ls e5 e6 hR hO hL hl)
theorem g_minI {idx : Nat} {x y : Int32} (hl : Cond.methodLink own idx ⟨"java/lang/Math", "min", "(II)I"⟩ ∈ lw_all) (hF : 1 ≤ F) (hL : wt st + 13 ≤ L) (hd : decode cc pc = .ok (.invokestatic idx, 3)) (k : G X own nm cc nL ret F L en (pc + 3) lv (iv (minI x y) :: st) σ o) : G X own nm cc nL ret F L en pc lv (iv y :: iv x :: st) σ o :=
  G.pureR (fun C H locs kc ks Q ls h1 h2 hl' w => va_mmin C.hx C.hb hl'.1.symm C.ho (C.ht _ hl) (C.ht _ q1265) (C.ht _ q383) (C.ht _ q1266) (by rw [C.fr]; exact hF) (by rw [C.lo, wt_map]; exact hL) h1 h2 hd w) k
theorem g_minJ {idx : Nat} {x y : Int64} (hl : Cond.methodLink own idx ⟨"java/lang/Math", "min", "(JJ)J"⟩ ∈ lw_all) (hF : 1 ≤ F) (hL : wt st + 15 ≤ L) (hd : decode cc pc = .ok (.invokestatic idx, 3)) (k : G X own nm cc nL ret F L en (pc + 3) lv (jv (minJ x y) :: st) σ o) : G X own nm cc nL ret F L en pc lv (jv y :: jv x :: st) σ o :=
  G.pureR (fun C H locs kc ks Q ls h1 h2 hl' w => va_mmin_long C.hx C.hb hl'.1.symm C.ho (C.ht _ hl) (C.ht _ q2259) (C.ht _ q383) (C.ht _ q2260) (by rw [C.fr]; exact hF) (by rw [C.lo, wt_map]; exact hL) h1 h2 hd w) k
end More
