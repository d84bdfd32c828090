/-! rows of G: switches, Object's constructor -/
def tswT (pc : Nat) (dflt lo hi : Int) (offs : Array Int) (x : Int32) : Nat := if x.toInt < lo ∨ hi < x.toInt then ((pc : Int) + dflt).toNat else ((pc : Int) + offs.getD (x.toInt - lo).toNat 0).toNat
def tswOk (pc : Nat) (dflt lo hi : Int) (offs : Array Int) : Bool := decide (0 ≤ (pc : Int) + dflt) && (offs.toList.all (fun o => decide (0 ≤ (pc : Int) + o)) && decide (hi < lo + offs.size))
def tswD (pc : Nat) (dflt lo : Int) (offs : Array Int) (keys : List Int32) (dt : Nat) : Bool := ((pc : Int) + dflt).toNat == dt && (List.range offs.size).all (fun i => keys.any (fun k => k.toInt == lo + i) || ((pc : Int) + offs.getD i 0).toNat == dt)
def lswT (pc : Nat) (dflt : Int) (ps : Array (Int × Int)) (x : Int32) : Nat := ((pc : Int) + Op.lookupswitch.offset ps.toList dflt x.toInt).toNat
def lswOk (pc : Nat) (dflt : Int) (ps : Array (Int × Int)) : Bool := decide (0 ≤ (pc : Int) + dflt) && (ps.toList.all (fun o => decide (0 ≤ (pc : Int) + o.2)) && (ps.toList.zip (ps.toList.drop 1)).all (fun (a, next) => a.1 < next.1))
def lswD (pc : Nat) (dflt : Int) (ps : Array (Int × Int)) (keys : List Int32) (dt : Nat) : Bool := ((pc : Int) + dflt).toNat == dt && ps.toList.all (fun q => keys.any (fun k => k.toInt == q.1))
theorem tswT_d {pc : Nat} {dflt lo hi : Int} {offs : Array Int} {keys : List Int32} {dt : Nat} {x : Int32} (hok : tswOk pc dflt lo hi offs = true) (h : tswD pc dflt lo offs keys dt = true) (hx : ∀ k ∈ keys, ¬ x = k) : tswT pc dflt lo hi offs x = dt := by
  simp only [tswD, tswOk, Bool.and_eq_true, beq_iff_eq, List.all_eq_true, List.mem_range, Bool.or_eq_true, List.any_eq_true, decide_eq_true_eq] at h hok
  unfold tswT
  by_cases hr : x.toInt < lo ∨ hi < x.toInt
  · rw [if_pos hr]; exact h.1
  · rw [if_neg hr]
    have h1 : (x.toInt - lo).toNat < offs.size := by omega
    rcases h.2 _ h1 with ⟨k, hk, hk2⟩ | h2
    · exact absurd (Int32.toInt_inj.mp (by rw [hk2]; omega)) (hx k hk)
    · exact h2
theorem lsw_off {keys : List Int32} {d : Int} {x : Int32} (hx : ∀ k ∈ keys, ¬ x = k) : ∀ ps : List (Int × Int), (∀ q ∈ ps, ∃ k ∈ keys, k.toInt = q.1) → Op.lookupswitch.offset ps d x.toInt = d
  | [], _ => rfl
  | (a, o) :: r, h => by
    obtain ⟨k, hk, hk2⟩ := h (a, o) List.mem_cons_self
    rw [lv_osw (hx k hk) hk2]
    exact lsw_off hx r (fun q hq => h q (List.mem_cons_of_mem _ hq))
theorem lswT_d {pc : Nat} {dflt : Int} {ps : Array (Int × Int)} {keys : List Int32} {dt : Nat} {x : Int32} (h : lswD pc dflt ps keys dt = true) (hx : ∀ k ∈ keys, ¬ x = k) : lswT pc dflt ps x = dt := by
  simp only [lswD, Bool.and_eq_true, beq_iff_eq, List.all_eq_true, List.any_eq_true] at h
  unfold lswT
  rw [lsw_off hx ps.toList (fun q hq => by obtain ⟨k, hk, hk2⟩ := h.2 q hq; exact ⟨k, hk, hk2⟩)]
  exact h.1
theorem lsw_in {d x : Int} : ∀ ps : List (Int × Int), (∀ q ∈ ps, 0 ≤ d ∧ True) ∨ True → (Op.lookupswitch.offset ps d x = d ∨ ∃ q ∈ ps, Op.lookupswitch.offset ps d x = q.2)
  | [], _ => Or.inl rfl
  | (a, o) :: r, _ => by
    rw [Op.lookupswitch.offset_cons]
    by_cases h : a = x
    · first | (rw [if_pos h]; exact Or.inr ⟨(a, o), List.mem_cons_self, rfl⟩) | (rw [if_pos h.symm]; exact Or.inr ⟨(a, o), List.mem_cons_self, rfl⟩)
    · first | rw [if_neg h] | rw [if_neg (fun q => h q.symm)]
      rcases lsw_in r (Or.inr trivial) with h1 | ⟨q, h1, h2⟩
      · exact Or.inl h1
      · exact Or.inr ⟨q, List.mem_cons_of_mem _ h1, h2⟩
section Switch
variable {X : CX} {own nm : String} {cc : ByteArray} {nL : Nat} {ret : Option FieldType} {F L : Nat} {τ : Type} {en : τ → Outcome} {pc : Nat} {lv : List (Nat × AV)} {st : List AV} {σ : HS} {o o1 : Option (τ × HS)}
theorem g_tsw {dflt lo hi : Int} {offs : Array Int} {len : Nat} {x : Int32} (hd : decode cc pc = .ok (.tableswitch dflt lo hi offs, len)) (hok : tswOk pc dflt lo hi offs = true) (k : G X own nm cc nL ret F L en (tswT pc dflt lo hi offs x) lv st σ o) : G X own nm cc nL ret F L en pc lv (iv x :: st) σ o := by
  have hok' := hok
  simp only [tswOk, Bool.and_eq_true, List.all_eq_true, decide_eq_true_eq] at hok
  refine G.pure (fun C H locs kc ks Q ls hl w => ?_) k
  by_cases hr : x.toInt < lo ∨ hi < x.toInt
  · rw [tswT, if_pos hr] at w
    exact lv_tableOut C.hx C.hb hd hr (Int.toNat_of_nonneg hok.1).symm w
  · rw [tswT, if_neg hr] at w
    have h1 : (x.toInt - lo).toNat < offs.size := by omega
    have h2 : offs[(x.toInt - lo).toNat]? = some (offs.getD (x.toInt - lo).toNat 0) := by
      simp [Array.getD, h1]
    have h3 : 0 ≤ (pc : Int) + offs.getD (x.toInt - lo).toNat 0 := by
      refine hok.2.1 _ ?_
      rw [Array.mem_toList_iff]
      exact Array.mem_of_getElem? h2
    exact lv_tableIn C.hx C.hb hd (fun h => hr (Or.inl h)) (fun h => hr (Or.inr h)) h2 (Int.toNat_of_nonneg h3).symm w
theorem g_lsw {dflt : Int} {ps : Array (Int × Int)} {len : Nat} {x : Int32} (hd : decode cc pc = .ok (.lookupswitch dflt ps, len)) (hok : lswOk pc dflt ps = true) (k : G X own nm cc nL ret F L en (lswT pc dflt ps x) lv st σ o) : G X own nm cc nL ret F L en pc lv (iv x :: st) σ o := by
  simp only [lswOk, Bool.and_eq_true, List.all_eq_true, decide_eq_true_eq] at hok
  refine G.pure (fun C H locs kc ks Q ls hl w => ?_) k
  have h3 : 0 ≤ (pc : Int) + Op.lookupswitch.offset ps.toList dflt x.toInt := by
    rcases lsw_in (d := dflt) (x := x.toInt) ps.toList (Or.inr trivial) with h1 | ⟨q, h1, h2⟩
    · rw [h1]; exact hok.1
    · rw [h2]; exact hok.2.1 q h1
  exact lv_lookup C.hx C.hb hd (List.all_eq_true.mpr (fun q hq => by simpa using hok.2.2 q hq)) rfl (Int.toNat_of_nonneg h3).symm w
/-- a case of a switch -/
theorem g_case {T : Int32 → Nat} {x : Int32} {ex : List Int32} {key : Int32} {t : Nat} {rest : List (Int32 × Option (τ × HS))} (hx : ∀ k ∈ ex, ¬ x = k) (hk : T key = t) (k1 : G X own nm cc nL ret F L en t lv st σ o1) (k2 : (∀ k ∈ key :: ex, ¬ x = k) → G X own nm cc nL ret F L en (T x) lv st σ (swx x rest o)) : G X own nm cc nL ret F L en (T x) lv st σ (swx x ((key, o1) :: rest) o) := by
  show G X own nm cc nL ret F L en (T x) lv st σ (if x = key then o1 else swx x rest o)
  by_cases h : x = key
  · rw [if_pos h, h, hk]; exact k1
  · rw [if_neg h]
    exact k2 (fun k hk => by
      rcases List.mem_cons.mp hk with e | e
      · rw [e]; exact h
      · exact hx k e)
theorem g_dflt {T : Int32 → Nat} {x : Int32} {t : Nat} (h : T x = t) (k1 : G X own nm cc nL ret F L en t lv st σ o) : G X own nm cc nL ret F L en (T x) lv st σ (swx x [] o) := by
  rw [h]; exact k1
theorem ex0 {x : Int32} : ∀ k ∈ ([] : List Int32), ¬ x = k := fun k h => by cases h
/-- Object's constructor -/
theorem g_objInit {idx x : Nat} (hl : Cond.methodLink own idx Lib.objectInit ∈ lw_all) (hF : 1 ≤ F) (hL : wt st + 12 ≤ L) (hd : decode cc pc = .ok (.invokespecial idx, 3)) (k : G X own nm cc nL ret F L en (pc + 3) lv st σ o) : G X own nm cc nL ret F L en pc lv (av x :: st) σ (if ¬ x = 0 then o else none) :=
  G.chk fun hx => G.pure (fun C H locs kc ks Q ls hl' w => by
    show WX X H locs kc ks Q (F0 (cxm X) pc ls (rv (cxz X) x :: st.map (vl (cxz X))))
    rw [rv_pos (Nat.one_le_iff_ne_zero.mpr hx)]
    exact W.objInit C.hx C.hb C.ho (C.ht _ hl) (C.ht _ q393) (C.ht _ q394) rfl hl'.1 rfl hd (by rw [C.fr]; exact hF) (by
      have h := wt_map (cxz X) st
      show 2 * 0 + _ + 12 ≤ _
      rw [C.lo, h]; omega) w) k
end Switch
