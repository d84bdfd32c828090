/-! the law's judgement at level V -/
def V.GL (X : CX) (b Ln : Nat) (xs : Nat → Int32) (pc : Nat) (lv : List (Nat × AV)) (st : List AV) (v : HS) (o : Option (Int32 × HS)) : Prop :=
  WF v → (∀ r v', o = some (r, v') → WF v') ∧ Jvm.Pilot.CModuleEngineLaw_law_r1006_a0bf7e.GL X b Ln xs pc lv st (ex v) (exo o)
section VLaw
variable {X : CX} {b Ln : Nat} {xs : Nat → Int32} {pc pc' pc1 pc2 : Nat} {lv lv' : List (Nat × AV)} {st st' : List AV} {σ : V.HS} {o o1 o2 : Option (Int32 × V.HS)}
theorem V.liftL (h : ∀ (σ : HS0) (o : Option (Int32 × HS0)), Jvm.Pilot.CModuleEngineLaw_law_r1006_a0bf7e.GL X b Ln xs pc' lv' st' σ o → Jvm.Pilot.CModuleEngineLaw_law_r1006_a0bf7e.GL X b Ln xs pc lv st σ o) (k : GL X b Ln xs pc' lv' st' σ o) : GL X b Ln xs pc lv st σ o :=
  fun wf => ⟨(k wf).1, h _ _ (k wf).2⟩
theorem V.GL.nul : GL X b Ln xs pc lv st σ none := fun _ => ⟨(fun _ _ h => by cases h), Jvm.Pilot.CModuleEngineLaw_law_r1006_a0bf7e.GL.nul⟩
theorem V.GL.chk {c : Prop} [Decidable c] (k : c → GL X b Ln xs pc lv st σ o) : GL X b Ln xs pc lv st σ (if c then o else none) := by
  by_cases hc : c
  · rw [if_pos hc]; exact k hc
  · rw [if_neg hc]; exact GL.nul
theorem V.liftLC {c : Prop} [Decidable c] (h : ∀ (σ : HS0) (o : Option (Int32 × HS0)), Jvm.Pilot.CModuleEngineLaw_law_r1006_a0bf7e.GL X b Ln xs pc' lv' st' σ o → Jvm.Pilot.CModuleEngineLaw_law_r1006_a0bf7e.GL X b Ln xs pc lv st σ (if c then o else none)) (k : GL X b Ln xs pc' lv' st' σ o) : GL X b Ln xs pc lv st σ (if c then o else none) :=
  GL.chk fun hc wf => ⟨(k wf).1, by have := h _ _ (k wf).2; rw [if_pos hc] at this; exact this⟩
theorem V.liftL2 {c : Prop} [Decidable c] (h : ∀ (σ : HS0) (o1 o2 : Option (Int32 × HS0)), Jvm.Pilot.CModuleEngineLaw_law_r1006_a0bf7e.GL X b Ln xs pc1 lv st' σ o1 → Jvm.Pilot.CModuleEngineLaw_law_r1006_a0bf7e.GL X b Ln xs pc2 lv st' σ o2 → Jvm.Pilot.CModuleEngineLaw_law_r1006_a0bf7e.GL X b Ln xs pc lv st σ (if c then o1 else o2))
    (k1 : GL X b Ln xs pc1 lv st' σ o1) (k2 : GL X b Ln xs pc2 lv st' σ o2) : GL X b Ln xs pc lv st σ (if c then o1 else o2) :=
  fun wf => ⟨fun r v' e => by
    by_cases hc : c
    · rw [if_pos hc] at e; exact (k1 wf).1 r v' e
    · rw [if_neg hc] at e; exact (k2 wf).1 r v' e, by rw [exo_if]; exact h _ _ _ (k1 wf).2 (k2 wf).2⟩
theorem V.GL.sub (ks : List Nat) (hl : ks.filterMap (fun k => lv[k]?) = lv') (k : GL X b Ln xs pc lv' st σ o) : GL X b Ln xs pc lv st σ o := liftL (fun σ o k => Jvm.Pilot.CModuleEngineLaw_law_r1006_a0bf7e.GL.sub ks hl k) k
theorem V.onlyL_G {s0 : HS0} {o : Option (Int32 × HS0)} (h : Jvm.Pilot.CModuleEngineLaw_law_r1006_a0bf7e.GL X b Ln xs pc lv st s0 o) : ∀ s, Jvm.Pilot.CModuleEngineLaw_law_r1006_a0bf7e.GL X b Ln xs pc lv st s (only s0 o s) := by
  intro s
  by_cases e : s = s0
  · subst e; rw [only_at]; exact h
  · rw [only, @if_neg _ (Classical.propDecidable _) e]; exact Jvm.Pilot.CModuleEngineLaw_law_r1006_a0bf7e.GL.nul
theorem V.onlyL2_G {α : Type} {a0 : α} {s0 : HS0} {o : Option (Int32 × HS0)} {sk : α → List AV} (h : Jvm.Pilot.CModuleEngineLaw_law_r1006_a0bf7e.GL X b Ln xs pc lv (sk a0) s0 o) : ∀ a s, Jvm.Pilot.CModuleEngineLaw_law_r1006_a0bf7e.GL X b Ln xs pc lv (sk a) s (only2 a0 s0 o a s) := by
  intro a s
  by_cases e : a = a0 ∧ s = s0
  · obtain ⟨e1, e2⟩ := e
    subst e1 e2; rw [only2_at]; exact h
  · rw [only2, @if_neg _ (Classical.propDecidable _) e]; exact Jvm.Pilot.CModuleEngineLaw_law_r1006_a0bf7e.GL.nul
theorem V.gl_iconst {n : Int} {v : Int32} (hd : decode code pc = .ok (.iconst n, 1)) (hv : Int32.ofInt n = v) (k : GL X b Ln xs (pc + 1) lv (iv v :: st) σ o) : GL X b Ln xs pc lv (st) σ o := liftL (fun σ o k => Jvm.Pilot.CModuleEngineLaw_law_r1006_a0bf7e.gl_iconst hd hv k) k
theorem V.gl_bipush {n : Int} {v : Int32} (hd : decode code pc = .ok (.bipush n, 2)) (hv : (Int8.ofInt n).toInt32 = v) (k : GL X b Ln xs (pc + 2) lv (iv v :: st) σ o) : GL X b Ln xs pc lv (st) σ o := liftL (fun σ o k => Jvm.Pilot.CModuleEngineLaw_law_r1006_a0bf7e.gl_bipush hd hv k) k
theorem V.gl_iload_n {j : Fin 4} {x : Int32} (i q : Nat) (hd : decode code pc = .ok (.iload_n j, 1)) (hi : (j : Nat) = i) (hq : lv[q]? = some (i, iv x)) (k : GL X b Ln xs (pc + 1) lv (iv x :: st) σ o) : GL X b Ln xs pc lv st σ o := liftL (fun σ o k => Jvm.Pilot.CModuleEngineLaw_law_r1006_a0bf7e.gl_iload_n i q hd hi hq k) k
theorem V.gl_aload_n {j : Fin 4} {x : Nat} (i q : Nat) (hd : decode code pc = .ok (.aload_n j, 1)) (hi : (j : Nat) = i) (hq : lv[q]? = some (i, av x)) (k : GL X b Ln xs (pc + 1) lv (av x :: st) σ o) : GL X b Ln xs pc lv st σ o := liftL (fun σ o k => Jvm.Pilot.CModuleEngineLaw_law_r1006_a0bf7e.gl_aload_n i q hd hi hq k) k
theorem V.gl_iadd {x y : Int32} (hd : decode code pc = .ok (.iadd, 1)) (k : GL X b Ln xs (pc + 1) lv (iv (x + y) :: st) σ o) : GL X b Ln xs pc lv (iv y :: iv x :: st) σ o := liftL (fun σ o k => Jvm.Pilot.CModuleEngineLaw_law_r1006_a0bf7e.gl_iadd hd k) k
theorem V.gl_isub {x y : Int32} (hd : decode code pc = .ok (.isub, 1)) (k : GL X b Ln xs (pc + 1) lv (iv (x - y) :: st) σ o) : GL X b Ln xs pc lv (iv y :: iv x :: st) σ o := liftL (fun σ o k => Jvm.Pilot.CModuleEngineLaw_law_r1006_a0bf7e.gl_isub hd k) k
theorem V.gl_iand {x y : Int32} (hd : decode code pc = .ok (.iand, 1)) (k : GL X b Ln xs (pc + 1) lv (iv (x &&& y) :: st) σ o) : GL X b Ln xs pc lv (iv y :: iv x :: st) σ o := liftL (fun σ o k => Jvm.Pilot.CModuleEngineLaw_law_r1006_a0bf7e.gl_iand hd k) k
theorem V.gl_land {x y : Int64} (hd : decode code pc = .ok (.land, 1)) (k : GL X b Ln xs (pc + 1) lv (jv (x &&& y) :: st) σ o) : GL X b Ln xs pc lv (jv y :: jv x :: st) σ o := liftL (fun σ o k => Jvm.Pilot.CModuleEngineLaw_law_r1006_a0bf7e.gl_land hd k) k
theorem V.gl_lor {x y : Int64} (hd : decode code pc = .ok (.lor, 1)) (k : GL X b Ln xs (pc + 1) lv (jv (x ||| y) :: st) σ o) : GL X b Ln xs pc lv (jv y :: jv x :: st) σ o := liftL (fun σ o k => Jvm.Pilot.CModuleEngineLaw_law_r1006_a0bf7e.gl_lor hd k) k
theorem V.gl_lshl {x : Int64} {y : Int32} (hd : decode code pc = .ok (.lshl, 1)) (k : GL X b Ln xs (pc + 1) lv (jv (lshl x y) :: st) σ o) : GL X b Ln xs pc lv (iv y :: jv x :: st) σ o := liftL (fun σ o k => Jvm.Pilot.CModuleEngineLaw_law_r1006_a0bf7e.gl_lshl hd k) k
theorem V.gl_i2l {x : Int32} (hd : decode code pc = .ok (.i2l, 1)) (k : GL X b Ln xs (pc + 1) lv (jv x.toInt64 :: st) σ o) : GL X b Ln xs pc lv (iv x :: st) σ o := liftL (fun σ o k => Jvm.Pilot.CModuleEngineLaw_law_r1006_a0bf7e.gl_i2l hd k) k
theorem V.gl_dup {a : AV} (hd : decode code pc = .ok (.dup, 1)) (h : isJ a = false) (k : GL X b Ln xs (pc + 1) lv (a :: a :: st) σ o) : GL X b Ln xs pc lv (a :: st) σ o := liftL (fun σ o k => Jvm.Pilot.CModuleEngineLaw_law_r1006_a0bf7e.gl_dup hd h k) k
theorem V.gl_goto {off : Int} (tgt : Nat) (hd : decode code pc = .ok (.goto off, 3)) (ht : (pc : Int) + off = (tgt : Int)) (k : GL X b Ln xs tgt lv st σ o) : GL X b Ln xs pc lv st σ o := liftL (fun σ o k => Jvm.Pilot.CModuleEngineLaw_law_r1006_a0bf7e.gl_goto tgt hd ht k) k
theorem V.gl_ldc2 {idx : Nat} {v : Int64} (hw : Cond.constantLong R_law idx v ∈ lw_all) (hd : decode code pc = .ok (.ldc2_w idx, 3)) (kk : GL X b Ln xs (pc + 3) lv (jv v :: st) σ o) : GL X b Ln xs pc lv st σ o := liftL (fun σ o kk => Jvm.Pilot.CModuleEngineLaw_law_r1006_a0bf7e.gl_ldc2 hw hd kk) kk
theorem V.gl_tsw {dflt lo hi : Int} {offs : Array Int} {len : Nat} {x : Int32} (hd : decode code pc = .ok (.tableswitch dflt lo hi offs, len)) (hok : tswOk pc dflt lo hi offs = true) (k : GL X b Ln xs (tswT pc dflt lo hi offs x) lv st σ o) : GL X b Ln xs pc lv (iv x :: st) σ o := liftL (fun σ o k => Jvm.Pilot.CModuleEngineLaw_law_r1006_a0bf7e.gl_tsw hd hok k) k
theorem V.gl_slen {j : Fin 4} (hd : decode code pc = .ok (.aload_n j, 1)) (hj : (j : Nat) = 0) (hd2 : decode code (pc + 1) = .ok (.arraylength, 1)) (k : GL X b Ln xs (pc + 2) lv (iv (Int32.ofNat Ln) :: st) σ o) : GL X b Ln xs pc lv st σ o := liftL (fun σ o k => Jvm.Pilot.CModuleEngineLaw_law_r1006_a0bf7e.gl_slen hd hj hd2 k) k
theorem V.gl_stI {x : Int32} {j : Fin 4} (i : Nat) (hd : decode code pc = .ok (.istore_n j, 1)) (hi : (j : Nat) = i) (hi0 : ¬ i = 0) (hn : i < 4) (hl' : st1 i (iv x) lv = lv') (k : GL X b Ln xs (pc + 1) lv' st σ o) : GL X b Ln xs pc lv (iv x :: st) σ o := liftL (fun σ o k => Jvm.Pilot.CModuleEngineLaw_law_r1006_a0bf7e.gl_stI i hd hi hi0 hn hl' k) k
theorem V.gl_stA {x : Nat} {j : Fin 4} (i : Nat) (hd : decode code pc = .ok (.astore_n j, 1)) (hi : (j : Nat) = i) (hi0 : ¬ i = 0) (hn : i < 4) (hl' : st1 i (av x) lv = lv') (k : GL X b Ln xs (pc + 1) lv' st σ o) : GL X b Ln xs pc lv (av x :: st) σ o := liftL (fun σ o k => Jvm.Pilot.CModuleEngineLaw_law_r1006_a0bf7e.gl_stA i hd hi hi0 hn hl' k) k
theorem V.gl_sld {j j2 : Fin 4} {i : Int32} (q : Nat) (hd : decode code pc = .ok (.aload_n j, 1)) (hj : (j : Nat) = 0) (hd2 : decode code (pc + 1) = .ok (.iload_n j2, 1)) (hj2 : (j2 : Nat) = 3) (hq : lv[q]? = some (3, iv i)) (hd3 : decode code (pc + 2) = .ok (.iaload, 1)) (k : GL X b Ln xs (pc + 3) lv (iv (xs (ix i)) :: st) σ o) : GL X b Ln xs pc lv st σ (if inb i Ln then o else none) := liftLC (fun σ o k => Jvm.Pilot.CModuleEngineLaw_law_r1006_a0bf7e.gl_sld q hd hj hd2 hj2 hq hd3 k) k
theorem V.gl_sldk {j j2 : Fin 4} {i v : Int32} {n : Int} (q : Nat) (hd : decode code pc = .ok (.aload_n j, 1)) (hj : (j : Nat) = 0) (hd2 : decode code (pc + 1) = .ok (.iload_n j2, 1)) (hj2 : (j2 : Nat) = 3) (hq : lv[q]? = some (3, iv i)) (hd3 : decode code (pc + 2) = .ok (.iconst n, 1)) (hv : Int32.ofInt n = v) (hd4 : decode code (pc + 3) = .ok (.iadd, 1)) (hd5 : decode code (pc + 4) = .ok (.iaload, 1)) (k : GL X b Ln xs (pc + 5) lv (iv (xs (ix (i + v))) :: st) σ o) : GL X b Ln xs pc lv st σ (if inb (i + v) Ln then o else none) := liftLC (fun σ o k => Jvm.Pilot.CModuleEngineLaw_law_r1006_a0bf7e.gl_sldk q hd hj hd2 hj2 hq hd3 hv hd4 hd5 k) k
theorem V.gl_icmp_eq {x y : Int32} {off : Int} (tgt : Nat) (hd : decode code pc = .ok (.if_icmp .eq off, 3)) (ht : (pc : Int) + off = (tgt : Int)) (k1 : GL X b Ln xs tgt lv st σ o1) (k2 : GL X b Ln xs (pc + 3) lv st σ o2) : GL X b Ln xs pc lv (iv y :: iv x :: st) σ (if x = y then o1 else o2) := liftL2 (fun σ o1 o2 k1 k2 => Jvm.Pilot.CModuleEngineLaw_law_r1006_a0bf7e.gl_icmp_eq tgt hd ht k1 k2) k1 k2
theorem V.gl_icmp_gt {x y : Int32} {off : Int} (tgt : Nat) (hd : decode code pc = .ok (.if_icmp .gt off, 3)) (ht : (pc : Int) + off = (tgt : Int)) (k1 : GL X b Ln xs tgt lv st σ o1) (k2 : GL X b Ln xs (pc + 3) lv st σ o2) : GL X b Ln xs pc lv (iv y :: iv x :: st) σ (if y < x then o1 else o2) := liftL2 (fun σ o1 o2 k1 k2 => Jvm.Pilot.CModuleEngineLaw_law_r1006_a0bf7e.gl_icmp_gt tgt hd ht k1 k2) k1 k2
theorem V.gl_lcmp_eq {x y : Int64} {off : Int} (tgt : Nat) (hd : decode code pc = .ok (.lcmp, 1)) (hd2 : decode code (pc + 1) = .ok (.ifCond .eq off, 3)) (ht : ((pc + 1 : Nat) : Int) + off = (tgt : Int)) (k1 : GL X b Ln xs tgt lv st σ o1) (k2 : GL X b Ln xs (pc + 4) lv st σ o2) : GL X b Ln xs pc lv (jv y :: jv x :: st) σ (if x = y then o1 else o2) := liftL2 (fun σ o1 o2 k1 k2 => Jvm.Pilot.CModuleEngineLaw_law_r1006_a0bf7e.gl_lcmp_eq tgt hd hd2 ht k1 k2) k1 k2
theorem V.gl_nmI {e : Int32} {f : Int32 → Option (Int32 × HS)} (k : ∀ v, GL X b Ln xs pc lv (iv v :: st) σ (f v)) : GL X b Ln xs pc lv (iv e :: st) σ (bn e f) := k e
theorem V.gl_nmJ {e : Int64} {f : Int64 → Option (Int32 × HS)} (k : ∀ v, GL X b Ln xs pc lv (jv v :: st) σ (f v)) : GL X b Ln xs pc lv (jv e :: st) σ (bn e f) := k e
theorem V.gl_nmA {e : Nat} {f : Nat → Option (Int32 × HS)} (k : ∀ v, GL X b Ln xs pc lv (av v :: st) σ (f v)) : GL X b Ln xs pc lv (av e :: st) σ (bn e f) := k e
theorem V.gl_iincB {i : Nat} {n : Int} {x w : Int32} {lv' : Int32 → List (Nat × AV)} {f : Int32 → Option (Int32 × HS)} (q : Nat) (hd : decode code pc = .ok (.iinc i n, 3)) (hi0 : ¬ i = 0) (hq : lv[q]? = some (i, iv x)) (hw : Int32.ofInt n = w) (hn : i < 4) (hl' : ∀ v, st1 i (iv v) lv = lv' v) (k : ∀ v, GL X b Ln xs (pc + 3) (lv' v) st σ (f v)) : GL X b Ln xs pc lv st σ (bn (x + w) f) := fun wf => ⟨(k (x + w) wf).1, Jvm.Pilot.CModuleEngineLaw_law_r1006_a0bf7e.gl_iincB (f := fun v => exo (f v)) q hd hi0 hq hw hn hl' (fun v => (k v wf).2)⟩
theorem V.gl_case {T : Int32 → Nat} {x : Int32} {ex : List Int32} {key : Int32} {t : Nat} {rest : List (Int32 × Option (Int32 × HS))} (hx : ∀ k ∈ ex, ¬ x = k) (hk : T key = t) (k1 : GL X b Ln xs t lv st σ o1) (k2 : (∀ k ∈ key :: ex, ¬ x = k) → GL X b Ln xs (T x) lv st σ (swx x rest o)) : GL X b Ln xs (T x) lv st σ (swx x ((key, o1) :: rest) o) := by
  show GL X b Ln xs (T x) lv st σ (if x = key then o1 else swx x rest o)
  by_cases h : x = key
  · rw [if_pos h, h, hk]; exact k1
  · rw [if_neg h]
    exact k2 (fun k hk => by
      rcases List.mem_cons.mp hk with e | e
      · rw [e]; exact h
      · exact hx k e)
theorem V.gl_dflt {T : Int32 → Nat} {x : Int32} {t : Nat} (h : T x = t) (k1 : GL X b Ln xs t lv st σ o) : GL X b Ln xs (T x) lv st σ (swx x [] o) := by
  rw [h]; exact k1
theorem V.gl_ret1 {x : Int32} (hd : decode code pc = .ok (.ireturn, 1)) : GL X b Ln xs pc lv [iv x] σ (some (x, σ)) := fun wf => ⟨fun r v' e => by cases e; exact wf, Jvm.Pilot.CModuleEngineLaw_law_r1006_a0bf7e.gl_ret1 hd⟩
theorem V.gl_ret0 {x : Int32} : GL X b Ln xs pc lv [iv x] σ (if x = 1 then none else some (x, σ)) := fun wf => by
  have h := Jvm.Pilot.CModuleEngineLaw_law_r1006_a0bf7e.gl_ret0 (X := X) (b := b) (Ln := Ln) (xs := xs) (pc := pc) (lv := lv) (σ := ex σ) (x := x)
  by_cases hx : x = 1
  · rw [if_pos hx] at h ⊢
    exact ⟨(fun _ _ h => by cases h), h⟩
  · rw [if_neg hx] at h ⊢
    exact ⟨fun r v' e => by cases e; exact wf, h⟩
theorem V.gl_newo {idx ci n : Nat} {k : Nat → HS → Option (Int32 × HS)} (hn : ND R_law idx ci n) (hd : decode code pc = .ok (.new idx, 3)) (kk : ∀ (x : Nat) (σ1 : HS), GL X b Ln xs (pc + 3) lv (av x :: st) σ1 (k x σ1)) (h3 : ci ≠ 3 := by decide) : GL X b Ln xs pc lv st σ (newo σ (ci + 1) n k) := fun wf => by
  have e := ex_nw wf (t := ci + 1) (n := 0) (s := n) (by omega) (by omega)
  have k1 := kk (cnt σ + 1) (nw σ (ci + 1) 0 n) (wf.nw (by omega))
  have h := Jvm.Pilot.CModuleEngineLaw_law_r1006_a0bf7e.gl_newo (σ := ex σ) (k := only2 (cnt σ + 1) (Jvm.Pilot.CModuleEngineLaw_law_r1006_a0bf7e.nw (ex σ) (ci + 1) 0 n) (exo (k (cnt σ + 1) (nw σ (ci + 1) 0 n)))) hn hd (onlyL2_G (sk := fun x => av x :: st) (by rw [← e]; exact k1.2))
  refine ⟨k1.1, ?_⟩
  have e2 : Jvm.Pilot.CModuleEngineLaw_law_r1006_a0bf7e.newo (ex σ) (ci + 1) n (only2 (cnt σ + 1) (Jvm.Pilot.CModuleEngineLaw_law_r1006_a0bf7e.nw (ex σ) (ci + 1) 0 n) (exo (k (cnt σ + 1) (nw σ (ci + 1) 0 n)))) = exo (newo σ (ci + 1) n k) := only2_at _ _ _
  rw [e2] at h
  exact h
end VLaw
section VLawCalls
variable {X : CX} {b Ln : Nat} {xs : Nat → Int32} {pc : Nat} {lv : List (Nat × AV)} {st : List AV} {σ : V.HS}
  {idx ci n : Nat} {y : MethodName} {hh : List (Nat × Nat × Nat × Nat)} {bytes : ByteArray} {maxL Fc Lc : Nat} {rt : Option FieldType} {τc : Type} {enc : Nat → τc → Outcome} {push : τc → List AV → List AV} {x : Nat} {as : List AV}
theorem V.gl_callV {fc : HS → Option (τc × HS)} {k : τc → HS → Option (Int32 × HS)} {q : vw_C} {ty : Nat → FieldType} (hq : CL[ci]? = some q) (hct : CT[ci]? = some ty) (hyc : y.cls = q.1) (hin : Cond.instanceMethod y ∈ lw_all) (hse : Cond.selects q.1 y y ∈ lw_all) (hm : MD R_law idx y bytes maxL rt n) (hC : Ct y bytes maxL rt Fc Lc enc (av x :: as) fc) (hn : as.length = n) (hw8 : wt st ≤ 8) (hF : Fc + 1 ≤ 23) (hL : 8 + (maxL + 11) + Lc ≤ 1032) (hp : Pu enc push) (hd : decode code pc = .ok (.invokevirtual idx, 3))
    (kk : ∀ (r : τc) (σ1 : HS), GL X b Ln xs (pc + 3) lv (push r st) σ1 (k r σ1)) : GL X b Ln xs pc lv (rvs as (av x :: st)) σ (if tg σ x = ci + 1 then cl (fc σ) k else none) := GL.chk fun ht wf => by
  have hC' := hC X σ wf
  cases hf : fc σ with
  | none => exact ⟨(fun _ _ h => by cases h), Jvm.Pilot.CModuleEngineLaw_law_r1006_a0bf7e.GL.nul⟩
  | some w =>
    obtain ⟨r1, v1⟩ := w
    have k1 := kk r1 v1 (hC'.1 r1 v1 hf)
    have h := Jvm.Pilot.CModuleEngineLaw_law_r1006_a0bf7e.gl_callV (σ := ex σ) (x := x) (k := only2 r1 (ex v1) (exo (k r1 v1))) hq hct hyc hin hse hm hC'.2 hn hw8 hF hL hp hd (onlyL2_G (sk := fun r => push r st) k1.2)
    rw [ex_tg (by omega), if_pos ht] at h
    rw [only_at, hf] at h
    have e2 : Jvm.Pilot.CModuleEngineLaw_law_r1006_a0bf7e.cl (exo (some (r1, v1))) (only2 r1 (ex v1) (exo (k r1 v1))) = exo (k r1 v1) := only2_at _ _ _
    rw [e2] at h
    exact ⟨k1.1, h⟩
theorem V.gl_callI {fc : HS → Option (τc × HS)} {k : τc → HS → Option (Int32 × HS)} (hyn : y.name = "<init>") (hin : Cond.instanceMethod y ∈ lw_all) (hm : MD R_law idx y bytes maxL none n) (hC : Ct y bytes maxL none Fc Lc enc (av x :: as) fc) (hn : as.length = n) (hw8 : wt st ≤ 8) (hF : Fc + 1 ≤ 23) (hL : 8 + (maxL + 11) + Lc ≤ 1032) (hp : Pu enc push) (hd : decode code pc = .ok (.invokespecial idx, 3))
    (kk : ∀ (r : τc) (σ1 : HS), GL X b Ln xs (pc + 3) lv (push r st) σ1 (k r σ1)) : GL X b Ln xs pc lv (rvs as (av x :: st)) σ (if ¬ x = 0 then cl (fc σ) k else none) := GL.chk fun ht wf => by
  have hC' := hC X σ wf
  cases hf : fc σ with
  | none => exact ⟨(fun _ _ h => by cases h), Jvm.Pilot.CModuleEngineLaw_law_r1006_a0bf7e.GL.nul⟩
  | some w =>
    obtain ⟨r1, v1⟩ := w
    have k1 := kk r1 v1 (hC'.1 r1 v1 hf)
    have h := Jvm.Pilot.CModuleEngineLaw_law_r1006_a0bf7e.gl_callI (σ := ex σ) (x := x) (k := only2 r1 (ex v1) (exo (k r1 v1))) hyn hin hm hC'.2 hn hw8 hF hL hp hd (onlyL2_G (sk := fun r => push r st) k1.2)
    rw [if_pos ht] at h
    rw [only_at, hf] at h
    have e2 : Jvm.Pilot.CModuleEngineLaw_law_r1006_a0bf7e.cl (exo (some (r1, v1))) (only2 r1 (ex v1) (exo (k r1 v1))) = exo (k r1 v1) := only2_at _ _ _
    rw [e2] at h
    exact ⟨k1.1, h⟩
theorem V.gl_callVW {fc : HS → Option (τc × HS)} {k : τc → HS → Option (Int32 × HS)}   {q : vw_C} {ty : Nat → FieldType} (hq : CL[ci]? = some q) (hct : CT[ci]? = some ty) (hin : Cond.instanceMethod y ∈ lw_all) (hse : Cond.selects q.1 y y ∈ lw_all) (hm : MDW R_law idx y bytes maxL rt hh n) (hC : CtW y hh bytes maxL rt Fc Lc enc (av x :: as) fc) (hn : as.length = n) (hw8 : wt st ≤ 8) (hF : Fc + 1 ≤ 23) (hL : 8 + (maxL + 11) + Lc ≤ 1032) (hp : Pu enc push) (hd : decode code pc = .ok (.invokevirtual idx, 3))
    (kk : ∀ (r : τc) (σ1 : HS), GL X b Ln xs (pc + 3) lv (push r st) σ1 (k r σ1)) : GL X b Ln xs pc lv (rvs as (av x :: st)) σ (if tg σ x = ci + 1 then cl (fc σ) k else none) := GL.chk fun ht wf => by
  have hC' := hC X σ wf
  cases hf : fc σ with
  | none => exact ⟨(fun _ _ h => by cases h), Jvm.Pilot.CModuleEngineLaw_law_r1006_a0bf7e.GL.nul⟩
  | some w =>
    obtain ⟨r1, v1⟩ := w
    have k1 := kk r1 v1 (hC'.1 r1 v1 hf)
    have h := Jvm.Pilot.CModuleEngineLaw_law_r1006_a0bf7e.gl_callVW (σ := ex σ) (x := x) (k := only2 r1 (ex v1) (exo (k r1 v1))) hq hct hin hse hm hC'.2 hn hw8 hF hL hp hd (onlyL2_G (sk := fun r => push r st) k1.2)
    rw [ex_tg (by omega), if_pos ht] at h
    rw [only_at, hf] at h
    have e2 : Jvm.Pilot.CModuleEngineLaw_law_r1006_a0bf7e.cl (exo (some (r1, v1))) (only2 r1 (ex v1) (exo (k r1 v1))) = exo (k r1 v1) := only2_at _ _ _
    rw [e2] at h
    exact ⟨k1.1, h⟩
end VLawCalls
